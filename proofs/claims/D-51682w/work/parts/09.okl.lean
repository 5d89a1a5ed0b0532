/-! calls that go past the contracts by name: the callee's frame entered by hand -/
set_option maxRecDepth 100000
section OKL
theorem xthru {p : Program} {l : Launch} {e : Env} {R R' : Room} {s : State} {m : MethodId} {args : Array Value} {below : List Frame} {meth : Method} {c : Code} {U : State} {locs : List Loc} {cells slots : Nat}
    (X : Stand p l e R s m args below meth c U locs cells slots) {g : JFrame} (hg : g.method = m) (hsize : g.locals.size = c.maxLocals) {ig : Instr} {len : Nat} (hdg : decode c.code g.pc = .ok (ig, len))
    {mk : MethodId} {methk : Method} {ck : Code} (a : Array Value) (hmk : U.vm.method? mk = some methk) (hck : methk.code = some ck) (hlk : methk.locks = false) (hpk : U.plainMethod mk)
    (hframes : R'.frames + 1 ≤ R.frames) (hlocals : 2 * g.monitorRoom + (g.stack.map fun v => v.category).sum + (ck.maxLocals + 11) + R'.locals ≤ R.locals) (hcells : cells + R'.cells ≤ R.cells) (hslots : slots + R'.slots ≤ R.slots)
    {Qc : Array Value → State → Outcome → State → Prop} {XC : Addr → String → State → State → Prop} {mc ms : Nat} {free : Addr → Prop}
    (body : W p l e R' (U.calling g mk a) mk a (.java g :: below) methk ck U.heap [] 0 0 (vx_MQ (.java g :: below) Qc XC a (U.calling g mk a) mc ms free) (entryFrame mk a ck.maxLocals)) :
    (∃ (v : Option Value) (B : Pt), Stand p l e R s m args below meth c B.U B.locs B.cells B.slots ∧ PostOf Qc mc ms free ⟨U, locs, cells, slots⟩ a v B ∧ Steps p.tables e below (doInvoke e (U.setTop g) [] mk a).1 (B.U.setTop { g with pc := g.pc + len, stack := v.toList ++ g.stack })) ∨
    (∃ (q : Addr) (B : Pt), Stand p l e R s m args below meth c B.U B.locs B.cells B.slots ∧ vx_Post XC mc ms free ⟨U, locs, cells, slots⟩ a q B ∧ Steps p.tables e below (doInvoke e (U.setTop g) [] mk a).1 ((B.U.setTop g).pushFrame (.throwing q))) := by
  obtain ⟨Y₀, hin⟩ := X.into hg hsize hdg a (R' := R') hmk hck hlk hpk hframes hlocals hcells hslots
  obtain ⟨s₂, st, o, hrun, hend, hq⟩ := body ((U.setTop g).pushFrame (.java (entryFrame mk a ck.maxLocals))) rfl Y₀
  have hsteps : Steps p.tables e below (doInvoke e (U.setTop g) [] mk a).1 s₂ := by
    rw [hin []]
    exact Steps.weaken (mid := [.java g]) st
  have htop := X.here.top
  obtain ⟨g₀, hg0⟩ := Option.isSome_iff_exists.mp htop
  obtain ⟨r, hr⟩ := State.topJava?_eq_some.mp hg0
  have hr' : (({ U with heap := s₂.heap, slotsUsed := s₂.slotsUsed } : State).setVm s₂.vm).frames = .java g₀ :: r := hr
  have htl : r = below := by
    have := X.tail
    rw [hr] at this
    exact this
  rcases hq with ⟨hqc, L, hfe, hL⟩ | ⟨q, rfl, E, ce, L, hx, hce, hcv, hcl, hW₂, hsm, hL⟩
  · obtain ⟨⟨v, rfl⟩, hW₂, hsm⟩ := hfe
    obtain ⟨T', X', hW', -, ht⟩ := X.outOf hg hdg hend hW₂ hsm
    have hh : T'.heap = s₂.heap := (congrArg State.heap ht).symm
    have hv : T'.vm = s₂.vm := (congrArg State.vm ht).symm
    refine Or.inl ⟨v, ⟨T', locs ++ L, cells + mc, slots + ms⟩, X', ⟨g, mk, s₂, L, hh, hv, hqc, rfl, hL, rfl, rfl⟩, ?_⟩
    show Steps p.tables e below _ (T'.setTop { g with pc := g.pc + len, stack := v.toList ++ g.stack })
    rw [← ht]
    exact hsteps
  · obtain ⟨e2, q2, q3, q4, q5, q6⟩ := id hsm
    have e3 : s₂ = ({ (U.calling g mk a).setFrames s₂.frames with heap := s₂.heap, slotsUsed := s₂.slotsUsed } : State).setVm s₂.vm := by
      have : s₂ = ({ s₂ with vm := (U.calling g mk a).vm } : State).setVm s₂.vm := rfl
      rw [e2] at this
      exact this
    have hf₂ : s₂.frames = .throwing q :: .java g :: below := hend
    have hW' : U.WarmedH s₂.vm := hW₂
    have hs₂ : s₂ = ((({ U with heap := s₂.heap, slotsUsed := s₂.slotsUsed } : State).setVm s₂.vm).setTop g).pushFrame (.throwing q) := by
      refine e3.trans ?_
      rw [hf₂, State.calling_eq htop, State.setFrames_setFrames, State.pushFrame, State.frames_setTop _ hr', State.setTop_of_frames _ hr', State.setFrames_setFrames, htl]
      rfl
    have hsame : U.sameButNew ({ U with heap := s₂.heap, slotsUsed := s₂.slotsUsed } : State) L mc ms := by
      refine ⟨?_, q2, q3, q4, q5, q6⟩
      obtain ⟨t, ht, -⟩ := State.frames_cons hr
      show ({ U with heap := s₂.heap, slotsUsed := s₂.slotsUsed } : State) = { U.setFrames U.frames with heap := s₂.heap, slotsUsed := s₂.slotsUsed }
      rw [State.setFrames_self ht]
    subst hg
    refine Or.inr ⟨q, ⟨(({ U with heap := s₂.heap, slotsUsed := s₂.slotsUsed } : State).setVm s₂.vm), locs ++ L, cells + mc, slots + ms⟩,
      ⟨X.admits, X.cas, X.clock, X.frames, X.room, X.hears, X.method, X.code, (X.here.setHeapUsed s₂.heap s₂.slotsUsed).setVm hW'.alike, X.tail, State.WarmedH.trans X.warmed hW', X.limits, X.bytes, X.same.trans (hsame.setVm s.vm)⟩,
      ⟨g, mk, s₂, L, E, ce, rfl, rfl, hx, hce, hcv, hcl, rfl, hL, rfl, rfl⟩, ?_⟩
    show Steps p.tables e below _ (((({ U with heap := s₂.heap, slotsUsed := s₂.slotsUsed } : State).setVm s₂.vm).setTop g).pushFrame (.throwing q))
    rw [← hs₂]
    exact hsteps
/-- a constant by the receiver's code: the method that each of them has, entered by hand -/
theorem ok_kcon {z : XKT} {own : String} {cc : ByteArray} {nL : Nat} {ini : String × String} {pc : Nat} {index : Nat} {tg : List (Nat × Int32)} {x : MethodName} (d : decode cc pc = .ok (.invokevirtual index, 3)) (h1 : Cond.methodLink own index x ∈ lw_all) (hs : Cond.sameMethod x.cls x.cls x.name x.desc ∈ lw_all) (hdec : Cond.declares x ∈ lw_tbl) (ho : x.cls ≠ "java/lang/invoke/MethodHandle" ∧ x.cls ≠ "java/lang/invoke/VarHandle") (hdn : (parseMethodDescriptor x.desc).map (fun d => d.parameters.length) = some 0)
    (h : ∀ e ∈ tg, e.1 ≠ 0 ∧ e.1 < 1000 ∧ ∃ (C : String) (y : MethodName) (b : ByteArray) (n : Int), (e.1, C) ∈ xKds ∧ Cond.instanceMethod y ∈ lw_all ∧ Cond.code y b 1 (some .int) ∈ lw_all ∧ Cond.selects C x y ∈ lw_all ∧ plainFor y = true ∧ decode b 0 = .ok (.bipush n, 2) ∧ decode b 2 = .ok (.ireturn, 1) ∧ (Int8.ofInt n).toInt32 = e.2) : XOkS z own cc nL ini pc (i_kcon tg (pc + 3)) := by
  have spec : ∀ {al : XL} {st : XS} {t : XSt} {q : Nat × XL × XS × XSt}, i_kcon tg (pc + 3) al st t = some q → ∃ a r, st = vR (some a) :: r ∧ xwd r ≤ 8 ∧ xcl t a ∈ tg.map (fun q => q.1) ∧ q = (pc + 3, al, vI (xkf tg (xcl t a)) :: r, t) := by
    intro al st t q hf
    unfold i_kcon at hf
    split at hf
    · rename_i a r
      split at hf
      · rename_i hw
        split at hf
        · rename_i hc
          cases hf
          exact ⟨a, r, rfl, hw, hc, rfl⟩
        · cases hf
      · cases hf
    · cases hf
  refine ⟨fun hf => ?_, fun {p l e R s m args below meth c H locs cells slots Q ls al st t q} hE hf hR hS hL g1 g2 hfr hlo k => ?_⟩
  · obtain ⟨a, r, -, -, -, rfl⟩ := spec hf
    exact ⟨Nat.le_refl _, Nat.le_refl _⟩
  obtain ⟨a, r, rfl, hw, hmem, rfl⟩ := spec hf
  have k2 := k H ls [] hR hS hL (fun _ q => absurd q List.not_mem_nil)
  dsimp only at k2 g1 g2
  rw [Nat.sub_self, Nat.sub_self, Nat.add_zero, Nat.add_zero, List.append_nil] at k2
  rw [Nat.sub_self, Nat.add_zero] at g1 g2
  obtain ⟨h0, h10, C, y, b, n, hC, hi, hcode, hsel, hpl, d0, d2, hn⟩ := h _ (xkf_at hmem)
  dsimp only at h0 h10 hC hn
  obtain ⟨⟨cellB, hcB, hoB, hclB⟩, -⟩ := xrecv2 (C := C) hE.2.2.2.2.2.1 hR (rfl : xcl t a = xcl t a) ⟨h0, h10, Or.inr hC⟩
  have hts := hE.2.2.2.2.1
  obtain ⟨r0, rr, hnr, hrm, hstR, hsigR⟩ := Cond.declares_spec (args := args) (va_Nw.use rfl (hE.2.2.2.2.2.1.2.2.1 _ hdec rfl))
  obtain ⟨cn, ck, r1, hcn, hck, hni, hfo, hn1⟩ := Cond.sameMethod_found (hts _ hs)
  cases hnr.symm.trans hn1
  obtain ⟨mk, methM, hnamed, hmethM, -, habM⟩ := Cond.instanceMethod_spec (hts _ hi)
  obtain ⟨methM', cM, hmethM', hcM, hbM, hlM, hretM, hlkM, -, -⟩ := Cond.code_spec hnamed (hts _ hcode)
  cases hmethM.symm.trans hmethM'
  obtain ⟨c2, r2, m2, q1, q2, q3, q4, kP, hkP, hkPi⟩ := Cond.selects_spec (hts _ hsel)
  cases hclB.symm.trans q1
  cases hfo.symm.trans q2
  cases hnamed.symm.trans q3
  intro T hT X
  have hselP : selectMethod e.platform s.vm cellB.cls r0 = .method mk := by rw [Launch.admits_selectMethod X.admits]; exact q4
  obtain ⟨vm₁, X₁, hstep₁⟩ := X.invokevirtualUp hE.1 (owner := x.cls) hE.2.2.2.1 (hts _ h1) (hts _ hs) ho hnr hrm hstR (a := a) (cell := cellB) (by rw [hT]; exact hcB)
    (fun z h => by rw [h] at hoB; cases hoB) hselP hmethM habM hkP hkPi (g := F0 m pc ls (.ref a :: vcs r)) rfl (argsL := []) (rest := vcs r) (by rw [hsigR] at hdn; exact (Option.some.inj hdn).symm) rfl (by rw [hE.2.1]; exact d)
  have hm1 : (T.setVm vm₁).vm.method? mk = some methM := by rw [X₁.warmed.alike.method?]; exact hmethM
  rcases xthru (R' := { frames := 1, locals := 20, cells := 0, slots := 0 }) (g := F0 m pc ls (vcs r)) X₁ rfl (by rw [hE.2.2.1]; exact hL.1) (ig := .invokevirtual index) (len := 3) (by rw [hE.2.1]; exact d) (#[.ref a]) (mk := mk) (methk := methM) (ck := cM)
    hm1 hcM hlkM (State.plainMethod.of_named hpl (X₁.named hnamed) hm1) (by show 1 + 1 ≤ R.frames; omega) (by rw [hlM]; show 2 * 0 + ((vcs r).map fun v => v.category).sum + (1 + 11) + 20 ≤ R.locals; rw [vcs_sum]; omega) (by show cells + 0 ≤ R.cells; omega) (by show slots + 0 ≤ R.slots; omega)
    (Qc := fun _ st o U => o = .returned (some (.int (xkf tg (xcl t a)))) ∧ U.heap = st.heap) (XC := fun _ _ _ _ => False) (mc := 0) (ms := 0) (free := fun _ => False)
    (by
      rw [hlM]
      refine lv_bipush (cc := b) (pc := 0) (rest := []) (ls := #[.val (.ref a)]) (m := mk) hE.1 hbM d0 hn ?_
      exact vx_ret (W.iret (cc := b) hE.1 hbM hretM (fun U hU _ => ⟨rfl, hU⟩) (fun _ q => absurd q List.not_mem_nil) d2 hlkM)) with ⟨v, ⟨U', l2, c2', s2'⟩, X', ⟨g', mk', t9, L, e1, e2, ⟨ho9, hh⟩, w1, hL9, w2, w3⟩, st9⟩ | ⟨q9, B, X', ⟨_, _, _, _, _, _, _, _, hx, _⟩, _⟩
  · dsimp only [Pt.U, Pt.locs, Pt.cells, Pt.slots] at X' e1 e2 w1 w2 w3 st9
    subst w1; subst w2; subst w3
    cases L with
    | cons y r9 => exact (hL9 y List.mem_cons_self).elim
    | nil =>
      rw [List.append_nil] at X'
      cases ho9
      have hU : U'.heap = H := e1.trans (hh.trans hT)
      obtain ⟨tt, a1, b1⟩ := k2 U' hU X'
      exact ⟨tt, hstep₁ _ (fun acts => by rw [doInvoke_state]; exact st9.trans a1), b1⟩
  · exact hx.elim
end OKL
