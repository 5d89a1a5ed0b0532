/-! what the printed tables use: a method out of its rows -/
set_option maxRecDepth 100000
section ADC
variable {z : XKT} {I : List XInf} {q : XInf} {pc : Nat}
def XAll (z : XKT) (I : List XInf) (q : XInf) : List (Nat × XI) → Prop
  | [] => True
  | e :: r => XOi z I q e.1 e.2 ∧ XAll z I q r
theorem XAll.at : ∀ {T : List (Nat × XI)}, XAll z I q T → ∀ {pc : Nat} {i : XI}, xfind pc T = some i → XOi z I q pc i
  | [], _, _, _, e => by cases e
  | x :: r, h, pc, i, e => by
    obtain ⟨x1, x2⟩ := x
    have e' : cond (Nat.beq x1 pc) (some x2) (xfind pc r) = some i := e
    cases hb : Nat.beq x1 pc with
    | true =>
      rw [hb] at e'
      cases e'
      rw [← Nat.eq_of_beq_eq_true hb]
      exact h.1
    | false =>
      rw [hb] at e'
      exact XAll.at h.2 e'
theorem XMi.mk9 {T : List (Nat × XI)} (hT : xTab z q.1 = T) (h : XAll z I q T) (hh : XHd z q) (h1 : xNL q.1 = q.2.2.2.1) (h2 : Nat.ble q.2.2.2.1 100 = true) (h3 : plainFor q.2.1 = true) : XMi z I q :=
  ⟨fun pc i e => h.at (by rw [← hT]; exact e), hh, h1, Nat.le_of_ble_eq_true h2, h3⟩
theorem xhd0 {m : Nat} (h : xhm m xHT = []) (pc c : Nat) : xhd m pc c = none := by
  unfold xhd
  rw [h]
  rfl
/-- a method of the class's own that is private, its receiver of a class below -/
theorem xsel_priv {s : State} {args : Array Value} {C : String} {y y0 : MethodName} {cC : ClassId} (hC : s.vm.findClass C = some cC) (hp : (Cond.privateMethod y).before args s = true) (hinst : (Cond.instanceMethod y).before args s = true) (h0 : (Cond.selects C y0 y0).before args s = true) (hcls : y0.cls = y.cls) (hy : y.cls ≠ "java/lang/invoke/MethodHandle" ∧ y.cls ≠ "java/lang/invoke/VarHandle") : (Cond.selects C y y).before args s = true := by
  obtain ⟨mk, methM, hnamed, hmethM, -, -⟩ := Cond.instanceMethod_spec hinst
  have hfound : s.methodFound? y.cls y.name y.desc = some mk := State.methodFound?_of_named hnamed hy
  have hsel : selectMethod {} s.vm cC mk = .method mk := selectMethod_private hmethM (Cond.privateMethod_at hp mk methM hnamed hmethM)
  obtain ⟨c2, r2, m2, -, -, q3, -, kP, hkP, hkPi⟩ := Cond.selects_spec h0
  have e1 := findClass_of_methodNamed q3
  have e2 := findClass_of_methodNamed hnamed
  rw [hcls] at e1
  have e3 : m2.cls = mk.cls := Option.some.inj (e1.symm.trans e2)
  rw [e3] at hkP
  simp only [Cond.before, Cond.holds, Cond.value, hC, hfound, hnamed, hsel, hkP]
  simp [hkPi]
theorem okv_P {k index c9 : Nat} {C : String} {y0 : MethodName} {q1 : XInf} (hq : q1 ∈ I) (hh : q1.2.2.2.2.2 = []) (hL9 : q1.2.2.2.1 ≤ 100) (hC : XNm c9 C) (d : decode q.2.2.1 pc = .ok (.invokevirtual index, 3)) (h1 : Cond.methodLink q.2.1.cls index q1.2.1 ∈ lw_all) (h2 : Cond.instanceMethod q1.2.1 ∈ lw_all) (h3 : Cond.privateMethod q1.2.1 ∈ lw_tbl) (h30 : Cond.selects C y0 y0 ∈ lw_all) (h31 : y0.cls = q1.2.1.cls) (h4 : Cond.initialized q1.2.1.cls ∈ lw_all) (h5 : Cond.code q1.2.1 q1.2.2.1 q1.2.2.2.1 q1.2.2.2.2.1 ∈ lw_all) (hd : XyOk q1.2.1 k) : XOkV z I q pc (pc + 3) k (c9, q1.1) := by
  refine ⟨q1, hq, rfl, ?_⟩
  intro st t a as rest e1 hc hw p l e R s m args below meth c H locs cells slots mc ms ls al Qc XC hE hR hS hL hM c1 c2 c3 c4
  rw [show xWsOf q1 = ws_ q1.2.1 q1.2.2.1 q1.2.2.2.1 q1.2.2.2.2.1 by unfold xWsOf; rw [hh]] at hM
  obtain ⟨s1, s2⟩ := xspl_st e1
  have hts := hE.1.2.2.2.2.1
  exact xRun_3 (vx_runV (C := C) (xFix hE) hM ⟨callB_of (R := R) k hts (lw_meth h5) rfl rfl rfl (hts _ h4) (hts _ h1) hd ⟨by show 16 + 2 * xRk q1.1 + 1 ≤ R.frames; omega, by show 8 + (q1.2.2.2.1 + 11) + (4000 + 200 * xRk q1.1) ≤ R.locals; omega⟩, hts _ h2, xsel_priv (xrecv2 hE.1.2.2.2.2.2.1 hR hc hC).2 (va_Nw.use rfl (hE.1.2.2.2.2.2.1.2.2.1 _ h3 rfl)) (hts _ h2) (hts _ h30) h31 ⟨hd.1, hd.2.1⟩⟩ ⟨xPc_blind, (xrecv2 hE.1.2.2.2.2.2.1 hR hc hC).1, xPc_at (as := vR (some a) :: as) hE hR hS⟩ rfl s1 hL.1 s2 (xwd_sum hw) d ⟨c1, c2⟩)
/-- rows of a table of handlers -/
def XHrs (own : String) : List (Nat × Nat × Nat × Nat) → List (Nat × Nat × Nat × List Nat × List Nat) → Prop
  | [], [] => True
  | r :: rs, x :: xs => (x.1 = r.1 ∧ x.2.1 = r.2.1 ∧ x.2.2.1 = r.2.2.1 ∧ r.2.2.2 ≠ 0 ∧ ∃ nm, Cond.classLink own r.2.2.2 nm ∈ lw_all ∧ (∀ c E T N, c ∈ x.2.2.2.1 → (c, E, T, N) ∈ xCls → Cond.castable E nm ∈ lw_tbl) ∧ (∀ c E T N, c ∈ x.2.2.2.2 → (c, E, T, N) ∈ xCls → (E, nm) ∈ xNcs)) ∧ XHrs own rs xs
  | _, _ => False
theorem xHd_rows {p : Program} {l : Launch} {s : State} {m : MethodId} {args : Array Value} {meth : Method} {c : Code} (hE : XEm z q p l s m args meth c) {code : Nat} {E : String} {T : u_T} {N : Nat} (hC : (code, E, T, N) ∈ xCls) (pc : Nat) : ∀ (rs : List (Nat × Nat × Nat × Nat)) (xs : List (Nat × Nat × Nat × List Nat × List Nat)), XHrs q.2.1.cls rs xs →
    (xhf pc code xs = none → ∀ x ∈ tableOf rs, XPass z q pc E s args x) ∧
    (∀ h, xhf pc code xs = some h → h = 99999 ∨ ∃ (pre : List ExceptionTableEntry) (x : ExceptionTableEntry) (suf : List ExceptionTableEntry) (nm : String), tableOf rs = pre ++ x :: suf ∧ (∀ y ∈ pre, XPass z q pc E s args y) ∧ covers x pc = true ∧ x.catchType ≠ 0 ∧
      (Cond.classLink q.2.1.cls x.catchType nm).before args s = true ∧ (Cond.castable E nm).before args s = true ∧ x.handlerPc = h)
  | [], [], _ => ⟨fun _ x hx => absurd hx List.not_mem_nil, fun h e => by cases e⟩
  | r :: rs, x :: xs, hr => by
    obtain ⟨⟨e1, e2, e3, hct, nm, hl, hcs, hos⟩, hrs⟩ := hr
    obtain ⟨r1, r2, r3, r4⟩ := r
    obtain ⟨x1, x2, x3, x4, x5⟩ := x
    dsimp only at e1 e2 e3 hct hl hcs hos
    subst e1; subst e2; subst e3
    obtain ⟨ih1, ih2⟩ := xHd_rows hE hC pc rs xs hrs
    have hts := hE.1.2.2.2.2.1
    have e : xhf pc code ((x1, x2, x3, x4, x5) :: xs) = if x1 ≤ pc ∧ pc < x2 then if code ∈ x4 then some x3 else if code ∈ x5 then xhf pc code xs else some 99999 else xhf pc code xs := rfl
    have et : tableOf ((x1, x2, x3, r4) :: rs) = (⟨x1, x2, x3, r4⟩ : ExceptionTableEntry) :: tableOf rs := rfl
    rw [e, et]
    have cons : XPass z q pc E s args ⟨x1, x2, x3, r4⟩ → (∀ h, xhf pc code xs = some h → h = 99999 ∨ ∃ (pre : List ExceptionTableEntry) (x : ExceptionTableEntry) (suf : List ExceptionTableEntry) (nm : String), (⟨x1, x2, x3, r4⟩ : ExceptionTableEntry) :: tableOf rs = pre ++ x :: suf ∧ (∀ y ∈ pre, XPass z q pc E s args y) ∧ covers x pc = true ∧ x.catchType ≠ 0 ∧
      (Cond.classLink q.2.1.cls x.catchType nm).before args s = true ∧ (Cond.castable E nm).before args s = true ∧ x.handlerPc = h) := by
      intro hp h hh
      rcases ih2 h hh with h9 | ⟨pre, y, suf, nm, g1, g2, g3⟩
      · exact Or.inl h9
      · exact Or.inr ⟨⟨x1, x2, x3, r4⟩ :: pre, y, suf, nm, by rw [g1]; rfl, fun w hw => (List.mem_cons.mp hw).elim (fun e => by rw [e]; exact hp) (g2 w), g3⟩
    by_cases hc : x1 ≤ pc ∧ pc < x2
    · rw [if_pos hc]
      by_cases h1 : code ∈ x4
      · rw [if_pos h1]
        refine ⟨fun hn => (by cases hn), fun h hs => ?_⟩
        cases hs
        exact Or.inr ⟨[], ⟨x1, x2, x3, r4⟩, tableOf rs, nm, rfl, fun _ h => absurd h List.not_mem_nil, by show (decide (x1 ≤ pc) && decide (pc < x2)) = true; rw [decide_eq_true hc.1, decide_eq_true hc.2]; rfl, hct, hts _ hl, va_Nw.use rfl (hE.1.2.2.2.2.2.1.2.2.1 _ (hcs _ E T N h1 hC) rfl), rfl⟩
      · rw [if_neg h1]
        by_cases h2 : code ∈ x5
        · rw [if_pos h2]
          have hp : XPass z q pc E s args ⟨x1, x2, x3, r4⟩ := Or.inr ⟨hct, nm, hts _ hl, hE.1.2.2.2.2.2.1.2.2.2.2.1 _ (hos _ E T N h2 hC)⟩
          exact ⟨fun hn y hy => (List.mem_cons.mp hy).elim (fun e => by rw [e]; exact hp) (ih1 hn y), cons hp⟩
        · rw [if_neg h2]
          exact ⟨fun hn => (by cases hn), fun h hs => Or.inl (by cases hs; rfl)⟩
    · rw [if_neg hc]
      have hp : XPass z q pc E s args ⟨x1, x2, x3, r4⟩ := by
        refine Or.inl ?_
        show (decide (x1 ≤ pc) && decide (pc < x2)) = false
        rw [Bool.and_eq_false_iff]
        by_cases h1 : x1 ≤ pc
        · exact Or.inr (decide_eq_false fun h2 => hc ⟨h1, h2⟩)
        · exact Or.inl (decide_eq_false h1)
      exact ⟨fun hn y hy => (List.mem_cons.mp hy).elim (fun e => by rw [e]; exact hp) (ih1 hn y), cons hp⟩
  | [], _ :: _, hr => hr.elim
  | _ :: _, [], hr => hr.elim
theorem xHd_of (h : XHrs q.2.1.cls q.2.2.2.2.2 (xhm q.1 xHT)) (h99 : ∀ i, xfind 99999 (xTab z q.1) ≠ some i) : XHd z q := by
  intro pc code E T N hC p l s m args meth c hE
  obtain ⟨h1, h2⟩ := xHd_rows hE hC pc _ _ h
  refine ⟨h1, fun k hk => ?_⟩
  rcases h2 k hk with e | e
  · subst e
    exact Or.inl h99
  · exact Or.inr e
theorem xcls_one {c N c0 : Nat} {E D : String} {T : u_T} (hc : c ∈ [c0]) (h : (c, E, T, N) ∈ xCls) (hD : xCls.all (fun y => !Nat.beq y.1 c0 || decide (y.2.1 = D)) = true) : E = D := by
  cases List.mem_singleton.mp hc
  have h1 := List.all_eq_true.mp hD _ h
  have h2 : Nat.beq c c = true := Nat.beq_refl c
  rw [h2] at h1
  simpa using h1
theorem xat_of {L : List Cond} (ps : List Nat) (hp : L = ps.filterMap (fun i => lw_tbl[i]?)) (h : L.all (fun w => goodWord w || xGw w) = true) : ∀ w ∈ L, w ∈ lw_all ∨ (w ∈ lw_tbl ∧ xGw w = true) := by
  intro w hw
  have h1 := List.all_eq_true.mp h w hw
  rw [hp] at hw
  obtain ⟨i, -, hi⟩ := List.mem_filterMap.mp hw
  rw [Bool.or_eq_true] at h1
  rcases h1 with h1 | h1
  · exact Or.inl (lw_w i hi h1)
  · exact Or.inr ⟨List.mem_of_getElem? hi, h1⟩
end ADC
