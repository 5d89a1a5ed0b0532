/-! A RUN OF OUR MACHINE IS A RUN OF THE MODEL'S: by fuel -/
set_option maxRecDepth 100000
/-- a method: our number, its name, code, variables, answer, handlers -/
abbrev XInf : Type := Nat × MethodName × ByteArray × Nat × Option FieldType × List (Nat × Nat × Nat × Nat)
def xFree (z : XKT) : Addr → Prop := fun a => z.1 ≤ a
def xWsOf (q : XInf) : List Cond := match q.2.2.2.2.2 with
  | [] => ws_ q.2.1 q.2.2.1 q.2.2.2.1 q.2.2.2.2.1
  | h :: r => wsW_ q.2.1 q.2.2.1 q.2.2.2.1 q.2.2.2.2.1 (h :: r)
def xRm (m mc ms : Nat) : Room := { frames := 16 + 2 * xRk m, locals := 4000 + 200 * xRk m, cells := mc, slots := ms }
def xPc (z : XKT) (t : XSt) (as : List XV) : Array Value → State → Prop := fun v U => v = (vcs as).toArray ∧ XRp z t U.heap ∧ XKn z U ∧ XZs z U U.heap
def xQc (z : XKT) (q : XRs × XSt) : Array Value → State → Outcome → State → Prop := fun _ st o U => ∃ vs v, q.1 = .inl vs ∧ o = .returned v ∧ v.toList = vcs vs ∧ XRp z q.2 U.heap ∧ XSm z st.heap U.heap
def xXc (z : XKT) (q : XRs × XSt) : Addr → String → State → State → Prop := fun a E st U => q.1 = .inr a ∧ XRp z q.2 U.heap ∧ XSm z st.heap U.heap ∧ ∃ T N, (xcl q.2 a, E, T, N) ∈ xCls
theorem xPc_blind {z : XKT} {t : XSt} {as : List XV} : FrameBlind (xPc z t as) := by
  intro a U g mk h
  obtain ⟨h1, h2, h3, h4⟩ := h
  exact ⟨h1, h2, h3.warm (s := U) (U := U.calling g mk a) (State.WarmedH.refl U), h4.moved (u := U) (U := U.calling g mk a) (State.WarmedH.refl U).alike⟩
/-- the walk inside a method -/
def XEm (z : XKT) (q : XInf) (p : Program) (l : Launch) (s : State) (m : MethodId) (args : Array Value) (meth : Method) (c : Code) : Prop :=
  XEn z q.2.1.cls q.2.2.1 q.2.2.2.1 (q.2.1.name, q.2.1.desc) p l s m args meth c ∧ meth.sig.returnType = q.2.2.2.2.1 ∧ c.exceptionTable.toList = tableOf q.2.2.2.2.2
/-- a call made: it came back, or it threw -/
def xRun (p : Program) (l : Launch) (e : Env) (R : Room) (s : State) (m : MethodId) (args : Array Value) (below : List Frame) (meth : Method) (c : Code) (H : Heap) (locs : List Loc) (cells slots mc ms nx : Nat) (g : JFrame) (rest : List Value) (Qa : State → Outcome → State → Prop) (XC : Addr → String → State → State → Prop) (free : Addr → Prop) : Prop :=
  ∀ T : State, T.heap = H → Stand p l e R s m args below meth c T locs cells slots →
    (∃ (v : Option Value) (st₀ t T' : State) (L : List Loc), st₀.heap = H ∧ Stand p l e R s m args below meth c T' (locs ++ L) (cells + mc) (slots + ms) ∧ (∀ q ∈ L, free q.base) ∧ T'.heap = t.heap ∧ Qa st₀ (.returned v) t ∧
      Goes p e below T g T' { g with pc := nx, stack := v.toList ++ rest }) ∨
    (∃ (q : Addr) (st₀ t T' : State) (L : List Loc) (E : String) (ce : Cell), st₀.heap = H ∧ Stand p l e R s m args below meth c T' (locs ++ L) (cells + mc) (slots + ms) ∧ (∀ z ∈ L, free z.base) ∧ T'.heap = t.heap ∧ XC q E st₀ t ∧ t.heap[q]? = some ce ∧ ce.vm = .none ∧ s.vm.findClass E = some ce.cls ∧
      Steps p.tables e below (T.setTop g) ((T'.setTop { g with stack := rest }).pushFrame (.throwing q)))
theorem xRun_3 {p : Program} {l : Launch} {e : Env} {R : Room} {s : State} {m : MethodId} {args : Array Value} {below : List Frame} {meth : Method} {c : Code} {H : Heap} {locs : List Loc} {cells slots mc ms : Nat} {g : JFrame} {rest : List Value} {Qa : State → Outcome → State → Prop} {XC : Addr → String → State → State → Prop} {free : Addr → Prop}
    (h : vx_Run p l e R s m args below meth c H locs cells slots mc ms g rest Qa XC free) : xRun p l e R s m args below meth c H locs cells slots mc ms (g.pc + 3) g rest Qa XC free := by
  intro T hT X
  rcases h T hT X with ⟨v, st₀, t, T', L, a1, a2, a3, a4, -, a6, a7⟩ | ⟨q, st₀, t, T', L, E, ce, a1, a2, a3, a4, -, a6, a7, a8, a9, a10⟩
  · exact Or.inl ⟨v, st₀, t, T', L, a1, a2, a3, a4, a6, a7⟩
  · exact Or.inr ⟨q, st₀, t, T', L, E, ce, a1, a2, a3, a4, a6, a7, a8, a9, a10⟩
theorem xRun_5 {p : Program} {l : Launch} {e : Env} {R : Room} {s : State} {m : MethodId} {args : Array Value} {below : List Frame} {meth : Method} {c : Code} {H : Heap} {locs : List Loc} {cells slots mc ms : Nat} {g : JFrame} {rest : List Value} {Qa : State → Outcome → State → Prop} {XC : Addr → String → State → State → Prop} {free : Addr → Prop}
    (h : vx_Run5 p l e R s m args below meth c H locs cells slots mc ms g rest Qa XC free) : xRun p l e R s m args below meth c H locs cells slots mc ms (g.pc + 5) g rest Qa XC free := by
  intro T hT X
  rcases h T hT X with ⟨v, st₀, t, T', L, a1, a2, a3, a4, -, a6, a7⟩ | ⟨q, st₀, t, T', L, E, ce, a1, a2, a3, a4, -, a6, a7, a8, a9, a10⟩
  · exact Or.inl ⟨v, st₀, t, T', L, a1, a2, a3, a4, a6, a7⟩
  · exact Or.inr ⟨q, st₀, t, T', L, E, ce, a1, a2, a3, a4, a6, a7, a8, a9, a10⟩
def XOkC (z : XKT) (I : List XInf) (q : XInf) (pc nx : Nat) (g : XCal) : Prop :=
  ∀ {st : XS} {t : XSt} {m' : Nat} {as : List XV} {rest : XS}, g st t = some (m', as, rest) → xwd rest ≤ 8 → ∃ q1 ∈ I, q1.1 = m' ∧
    ∀ {p : Program} {l : Launch} {e : Env} {R : Room} {s : State} {m : MethodId} {args : Array Value} {below : List Frame} {meth : Method} {c : Code} {H : Heap} {locs : List Loc} {cells slots mc ms : Nat} {ls : Array Slot} {al : XL} {Qc : Array Value → State → Outcome → State → Prop} {XC : Addr → String → State → State → Prop},
      XEm z q p l s m args meth c → XRp z t H → XSm z s.heap H → XLv q.2.2.2.1 ls al → vx_Met l q1.2.1 (xWsOf q1) (xRm m' mc ms) (xPc z t as) Qc XC mc ms (xFree z) →
      cells + mc ≤ R.cells → slots + ms ≤ R.slots → 16 + 2 * xRk m' + 2 ≤ R.frames → 4000 + 200 * xRk m' + 200 ≤ R.locals →
      xRun p l e R s m args below meth c H locs cells slots mc ms nx (F0 m pc ls (vcs st)) (vcs rest) (Qc (vcs as).toArray) XC (xFree z)
def XOkR (q : XInf) (pc : Nat) (g : XRet) : Prop :=
  ∀ {st : XS} {vs : List XV}, g st = some vs →
    ∀ {z : XKT} {p : Program} {l : Launch} {e : Env} {R : Room} {s : State} {m : MethodId} {args : Array Value} {below : List Frame} {meth : Method} {c : Code} {H : Heap} {locs : List Loc} {cells slots : Nat} {ls : Array Slot} {Qc : Array Value → State → Outcome → State → Prop},
      XEm z q p l s m args meth c → (∀ (v : Option Value) (U : State), v.toList = vcs vs → U.heap = H → Qc args s (.returned v) U) → (∀ x ∈ locs, xFree z x.base) →
      W p l e R s m args below meth c H locs cells slots (MQ below Qc args s cells slots (xFree z)) (F0 m pc ls (vcs st))
def XOkT (z : XKT) (q : XInf) (pc : Nat) (g : XThr) : Prop :=
  ∀ {st : XS} {t : XSt} {a : Nat} {t' : XSt}, g st t = some (a, t') → xhd q.1 pc (xcl t' a) = none → (xnx t ≤ xnx t' ∧ xus t ≤ xus t') ∧
    ∀ {p : Program} {l : Launch} {e : Env} {R : Room} {s : State} {m : MethodId} {args : Array Value} {below : List Frame} {meth : Method} {c : Code} {H : Heap} {locs : List Loc} {cells slots : Nat} {ls : Array Slot} {al : XL} {Qc : Array Value → State → Outcome → State → Prop} {XC : Addr → String → State → State → Prop},
      XEm z q p l s m args meth c → XRp z t H → XSm z s.heap H → XLv q.2.2.2.1 ls al → cells + (xnx t' - xnx t) ≤ R.cells → slots + (xus t' - xus t) ≤ R.slots → 16 ≤ R.frames → 4000 ≤ R.locals → (∀ x ∈ locs, xFree z x.base) →
      (∀ (U : State) (E : String), XRp z t' U.heap → XSm z s.heap U.heap → (∃ T N, (xcl t' a, E, T, N) ∈ xCls) → XC a E s U) →
      W p l e R s m args below meth c H locs cells slots (vx_MQ below Qc XC args s (cells + (xnx t' - xnx t)) (slots + (xus t' - xus t)) (xFree z)) (F0 m pc ls (vcs st))
def XOi (z : XKT) (I : List XInf) (q : XInf) (pc : Nat) : XI → Prop
  | .inl f => XOkS z q.2.1.cls q.2.2.1 q.2.2.2.1 (q.2.1.name, q.2.1.desc) pc f
  | .inr (.inl c) => XOkC z I q pc c.1 c.2
  | .inr (.inr (.inl g)) => XOkR q pc g
  | .inr (.inr (.inr g)) => XOkT z q pc g
/-- the handlers -/
def XPass (z : XKT) (q : XInf) (pc : Nat) (E : String) (s : State) (args : Array Value) (x : ExceptionTableEntry) : Prop :=
  covers x pc = false ∨ (x.catchType ≠ 0 ∧ ∃ nm : String, (Cond.classLink q.2.1.cls x.catchType nm).before args s = true ∧ va_Nc E nm s)
def XHd (z : XKT) (q : XInf) : Prop :=
  ∀ (pc code : Nat) (E : String) (T : u_T) (N : Nat), (code, E, T, N) ∈ xCls → ∀ {p : Program} {l : Launch} {s : State} {m : MethodId} {args : Array Value} {meth : Method} {c : Code}, XEm z q p l s m args meth c →
    (xhd q.1 pc code = none → ∀ x ∈ tableOf q.2.2.2.2.2, XPass z q pc E s args x) ∧
    (∀ h, xhd q.1 pc code = some h → (∀ i, xfind h (xTab z q.1) ≠ some i) ∨ ∃ (pre : List ExceptionTableEntry) (x : ExceptionTableEntry) (suf : List ExceptionTableEntry) (nm : String), tableOf q.2.2.2.2.2 = pre ++ x :: suf ∧ (∀ y ∈ pre, XPass z q pc E s args y) ∧ covers x pc = true ∧ x.catchType ≠ 0 ∧
      (Cond.classLink q.2.1.cls x.catchType nm).before args s = true ∧ (Cond.castable E nm).before args s = true ∧ x.handlerPc = h)
/-- what is asked of a method's table -/
def XMi (z : XKT) (I : List XInf) (q : XInf) : Prop :=
  (∀ pc i, xfind pc (xTab z q.1) = some i → XOi z I q pc i) ∧ XHd z q ∧ xNL q.1 = q.2.2.2.1 ∧ q.2.2.2.1 ≤ 100 ∧ plainFor q.2.1 = true
section ADA
variable {z : XKT} {I : List XInf}
theorem xexec_nx (hI : ∀ q ∈ I, XMi z I q) : ∀ (n : Nat), ∀ q0 ∈ I, ∀ (pc : Nat) (al : XL) (st : XS) (t : XSt) (q : XRs × XSt), xexec (xK z) n q0.1 pc al st t = some q → xnx t ≤ xnx q.2 ∧ xus t ≤ xus q.2 := by
  intro n
  induction n with
  | zero => intro q0 _ pc al st t q h; cases h
  | succ n ih =>
    intro q0 h0 pc al st t q h
    obtain ⟨i, hi, h2⟩ := Option.bind_eq_some_iff.mp h
    have ho := (hI q0 h0).1 pc i hi
    rcases i with f | c | g | g
    · obtain ⟨w, k1, k2⟩ := Option.bind_eq_some_iff.mp h2
      have a := ho.1 k1
      have b := ih q0 h0 _ _ _ _ _ k2
      omega
    · obtain ⟨⟨m', as, rest⟩, k1, k2⟩ := Option.bind_eq_some_iff.mp h2
      split at k2
      · rename_i hc
        obtain ⟨q1, hq1, e1, -⟩ := ho k1 hc.1
        obtain ⟨w, k3, k4⟩ := Option.bind_eq_some_iff.mp k2
        subst e1
        have a := ih q1 hq1 _ _ _ _ _ k3
        have b : xnx w.2 ≤ xnx q.2 ∧ xus w.2 ≤ xus q.2 := by
          obtain ⟨w1, w2⟩ := w
          rcases w1 with vs | a1
          · exact ih q0 h0 _ _ _ _ _ k4
          · simp only [xback] at k4
            split at k4
            · cases k4; exact ⟨Nat.le_refl _, Nat.le_refl _⟩
            · exact ih q0 h0 _ _ _ _ _ k4
        omega
      · cases k2
    · obtain ⟨w, k1, k2⟩ := Option.bind_eq_some_iff.mp h2
      cases k2
      exact ⟨Nat.le_refl _, Nat.le_refl _⟩
    · obtain ⟨⟨a, t'⟩, k1, k2⟩ := Option.bind_eq_some_iff.mp h2
      split at k2
      · rename_i hc
        cases k2
        exact (ho k1 hc).1
      · cases k2
def XMt (z : XKT) (I : List XInf) (n : Nat) : Prop := ∀ q0 ∈ I, ∀ (as : List XV) (t : XSt) (q : XRs × XSt), xexec (xK z) n q0.1 0 (xent (xK z) q0.1 as) [] t = some q → (xlay as).length ≤ xNL q0.1 → ∀ l : Launch, l.stackTraces = false →
  vx_Met l q0.2.1 (xWsOf q0) (xRm q0.1 (xnx q.2 - xnx t) (xus q.2 - xus t)) (xPc z t as) (xQc z q) (xXc z q) (xnx q.2 - xnx t) (xus q.2 - xus t) (xFree z)
def XBd (z : XKT) (I : List XInf) (n : Nat) : Prop := ∀ q0 ∈ I, ∀ (pc : Nat) (al : XL) (st : XS) (t : XSt) (q : XRs × XSt), xexec (xK z) n q0.1 pc al st t = some q →
  ∀ {p : Program} {l : Launch} {e : Env} {R : Room} {s : State} {m : MethodId} {args : Array Value} {below : List Frame} {meth : Method} {c : Code} {H : Heap} {locs : List Loc} {cells slots : Nat} {ls : Array Slot},
    XEm z q0 p l s m args meth c → XRp z t H → XSm z s.heap H → XLv q0.2.2.2.1 ls al → cells + (xnx q.2 - xnx t) ≤ R.cells → slots + (xus q.2 - xus t) ≤ R.slots → 16 + 2 * xRk q0.1 ≤ R.frames → 4000 + 200 * xRk q0.1 ≤ R.locals → (∀ x ∈ locs, xFree z x.base) →
    W p l e R s m args below meth c H locs cells slots (vx_MQ below (xQc z q) (xXc z q) args s (cells + (xnx q.2 - xnx t)) (slots + (xus q.2 - xus t)) (xFree z)) (F0 m pc ls (vcs st))
theorem vcs_app (a b : List XV) : vcs (a ++ b) = vcs a ++ vcs b := List.map_append
theorem xBd_step (hI : ∀ q ∈ I, XMi z I q) {n : Nat} (hM : XMt z I n) (hB : XBd z I n) : XBd z I (n + 1) := by
  intro q0 h0 pc al st t q h p l e R s m args below meth c H locs cells slots ls hE hR hS hL h1 h2 h3 h4 hloc
  obtain ⟨i, hi, hx⟩ := Option.bind_eq_some_iff.mp h
  have ho := (hI q0 h0).1 pc i hi
  rcases i with f | c9 | g | g
  · obtain ⟨w, k1, k2⟩ := Option.bind_eq_some_iff.mp hx
    have m1 := ho.1 k1
    have m2 := xexec_nx hI n q0 h0 _ _ _ _ _ k2
    refine ho.2 hE.1 k1 hR hS hL (by omega) (by omega) (by omega) (by omega) fun H1 ls1 L hR1 hS1 hL1 hfree => ?_
    have k3 := hB q0 h0 _ _ _ _ _ k2 (locs := locs ++ L) (cells := cells + (xnx w.2.2.2 - xnx t)) (slots := slots + (xus w.2.2.2 - xus t)) (e := e) (R := R) (below := below) hE hR1 hS1 hL1 (by omega) (by omega) h3 h4
      (fun x hx => (List.mem_append.mp hx).elim (hloc x) (hfree x))
    rw [show cells + (xnx w.2.2.2 - xnx t) + (xnx q.2 - xnx w.2.2.2) = cells + (xnx q.2 - xnx t) by omega, show slots + (xus w.2.2.2 - xus t) + (xus q.2 - xus w.2.2.2) = slots + (xus q.2 - xus t) by omega] at k3
    exact k3
  · obtain ⟨⟨m', as, rest⟩, k1, k2⟩ := Option.bind_eq_some_iff.mp hx
    split at k2
    · rename_i hc
      obtain ⟨q1, hq1, e1, hrun⟩ := ho k1 hc.1
      obtain ⟨⟨w1, w2⟩, k3, k4⟩ := Option.bind_eq_some_iff.mp k2
      subst e1
      have m1 := xexec_nx hI n q1 hq1 _ _ _ _ _ k3
      have m2 : xnx w2 ≤ xnx q.2 ∧ xus w2 ≤ xus q.2 := by
        rcases w1 with vs | a1
        · exact xexec_nx hI n q0 h0 _ _ _ _ _ k4
        · simp only [xback] at k4
          split at k4
          · cases k4; exact ⟨Nat.le_refl _, Nat.le_refl _⟩
          · exact xexec_nx hI n q0 h0 _ _ _ _ _ k4
      have hrk : xRk q1.1 < xRk q0.1 := hc.2.1
      dsimp only at m1
      have hr := hrun hE hR hS hL (e := e) (R := R) (below := below) (locs := locs) (cells := cells) (slots := slots) (hM q1 hq1 _ _ _ k3 hc.2.2 l hE.1.2.2.2.2.2.2.2.2.2.1) (by dsimp only; omega) (by dsimp only; omega) (by omega) (by omega)
      have ec : cells + (xnx w2 - xnx t) + (xnx q.2 - xnx w2) = cells + (xnx q.2 - xnx t) := by omega
      have es : slots + (xus w2 - xus t) + (xus q.2 - xus w2) = slots + (xus q.2 - xus t) := by omega
      intro T hT X
      rcases hr T hT X with ⟨v, st₀, t9, T', L, a1, a2, a3, a4, ⟨vs, v', b1, b2, b3, b4, b5⟩, a7⟩ | ⟨a, st₀, t9, T', L, E, ce, a1, a2, a3, a4, ⟨b1, b2, b3, T9, N9, b4⟩, a6, a7, a8, a9⟩
      · cases b1
        cases b2
        have hS2 : XSm z s.heap t9.heap := hS.tr (by rw [← a1]; exact b5)
        have k5 := hB q0 h0 _ _ _ _ _ k4 (locs := locs ++ L) (cells := cells + (xnx w2 - xnx t)) (slots := slots + (xus w2 - xus t)) (e := e) (R := R) (below := below) hE b4 hS2 hL (by dsimp only; omega) (by dsimp only; omega) h3 h4
          (fun x hx => (List.mem_append.mp hx).elim (hloc x) (a3 x))
        dsimp only at k5
        rw [ec, es] at k5
        obtain ⟨tt, s1, s2⟩ := k5 T' a4 a2
        refine ⟨tt, a7 _ ?_, s2⟩
        rw [b3, ← vcs_app]
        exact s1
      · cases b1
        dsimp only at b2 b3 b4 a2
        have hS2 : XSm z s.heap t9.heap := hS.tr (by rw [← a1]; exact b3)
        obtain ⟨p1, p2⟩ := (hI q0 h0).2.1 pc (xcl w2 a) E T9 N9 b4 hE
        simp only [xback] at k4
        split at k4
        · rename_i hh
          cases k4
          have k6 : vx_W p l e R s m args below meth c t9.heap (locs ++ L) (cells + (xnx w2 - xnx t)) (slots + (xus w2 - xus t)) (vx_MQ below (xQc z (.inr a, w2)) (xXc z (.inr a, w2)) args s (cells + (xnx w2 - xnx t)) (slots + (xus w2 - xus t)) (xFree z)) (F0 m pc ls (vcs rest)) a :=
            vx_outP (own := q0.2.1.cls) hE.1.2.2.2.1 hE.1.2.2.2.2.2.2.2.1 (by rw [hE.2.2]; exact p1 hh) a6 a7 a8 (fun U hU _ => ⟨rfl, by rw [hU]; exact b2, by rw [hU]; exact hS2, T9, N9, b4⟩) (fun x hx => (List.mem_append.mp hx).elim (hloc x) (a3 x)) (Nat.le_refl _) (Nat.le_refl _)
          obtain ⟨tt, s1, s2⟩ := k6 T' a4 a2
          exact ⟨tt, a9.trans s1, s2⟩
        · rename_i h9 hh
          rcases p2 h9 hh with hno | ⟨pre, x, suf, nm, g1, g2, g3, g4, g5, g6, g7⟩
          · exfalso
            cases n with
            | zero => cases k4
            | succ n =>
              obtain ⟨i9, hi9, -⟩ := Option.bind_eq_some_iff.mp k4
              exact hno i9 hi9
          subst g7
          have k5 := hB q0 h0 _ _ _ _ _ k4 (locs := locs ++ L) (cells := cells + (xnx w2 - xnx t)) (slots := slots + (xus w2 - xus t)) (e := e) (R := R) (below := below) hE b2 hS2 hL (by omega) (by omega) h3 h4
            (fun x hx => (List.mem_append.mp hx).elim (hloc x) (a3 x))
          rw [ec, es] at k5
          have k6 := vx_catch (rest := vcs rest) (own := q0.2.1.cls) hE.1.2.2.2.1 pre x suf (by rw [hE.2.2]; exact g1) g2 g3 g4 g5 g6 a6 a7 a8 k5
          obtain ⟨tt, s1, s2⟩ := k6 T' a4 a2
          exact ⟨tt, a9.trans s1, s2⟩
    · cases k2
  · obtain ⟨vs, k1, k2⟩ := Option.bind_eq_some_iff.mp hx
    cases k2
    dsimp only
    rw [Nat.sub_self, Nat.sub_self, Nat.add_zero, Nat.add_zero]
    exact vx_ret (ho k1 hE (fun v U hv hU => ⟨vs, v, rfl, rfl, hv, by rw [hU]; exact hR, by rw [hU]; exact hS⟩) hloc)
  · obtain ⟨⟨a, t'⟩, k1, k2⟩ := Option.bind_eq_some_iff.mp hx
    split at k2
    · rename_i hc
      cases k2
      exact (ho k1 hc).2 hE hR hS hL h1 h2 (by omega) (by omega) hloc (fun U E hr hs hk => ⟨rfl, hr, hs, hk⟩)
    · cases k2
/-! a method alone of whose own name nothing else runs (follows vx_ofW, vx_ofWH of the kit's paste) -/
theorem xF_ofW {l : Launch} {y : MethodName} {ws ws' : List Cond} {rm : Room} {Pc : Array Value → State → Prop} {Qc : Array Value → State → Outcome → State → Prop} {XC : Addr → String → State → State → Prop} {mc ms : Nat} {free : Addr → Prop} {cc : ByteArray} {maxL : Nat} {ret : Option FieldType}
    (hy : plainFor y = true) (hw : ws = Cond.code y cc maxL ret :: ws')
    (body : ∀ p e s m args below meth c s₁, BodyLoose p l y (headSpec ws rm) cc maxL ret e s m args below meth c s₁ → c.maxLocals = maxL → (∀ x ∈ c.exceptionTable.toList, False) → Pc args s →
      W p l e (headSpec ws rm).room s m args below meth c s.heap [] 0 0 (vx_MQ below Qc XC args s mc ms free) (entryFrame m args maxL)) : vx_Met l y ws rm Pc Qc XC mc ms free := by
  refine MetFree.of_bodySF (code := cc) (maxLocals := maxL) (ret := ret) hy ?_ ?_
  · intro args s m h hn
    obtain ⟨meth, c, h1, h2, h3, h4, h5, h6, -, -⟩ := Cond.code_spec hn (atoms_spec (ws := ws) h _ (by rw [hw]; exact List.mem_cons_self))
    exact ⟨meth, c, h1, h2, h3, h4, h5, h6⟩
  · intro p e s m args below meth c s₁ B hml hP _
    have hh0 : s₁.heap = s.heap := by rw [B.state]; rfl
    have ht : ∀ x ∈ c.exceptionTable.toList, False := by
      obtain ⟨meth9, c9, h1, h2, -, -, -, -, h7, -⟩ := Cond.code_spec B.named (atoms_spec (ws := ws) B.pre _ (by rw [hw]; exact List.mem_cons_self))
      cases Option.some.inj (h1.symm.trans B.method)
      cases Option.some.inj (h2.symm.trans (Stand.of_body B).code)
      intro x hx
      rw [Array.isEmpty_iff.mp h7] at hx
      cases hx
    obtain ⟨t, a1, o, b1, b2, b3⟩ := body p e s m args below meth c s₁ B hml ht hP s₁ hh0 (Stand.of_body B)
    exact ⟨t, o, a1, b1, b2, b3⟩
theorem xF_ofWH {l : Launch} {y : MethodName} {ws ws' : List Cond} {rm : Room} {Pc : Array Value → State → Prop} {Qc : Array Value → State → Outcome → State → Prop} {XC : Addr → String → State → State → Prop} {mc ms : Nat} {free : Addr → Prop} {cc : ByteArray} {maxL : Nat} {ret : Option FieldType} {hh : List (Nat × Nat × Nat × Nat)}
    (hy : plainFor y = true) (hw : ws = Cond.codeWith y cc maxL ret hh :: ws')
    (body : ∀ p e s m args below meth c s₁, BodyLoose p l y (headSpec ws rm) cc maxL ret e s m args below meth c s₁ → c.maxLocals = maxL → Pc args s →
      W p l e (headSpec ws rm).room s m args below meth c s.heap [] 0 0 (vx_MQ below Qc XC args s mc ms free) (entryFrame m args maxL)) : vx_Met l y ws rm Pc Qc XC mc ms free := by
  refine MetFree.of_bodySF (code := cc) (maxLocals := maxL) (ret := ret) hy ?_ ?_
  · intro args s m h hn
    obtain ⟨m9, meth, c, hn9, h1, h2, h3, h4, -, h5, h6, -⟩ := Cond.codeWith_spec (atoms_spec (ws := ws) h _ (by rw [hw]; exact List.mem_cons_self))
    cases hn.symm.trans hn9
    exact ⟨meth, c, h1, h2, h3, h4, h5, h6⟩
  · intro p e s m args below meth c s₁ B hml hP _
    have hh0 : s₁.heap = s.heap := by rw [B.state]; rfl
    obtain ⟨t, a1, o, b1, b2, b3⟩ := body p e s m args below meth c s₁ B hml hP s₁ hh0 (Stand.of_body B)
    exact ⟨t, o, a1, b1, b2, b3⟩
/-! the entry of a method -/
def xsl : Option XV → Slot
  | some v => .val (vcv v)
  | none => .second
theorem lg_sl_lay (as : List XV) : lg_sl (vcs as) = (xlay as).map xsl := by
  induction as with
  | nil => rfl
  | cons v r ih =>
    have e : lg_sl (vcs (v :: r)) = (if (vcv v).category = 2 then [Slot.val (vcv v), .second] else [Slot.val (vcv v)]) ++ lg_sl (vcs r) := rfl
    rw [e, ih]
    rcases v with x | o | x | x | x
    · rfl
    · cases o <;> rfl
    · rfl
    · rfl
    · rfl
theorem xent_ok (as : List XV) {n : Nat} (h : (xlay as).length ≤ n) : XLv n ((lg_sl (vcs as) ++ List.replicate (n - (lg_sl (vcs as)).length) Slot.unset).toArray) (xpad n (xlay as)) := by
  have hl : (lg_sl (vcs as)).length = (xlay as).length := by rw [lg_sl_lay, List.length_map]
  obtain ⟨h1, h2, -⟩ := lv_entry (vcs as) (n := n) (by rw [hl]; exact h)
  refine ⟨h1, h2, by unfold xpad; rw [List.length_append, List.length_replicate]; omega, fun i v hi => ?_⟩
  unfold xpad at hi
  rw [List.getElem?_toArray]
  by_cases hlt : i < (xlay as).length
  · rw [List.getElem?_append_left hlt] at hi
    rw [List.getElem?_append_left (by rw [hl]; exact hlt), lg_sl_lay, List.getElem?_map, hi]
    rfl
  · rw [List.getElem?_append_right (by omega), List.getElem?_replicate] at hi
    split at hi
    · cases hi
    · cases hi
theorem xMt_of (hI : ∀ q ∈ I, XMi z I q) {n : Nat} (hB : XBd z I n) : XMt z I n := by
  intro q0 h0 as t q h hlen l hl
  have hd : ∀ (p : Program) (e : Env) (s : State) (m : MethodId) (args : Array Value) (below : List Frame) (meth : Method) (c : Code), p.tables.exec = Jvm.exec → c.code = q0.2.2.1 → c.maxLocals = q0.2.2.2.1 → s.vm.findClass q0.2.1.cls = some m.cls → (∀ w ∈ xWsOf q0, w.before args s = true) → meth.locks = false → meth.name = q0.2.1.name → meth.sig.returnType = q0.2.2.2.2.1 → c.exceptionTable.toList = tableOf q0.2.2.2.2.2 → s.methodNamed? q0.2.1 = some m → xPc z t as args s →
      W p l e (headSpec (xWsOf q0) (xRm q0.1 (xnx q.2 - xnx t) (xus q.2 - xus t))).room s m args below meth c s.heap [] 0 0 (vx_MQ below (xQc z q) (xXc z q) args s (xnx q.2 - xnx t) (xus q.2 - xus t) (xFree z)) (entryFrame m args q0.2.2.2.1) := by
    intro p e s m args below meth c a1 a2 a3 a4 a5 a6 a7 a8 a9 a10 hP
    obtain ⟨rfl, hR, hK, hZ⟩ := hP
    obtain ⟨-, -, hNL, hle, -⟩ := hI q0 h0
    rw [lg_entry_eq]
    have hts : ∀ w ∈ lw_all, w.before (vcs as).toArray s = true := by
      intro w hw
      refine a5 w ?_
      unfold xWsOf
      split
      · exact List.mem_cons_of_mem _ hw
      · exact List.mem_cons_of_mem _ hw
    have k := hB q0 h0 _ _ _ _ _ h (e := e) (R := (headSpec (xWsOf q0) (xRm q0.1 (xnx q.2 - xnx t) (xus q.2 - xus t))).room) (below := below) (locs := []) (cells := 0) (slots := 0) (H := s.heap) (ls := (lg_sl (vcs as) ++ List.replicate (q0.2.2.2.1 - (lg_sl (vcs as)).length) Slot.unset).toArray)
      ⟨⟨a1, a2, a3, a4, hts, hK, hZ, a6, a7, hl, a10⟩, a8, a9⟩ hR XSm.rf (by
        have k9 := xent_ok as (n := q0.2.2.2.1) (by rw [← hNL]; exact hlen)
        show XLv _ _ (xpad (xNL q0.1) (xlay as))
        rw [hNL]
        exact k9) (by rw [Nat.zero_add]; exact Nat.le_refl _) (by rw [Nat.zero_add]; exact Nat.le_refl _) (Nat.le_refl _) (Nat.le_refl _) (fun _ q => absurd q List.not_mem_nil)
    rw [Nat.zero_add, Nat.zero_add] at k
    exact k
  have hplain := (hI q0 h0).2.2.2.2
  cases hh : q0.2.2.2.2.2 with
  | nil =>
    refine xF_ofW (cc := q0.2.2.1) (maxL := q0.2.2.2.1) (ret := q0.2.2.2.2.1) (ws' := lw_all) hplain (by unfold xWsOf; rw [hh]) ?_
    intro p e s m args below meth c s₁ B hml ht hP
    have hnone : c.exceptionTable.toList = [] := by
      cases hx : c.exceptionTable.toList with
      | nil => rfl
      | cons x r => exact absurd (ht x (by rw [hx]; exact List.mem_cons_self)) id
    exact hd p e s m args below meth c B.exec B.bytes hml (findClass_of_methodNamed B.named) (atoms_spec (ws := xWsOf q0) B.pre) B.notSynchronized (name_of_methodNamed B.named B.method).1 B.returns (by rw [hnone, hh]; rfl) B.named hP
  | cons x r =>
    refine xF_ofWH (cc := q0.2.2.1) (maxL := q0.2.2.2.1) (ret := q0.2.2.2.2.1) (hh := x :: r) (ws' := lw_all) hplain (by unfold xWsOf; rw [hh]) ?_
    intro p e s m args below meth c s₁ B hml hP
    have hw := atoms_spec (ws := xWsOf q0) B.pre
    exact hd p e s m args below meth c B.exec B.bytes hml (findClass_of_methodNamed B.named) hw B.notSynchronized (name_of_methodNamed B.named B.method).1 B.returns (by
      rw [hh]
      exact vx_table (x := q0.2.1) (bytes := q0.2.2.1) (maxL' := q0.2.2.2.1) (ret' := q0.2.2.2.2.1) B (hw _ (by unfold xWsOf; rw [hh]; exact List.mem_cons_self))) B.named hP
theorem xAda (hI : ∀ q ∈ I, XMi z I q) : ∀ n, XMt z I n ∧ XBd z I n := by
  intro n
  induction n with
  | zero =>
    refine ⟨?_, ?_⟩
    · intro q0 h0 as t q h
      cases h
    · intro q0 h0 pc al st t q h
      cases h
  | succ n ih =>
    have hB := xBd_step hI ih.1 ih.2
    exact ⟨xMt_of hI hB, hB⟩
end ADA
