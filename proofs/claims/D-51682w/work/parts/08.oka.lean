/-! OUR INSTRUCTIONS ARE THE MODEL'S: one lemma a kind -/
set_option maxRecDepth 100000
/-- statics, read off the start -/
def xSts : List (String × String × String × Nat) := [("WreckShares$Kind", "$VALUES", "[LWreckShares$Kind;", 0), ("WreckShares$Kind", "BALE", "LWreckShares$Kind;", 1), ("WreckShares$Kind", "CASK", "LWreckShares$Kind;", 2), ("WreckShares$Kind", "CHEST", "LWreckShares$Kind;", 3), ("WreckShares$Kind", "SPAR", "LWreckShares$Kind;", 4), ("WreckShares$Token", "END", "LWreckShares$Token;", 5), ("WreckShares$Token", "NUMBER", "LWreckShares$Token;", 6), ("WreckShares$Token", "SIGN", "LWreckShares$Token;", 7), ("WreckShares$Token", "WORD", "LWreckShares$Token;", 8), ("java/lang/Integer", "DigitOnes", "[B", 9), ("java/lang/Integer", "DigitTens", "[B", 10), ("java/lang/Integer$IntegerCache", "cache", "[Ljava/lang/Integer;", 11), ("java/util/ArrayList", "DEFAULTCAPACITY_EMPTY_ELEMENTDATA", "[Ljava/lang/Object;", 14), ("java/util/ArrayList", "EMPTY_ELEMENTDATA", "[Ljava/lang/Object;", 15)]
def xSti : List (String × String × String × Int32) := [("java/lang/Integer$IntegerCache", "high", "I", 127), ("java/lang/String", "COMPACT_STRINGS", "Z", 1), ("java/util/BitSet", "$assertionsDisabled", "Z", 1)]
def xStn : List (String × String × String × Nat) := [("java/lang/Throwable", "SUPPRESSED_SENTINEL", "Ljava/util/List;", 12), ("java/lang/Throwable", "UNASSIGNED_STACK", "[Ljava/lang/StackTraceElement;", 13), ("jdk/internal/util/Preconditions", "SIOOBE_FORMATTER", "Ljava/util/function/BiFunction;", 16)]
def XZs (z : XKT) (s : State) (H : Heap) : Prop := (∀ q ∈ xSts, va_Z q.1 q.2.1 q.2.2.1 (.ref (z.2.1 q.2.2.2)) (xA z) s H) ∧ (∀ q ∈ xSti, va_Z q.1 q.2.1 q.2.2.1 (.int q.2.2.2) (xA z) s H) ∧ (∀ q ∈ xStn, va_Z q.1 q.2.1 q.2.2.1 (va_rf (z.2.2.1 q.2.2.2)) (xA z) s H) ∧ (vx_L Bundle.tN "UNASSIGNED_STACK" Bundle.steD (xA z) s H ∧ vx_L Bundle.tN "SUPPRESSED_SENTINEL" Bundle.listD (xA z) s H)
theorem XZs.kept {z : XKT} {s : State} {H H1 : Heap} (hS : XSm z H H1) (h : XZs z s H) : XZs z s H1 := by
  have k : ∀ {C n d v}, va_Z C n d v (xA z) s H → va_Z C n d v (xA z) s H1 := by
    intro C n d v hz
    obtain ⟨cf, kf, fi, f, a, cell, h1, h2, h3, h4, h5, h6, h7, h8⟩ := hz
    exact ⟨cf, kf, fi, f, a, cell, h1, h2, h3, h4, by rw [hS.2 a (Nat.not_le.mp h8)]; exact h5, h6, h7, h8⟩
  have k2 : ∀ {C n d}, vx_L C n d (xA z) s H → vx_L C n d (xA z) s H1 := fun hz => hz.kept fun a _ ha => hS.2 a (Nat.not_le.mp ha)
  exact ⟨fun q hq => k (h.1 q hq), fun q hq => k (h.2.1 q hq), fun q hq => k (h.2.2.1 q hq), k2 h.2.2.2.1, k2 h.2.2.2.2⟩
theorem XZs.moved {z : XKT} {u U : State} {H : Heap} (hvm : u.vm.Alike U.vm) (h : XZs z u H) : XZs z U H := ⟨fun q hq => (h.1 q hq).moved hvm, fun q hq => (h.2.1 q hq).moved hvm, fun q hq => (h.2.2.1 q hq).moved hvm, h.2.2.2.1.moved hvm, h.2.2.2.2.moved hvm⟩
def XEn (z : XKT) (own : String) (cc : ByteArray) (nL : Nat) (ini : String × String) (p : Program) (l : Launch) (s : State) (m : MethodId) (args : Array Value) (meth : Method) (c : Code) : Prop :=
  p.tables.exec = Jvm.exec ∧ c.code = cc ∧ c.maxLocals = nL ∧ s.vm.findClass own = some m.cls ∧ (∀ w ∈ lw_all, w.before args s = true) ∧ XKn z s ∧ XZs z s s.heap ∧ meth.locks = false ∧ meth.name = ini.1 ∧ l.stackTraces = false ∧ s.methodNamed? ⟨own, ini.1, ini.2⟩ = some m
/-- f at pc is the model's instruction there -/
def XOk (z : XKT) (own : String) (cc : ByteArray) (nL : Nat) (ini : String × String) (pc : Nat) (f : XSem) : Prop :=
  ∀ {p : Program} {l : Launch} {e : Env} {R : Room} {s : State} {m : MethodId} {args : Array Value} {below : List Frame} {meth : Method} {c : Code} {H : Heap} {locs : List Loc} {cells slots : Nat} {Q : State → Prop} {ls : Array Slot} {al : XL} {st : XS} {t : XSt} {q : Nat × XL × XS × XSt},
    XEn z own cc nL ini p l s m args meth c → f al st t = some q → XRp z t H → XSm z s.heap H → XLv nL ls al → cells + (xnx q.2.2.2 - xnx t) ≤ R.cells → slots + (xus q.2.2.2 - xus t) ≤ R.slots → 8 ≤ R.frames → 4000 ≤ R.locals →
    (∀ (H1 : Heap) (ls1 : Array Slot) (L : List Loc), XRp z q.2.2.2 H1 → XSm z s.heap H1 → XLv nL ls1 q.2.1 → (∀ x ∈ L, z.1 ≤ x.base) → W p l e R s m args below meth c H1 (locs ++ L) (cells + (xnx q.2.2.2 - xnx t)) (slots + (xus q.2.2.2 - xus t)) Q (F0 m q.1 ls1 (vcs q.2.2.1))) →
    W p l e R s m args below meth c H locs cells slots Q (F0 m pc ls (vcs st))
def XMo (f : XSem) : Prop := ∀ {al : XL} {st : XS} {t : XSt} {q : Nat × XL × XS × XSt}, f al st t = some q → xnx t ≤ xnx q.2.2.2 ∧ xus t ≤ xus q.2.2.2
def XOkS (z : XKT) (own : String) (cc : ByteArray) (nL : Nat) (ini : String × String) (pc : Nat) (f : XSem) : Prop := XMo f ∧ XOk z own cc nL ini pc f
section OKA
variable {z : XKT} {own : String} {cc : ByteArray} {nL : Nat} {ini : String × String} {pc : Nat} {f : XSem}
/-- an instruction that leaves the heap -/
theorem XOkS.p (h : ∀ {al : XL} {st : XS} {t : XSt} {q : Nat × XL × XS × XSt}, f al st t = some q → q.2.2.2 = t ∧ ∀ {p : Program} {l : Launch} {e : Env} {R : Room} {s : State} {m : MethodId} {args : Array Value} {below : List Frame} {meth : Method} {c : Code} {H : Heap} {locs : List Loc} {cells slots : Nat} {Q : State → Prop} {ls : Array Slot},
    XEn z own cc nL ini p l s m args meth c → XRp z t H → XSm z s.heap H → XLv nL ls al → 8 ≤ R.frames → 4000 ≤ R.locals →
    (∀ ls1 : Array Slot, XLv nL ls1 q.2.1 → W p l e R s m args below meth c H locs cells slots Q (F0 m q.1 ls1 (vcs q.2.2.1))) → W p l e R s m args below meth c H locs cells slots Q (F0 m pc ls (vcs st))) : XOkS z own cc nL ini pc f := by
  refine ⟨fun hf => ?_, fun {p l e R s m args below meth c H locs cells slots Q ls al st t q} hE hf hR hS hL h1 h2 h3 h4 k => ?_⟩
  · rw [(h hf).1]; exact ⟨Nat.le_refl _, Nat.le_refl _⟩
  · obtain ⟨e1, k1⟩ := h hf
    refine k1 hE hR hS hL h3 h4 fun ls1 hl => ?_
    have k2 := k H ls1 [] (by rw [e1]; exact hR) hS hl (fun _ q => absurd q List.not_mem_nil)
    rw [e1, Nat.sub_self, Nat.sub_self, Nat.add_zero, Nat.add_zero, List.append_nil] at k2
    exact k2
theorem ok_iconst {n : Int} {v : Int32} (d : decode cc pc = .ok (.iconst n, 1)) (hv : Int32.ofInt n = v) : XOkS z own cc nL ini pc (i_push (vI v) (pc + 1)) :=
  XOkS.p fun hf => by cases hf; exact ⟨rfl, fun hE _ _ hL _ _ k => lv_iconst hE.1 hE.2.1 d hv (k _ hL)⟩
theorem ok_bipush {n : Int} {v : Int32} (d : decode cc pc = .ok (.bipush n, 2)) (hv : (Int8.ofInt n).toInt32 = v) : XOkS z own cc nL ini pc (i_push (vI v) (pc + 2)) :=
  XOkS.p fun hf => by cases hf; exact ⟨rfl, fun hE _ _ hL _ _ k => lv_bipush hE.1 hE.2.1 d hv (k _ hL)⟩
theorem ok_sipush {n : Int} {v : Int32} (d : decode cc pc = .ok (.sipush n, 3)) (hv : (Int16.ofInt n).toInt32 = v) : XOkS z own cc nL ini pc (i_push (vI v) (pc + 3)) :=
  XOkS.p fun hf => by cases hf; exact ⟨rfl, fun hE _ _ hL _ _ k => lv_sipush hE.1 hE.2.1 d hv (k _ hL)⟩
theorem ok_lconst {n : Fin 2} {v : Int64} (d : decode cc pc = .ok (.lconst n, 1)) (hv : Int64.ofNat (n : Nat) = v) : XOkS z own cc nL ini pc (i_push (vJ v) (pc + 1)) :=
  XOkS.p fun hf => by cases hf; exact ⟨rfl, fun hE _ _ hL _ _ k => lv_lconst hE.1 hE.2.1 d hv (k _ hL)⟩
theorem ok_fconst (d : decode cc pc = .ok (.fconst 0, 1)) : XOkS z own cc nL ini pc (i_push (vF 0) (pc + 1)) :=
  XOkS.p fun hf => by cases hf; exact ⟨rfl, fun hE _ _ hL _ _ k => lv_fconst0 hE.1 hE.2.1 d (k _ hL)⟩
theorem ok_dconst (d : decode cc pc = .ok (.dconst 0, 1)) : XOkS z own cc nL ini pc (i_push (vD 0) (pc + 1)) :=
  XOkS.p fun hf => by cases hf; exact ⟨rfl, fun hE _ _ hL _ _ k => lv_dconst0 hE.1 hE.2.1 d (k _ hL)⟩
theorem ok_null (d : decode cc pc = .ok (.aconst_null, 1)) : XOkS z own cc nL ini pc (i_push (vR none) (pc + 1)) :=
  XOkS.p fun hf => by cases hf; exact ⟨rfl, fun hE _ _ hL _ _ k => lv_null hE.1 hE.2.1 d (k _ hL)⟩
theorem ok_ldc {i : Nat} {v : Int32} (d : decode cc pc = .ok (.ldc i, 2)) (h : Cond.constant own i v ∈ lw_all) : XOkS z own cc nL ini pc (i_push (vI v) (pc + 2)) :=
  XOkS.p fun hf => by cases hf; exact ⟨rfl, fun hE _ _ hL _ _ k => lv_ldc hE.1 hE.2.1 hE.2.2.2.1 (hE.2.2.2.2.1 _ h) d (k _ hL)⟩
theorem ok_ldcw {i : Nat} {v : Int32} (d : decode cc pc = .ok (.ldc_w i, 3)) (h : Cond.constant own i v ∈ lw_all) : XOkS z own cc nL ini pc (i_push (vI v) (pc + 3)) :=
  XOkS.p fun hf => by cases hf; exact ⟨rfl, fun hE _ _ hL _ _ k => lv_ldcw hE.1 hE.2.1 hE.2.2.2.1 (hE.2.2.2.2.1 _ h) d (k _ hL)⟩
theorem ok_ldc2 {i : Nat} {v : Int64} (d : decode cc pc = .ok (.ldc2_w i, 3)) (h : Cond.constantLong own i v ∈ lw_all) : XOkS z own cc nL ini pc (i_push (vJ v) (pc + 3)) :=
  XOkS.p fun hf => by cases hf; exact ⟨rfl, fun hE _ _ hL _ _ k => lv_ldc2 hE.1 hE.2.1 hE.2.2.2.1 (hE.2.2.2.2.1 _ h) d (k _ hL)⟩
theorem ok_ldcs {i j : Nat} {tx : String} (d : decode cc pc = .ok (.ldc i, 2)) (h : (own, i, tx, j) ∈ xStr) : XOkS z own cc nL ini pc (i_push (vR (some (z.2.1 j))) (pc + 2)) :=
  XOkS.p fun hf => by cases hf; exact ⟨rfl, fun hE _ _ hL _ _ k => va_ldcS hE.1 hE.2.1 hE.2.2.2.1 (hE.2.2.2.2.2.1.2.2.2.2.2.2.2.1 _ h) d (k _ hL)⟩
/-! variables -/
theorem i_iload_spec {k nx : Nat} {al : XL} {st : XS} {t : XSt} {q} (h : i_iload k nx al st t = some q) : ∃ x, al[k]? = some (some (vI x)) ∧ q = (nx, al, vI x :: st, t) := by
  unfold i_iload at h
  split at h
  · rename_i x e
    cases h
    exact ⟨x, e, rfl⟩
  · cases h
theorem i_aload_spec {k nx : Nat} {al : XL} {st : XS} {t : XSt} {q} (h : i_aload k nx al st t = some q) : ∃ o, al[k]? = some (some (vR o)) ∧ q = (nx, al, vR o :: st, t) := by
  unfold i_aload at h
  split at h
  · rename_i x e
    cases h
    exact ⟨x, e, rfl⟩
  · cases h
theorem i_lload_spec {k nx : Nat} {al : XL} {st : XS} {t : XSt} {q} (h : i_lload k nx al st t = some q) : ∃ x, al[k]? = some (some (vJ x)) ∧ q = (nx, al, vJ x :: st, t) := by
  unfold i_lload at h
  split at h
  · rename_i x e
    cases h
    exact ⟨x, e, rfl⟩
  · cases h
theorem i_dload_spec {k nx : Nat} {al : XL} {st : XS} {t : XSt} {q} (h : i_dload k nx al st t = some q) : ∃ x, al[k]? = some (some (vD x)) ∧ q = (nx, al, vD x :: st, t) := by
  unfold i_dload at h
  split at h
  · rename_i x e
    cases h
    exact ⟨x, e, rfl⟩
  · cases h
theorem ok_iload_n {k : Fin 4} {i : Nat} (d : decode cc pc = .ok (.iload_n k, 1)) (hi : (k : Nat) = i) : XOkS z own cc nL ini pc (i_iload i (pc + 1)) :=
  XOkS.p fun hf => by obtain ⟨x, e, rfl⟩ := i_iload_spec hf; exact ⟨rfl, fun hE _ _ hL _ _ k => lv_iload_n hE.1 hE.2.1 d hi (hL.at e) (k _ hL)⟩
theorem ok_iload {i : Nat} (d : decode cc pc = .ok (.iload i, 2)) : XOkS z own cc nL ini pc (i_iload i (pc + 2)) :=
  XOkS.p fun hf => by obtain ⟨x, e, rfl⟩ := i_iload_spec hf; exact ⟨rfl, fun hE _ _ hL _ _ k => lv_iload hE.1 hE.2.1 d (hL.at e) (k _ hL)⟩
theorem ok_lload_n {k : Fin 4} {i : Nat} (d : decode cc pc = .ok (.lload_n k, 1)) (hi : (k : Nat) = i) : XOkS z own cc nL ini pc (i_lload i (pc + 1)) :=
  XOkS.p fun hf => by obtain ⟨x, e, rfl⟩ := i_lload_spec hf; exact ⟨rfl, fun hE _ _ hL _ _ k => lv_lload_n hE.1 hE.2.1 d hi (hL.at e) (k _ hL)⟩
theorem ok_lload {i : Nat} (d : decode cc pc = .ok (.lload i, 2)) : XOkS z own cc nL ini pc (i_lload i (pc + 2)) :=
  XOkS.p fun hf => by obtain ⟨x, e, rfl⟩ := i_lload_spec hf; exact ⟨rfl, fun hE _ _ hL _ _ k => lv_lload hE.1 hE.2.1 d (hL.at e) (k _ hL)⟩
theorem ok_dload {i : Nat} (d : decode cc pc = .ok (.dload i, 2)) : XOkS z own cc nL ini pc (i_dload i (pc + 2)) :=
  XOkS.p fun hf => by obtain ⟨x, e, rfl⟩ := i_dload_spec hf; exact ⟨rfl, fun hE _ _ hL _ _ k => lv_dload hE.1 hE.2.1 d (hL.at e) (k _ hL)⟩
theorem ok_aload_n {k : Fin 4} {i : Nat} (d : decode cc pc = .ok (.aload_n k, 1)) (hi : (k : Nat) = i) : XOkS z own cc nL ini pc (i_aload i (pc + 1)) :=
  XOkS.p fun hf => by
    obtain ⟨o, e, rfl⟩ := i_aload_spec hf
    refine ⟨rfl, fun hE _ _ hL _ _ k => ?_⟩
    cases o with
    | none => exact lv_aload_nN hE.1 hE.2.1 d hi (hL.at e) (k _ hL)
    | some a => exact lv_aload_n hE.1 hE.2.1 d hi (hL.at e) (k _ hL)
theorem ok_aload {i : Nat} (d : decode cc pc = .ok (.aload i, 2)) : XOkS z own cc nL ini pc (i_aload i (pc + 2)) :=
  XOkS.p fun hf => by
    obtain ⟨o, e, rfl⟩ := i_aload_spec hf
    refine ⟨rfl, fun hE _ _ hL _ _ k => ?_⟩
    cases o with
    | none => exact lv_aloadN hE.1 hE.2.1 d (hL.at e) (k _ hL)
    | some a => exact lv_aload hE.1 hE.2.1 d (hL.at e) (k _ hL)
theorem xst_lt : ∀ (l : XL) (k : Nat), xst l k = true → k < l.length
  | [], _, h => by simp [xst] at h
  | _ :: _, 0, _ => by simp
  | [v], 1, h => by simp [xst] at h
  | v :: w :: r, 1, h => by simp
  | v :: r, k + 2, h => by
    have := xst_lt r (k + 1) (by simpa [xst] using h)
    simp only [List.length_cons]; omega
theorem xst_prev : ∀ (l : XL) (i : Nat) (o : Option XV), xst l (i + 1) = true → l[i]? = some o → xone o = true
  | [], _, _, h, _ => by simp [xst] at h
  | [v], 0, _, h, _ => by simp [xst] at h
  | v :: w :: r, 0, o, h, e => by
    simp only [List.getElem?_cons_zero, Option.some.injEq] at e
    subst e
    simpa [xst] using h
  | v :: r, i + 1, o, h, e => xst_prev r i o (by simpa [xst] using h) (by simpa using e)
/-- all that is known of the variables -/
def xkv (al : XL) : List (Nat × Value) := (List.range al.length).filterMap fun i => match al[i]? with
  | some (some v) => some (i, vcv v)
  | _ => none
theorem xkv_mem {al : XL} {i : Nat} {v : XV} (h : al[i]? = some (some v)) : (i, vcv v) ∈ xkv al := by
  refine List.mem_filterMap.mpr ⟨i, List.mem_range.mpr (List.getElem?_eq_some_iff.mp h).1, ?_⟩
  rw [h]
theorem XLv.has {ls : Array Slot} {al : XL} (h : XLv nL ls al) : lv_has ls nL (xkv al) := by
  refine ⟨h.1, h.2.1, fun q hq => ?_⟩
  obtain ⟨i, -, hi⟩ := List.mem_filterMap.mp hq
  split at hi
  · rename_i v e
    cases hi
    exact h.at e
  · cases hi
theorem XLv.set1 {ls1 : Array Slot} {al : XL} {k : Nat} {v : XV} {lv : List (Nat × Value)} (hn : al.length = nL) (hx : xst al k = true) (e : (k, vcv v) :: (xkv al).filter (fun q => !(q.1 == k) && !(q.1 + 1 == k && q.2.category == 2)) = lv) (h : lv_has ls1 nL lv) : XLv nL ls1 (al.set k (some v)) := by
  subst e
  refine ⟨h.1, h.2.1, by rw [List.length_set]; exact hn, fun i w hi => ?_⟩
  by_cases hik : i = k
  · subst hik
    rw [List.getElem?_set_self (xst_lt _ _ hx)] at hi
    cases hi
    exact h.2.2 (i, vcv v) List.mem_cons_self
  · rw [List.getElem?_set_ne (Ne.symm hik)] at hi
    refine h.2.2 (i, vcv w) (List.mem_cons_of_mem _ (List.mem_filter.mpr ⟨xkv_mem hi, ?_⟩))
    have h1 : (i == k) = false := by simpa using hik
    rw [h1]
    by_cases hk : i + 1 = k
    · subst hk
      have h2 := xst_prev al i (some w) hx hi
      have h3 : ((vcv w).category == 2) = false := by rw [vcv_cat, if_pos h2]; rfl
      rw [h3]
      simp
    · have h2 : (i + 1 == k) = false := by simpa using hk
      rw [h2]
      simp
theorem ok_istore_n {k : Fin 4} {i : Nat} (d : decode cc pc = .ok (.istore_n k, 1)) (hi : (k : Nat) = i) : XOkS z own cc nL ini pc (i_istore i (pc + 1)) :=
  XOkS.p fun {al st t q} hf => by
    unfold i_istore at hf
    split at hf
    · split at hf
      · rename_i hx
        cases hf
        exact ⟨rfl, fun hE _ _ hL _ _ k => lv_istore_n hE.1 hE.2.1 d hi hL.has (by rw [← hL.2.2.1]; exact xst_lt _ _ hx) rfl (fun ls1 h => k ls1 (XLv.set1 (v := vI _) hL.2.2.1 hx rfl h))⟩
      · cases hf
    · cases hf
theorem ok_istore {i : Nat} (d : decode cc pc = .ok (.istore i, 2)) : XOkS z own cc nL ini pc (i_istore i (pc + 2)) :=
  XOkS.p fun {al st t q} hf => by
    unfold i_istore at hf
    split at hf
    · split at hf
      · rename_i hx
        cases hf
        exact ⟨rfl, fun hE _ _ hL _ _ k => lv_istore hE.1 hE.2.1 d hL.has (by rw [← hL.2.2.1]; exact xst_lt _ _ hx) rfl (fun ls1 h => k ls1 (XLv.set1 (v := vI _) hL.2.2.1 hx rfl h))⟩
      · cases hf
    · cases hf
theorem ok_astore_n {k : Fin 4} {i : Nat} (d : decode cc pc = .ok (.astore_n k, 1)) (hi : (k : Nat) = i) : XOkS z own cc nL ini pc (i_astore i (pc + 1)) :=
  XOkS.p fun {al st t q} hf => by
    unfold i_astore at hf
    split at hf
    · rename_i o r
      split at hf
      · rename_i hx
        cases hf
        refine ⟨rfl, fun hE _ _ hL _ _ k => ?_⟩
        cases o with
        | none => exact lv_astore_nN hE.1 hE.2.1 d hi hL.has (by rw [← hL.2.2.1]; exact xst_lt _ _ hx) rfl (fun ls1 h => k ls1 (XLv.set1 (v := vR none) hL.2.2.1 hx rfl h))
        | some a => exact lv_astore_n hE.1 hE.2.1 d hi hL.has (by rw [← hL.2.2.1]; exact xst_lt _ _ hx) rfl (fun ls1 h => k ls1 (XLv.set1 (v := vR (some a)) hL.2.2.1 hx rfl h))
      · cases hf
    · cases hf
theorem ok_astore {i : Nat} (d : decode cc pc = .ok (.astore i, 2)) : XOkS z own cc nL ini pc (i_astore i (pc + 2)) :=
  XOkS.p fun {al st t q} hf => by
    unfold i_astore at hf
    split at hf
    · rename_i o r
      split at hf
      · rename_i hx
        cases hf
        refine ⟨rfl, fun hE _ _ hL _ _ k => ?_⟩
        cases o with
        | none => exact lv_astoreN hE.1 hE.2.1 d hL.has (by rw [← hL.2.2.1]; exact xst_lt _ _ hx) rfl (fun ls1 h => k ls1 (XLv.set1 (v := vR none) hL.2.2.1 hx rfl h))
        | some a => exact lv_astore hE.1 hE.2.1 d hL.has (by rw [← hL.2.2.1]; exact xst_lt _ _ hx) rfl (fun ls1 h => k ls1 (XLv.set1 (v := vR (some a)) hL.2.2.1 hx rfl h))
      · cases hf
    · cases hf
theorem xkv_fst {al : XL} {i : Nat} {x : Int32} (h : al[i]? = some (some (vI x))) : ∃ k : Nat, (xkv al)[k]? = some (i, Value.int x) := by
  have := xkv_mem h
  exact List.getElem?_of_mem this
theorem ok_iinc {i : Nat} {n : Int} {v : Int32} (d : decode cc pc = .ok (.iinc i n, 3)) (hv : Int32.ofInt n = v) : XOkS z own cc nL ini pc (i_iinc i v (pc + 3)) :=
  XOkS.p fun {al st t q} hf => by
    unfold i_iinc at hf
    split at hf
    · rename_i x e
      split at hf
      · rename_i hx
        cases hf
        obtain ⟨k9, hk9⟩ := xkv_fst e
        exact ⟨rfl, fun hE _ _ hL _ _ k => lv_iinc (v := x + v) hE.1 hE.2.1 d hL.has hk9 (by rw [hv]) (by rw [← hL.2.2.1]; exact xst_lt _ _ hx) rfl (fun ls1 h => k ls1 (XLv.set1 (v := vI _) hL.2.2.1 hx rfl h))⟩
      · cases hf
    · cases hf
end OKA
