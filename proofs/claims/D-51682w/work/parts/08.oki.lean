/-! the rest: longs and doubles stored, long constants of text, the numbers of enum constants, lambdas made -/
set_option maxRecDepth 100000
section OKI
variable {z : XKT} {own : String} {cc : ByteArray} {nL : Nat} {ini : String × String} {pc : Nat} {f : XSem}
theorem XLv.set2 {ls ls1 : Array Slot} {al : XL} {k : Nat} {v : XV} {lv : List (Nat × Value)} (h0 : XLv nL ls al) (hx : xst al k = true) (hk : k + 1 < al.length) (e : (k, vcv v) :: (xkv al).filter (fun q => !(q.1 == k) && (!(q.1 == k + 1) && !(q.1 + 1 == k && q.2.category == 2))) = lv) (h : lv_has ls1 nL lv) : XLv nL ls1 ((al.set k (some v)).set (k + 1) none) := by
  subst e
  refine ⟨h.1, h.2.1, by rw [List.length_set, List.length_set]; exact h0.2.2.1, fun i w hi => ?_⟩
  by_cases hi1 : i = k + 1
  · subst hi1
    rw [List.getElem?_set_self (by rw [List.length_set]; exact hk)] at hi
    cases hi
  · rw [List.getElem?_set_ne (Ne.symm hi1)] at hi
    by_cases hik : i = k
    · subst hik
      rw [List.getElem?_set_self (xst_lt _ _ hx)] at hi
      cases hi
      exact h.2.2 (i, vcv v) List.mem_cons_self
    · rw [List.getElem?_set_ne (Ne.symm hik)] at hi
      refine h.2.2 (i, vcv w) (List.mem_cons_of_mem _ (List.mem_filter.mpr ⟨xkv_mem hi, ?_⟩))
      have h1 : (i == k) = false := by simpa using hik
      have h1' : (i == k + 1) = false := by simpa using hi1
      rw [h1, h1']
      by_cases hk9 : i + 1 = k
      · subst hk9
        have h2 := xst_prev al i (some w) hx hi
        have h3 : ((vcv w).category == 2) = false := by rw [vcv_cat, if_pos h2]; rfl
        rw [h3]
        simp
      · have h2 : (i + 1 == k) = false := by simpa using hk9
        rw [h2]
        simp
theorem ok_lstore_n {k : Fin 4} {i : Nat} (d : decode cc pc = .ok (.lstore_n k, 1)) (hi : (k : Nat) = i) : XOkS z own cc nL ini pc (i_lstore i (pc + 1)) :=
  XOkS.p fun {al st t q} hf => by
    unfold i_lstore at hf
    split at hf
    · split at hf
      · rename_i hx
        split at hf
        · rename_i hk
          cases hf
          exact ⟨rfl, fun hE _ _ hL _ _ k => lv_lstore_n hE.1 hE.2.1 d hi hL.has (by rw [← hL.2.2.1]; exact hk) rfl (fun ls1 h => k ls1 (XLv.set2 (v := vJ _) hL hx hk rfl h))⟩
        · cases hf
      · cases hf
    · cases hf
theorem ok_dstore {i : Nat} (d : decode cc pc = .ok (.dstore i, 2)) : XOkS z own cc nL ini pc (i_dstore i (pc + 2)) :=
  XOkS.p fun {al st t q} hf => by
    unfold i_dstore at hf
    split at hf
    · split at hf
      · rename_i hx
        split at hf
        · rename_i hk
          cases hf
          exact ⟨rfl, fun hE _ _ hL _ _ k => lv_dstore hE.1 hE.2.1 d hL.has (by rw [← hL.2.2.1]; exact hk) rfl (fun ls1 h => k ls1 (XLv.set2 (v := vD _) hL hx hk rfl h))⟩
        · cases hf
      · cases hf
    · cases hf
theorem xldcwS {p : Program} {l : Launch} {e : Env} {R : Room} {s : State} {m : MethodId} {args : Array Value} {below : List Frame} {meth : Method} {c : Code} {T : State} {locs : List Loc} {cells slots : Nat}
    (X : Stand p l e R s m args below meth c T locs cells slots) (hexec : p.tables.exec = Jvm.exec) {own text : String} {index : Nat} {a : Addr} (hown : s.vm.findClass own = some m.cls)
    (hconst : (Cond.stringRef own index text).before #[] s = true) (hev : (Term.string own index).eval #[] s none [] s = some (.ref a)) {g : JFrame} (hg : g.method = m) (hdg : decode c.code g.pc = .ok (.ldc_w index, 3)) :
    ∀ target, Steps p.tables e below (T.setTop { g with pc := g.pc + 3, stack := .ref a :: g.stack }) target → Steps p.tables e below (T.setTop g) target := by
  obtain ⟨k, cf, i, a', hk, hcf, hcp, -, hr, hev'⟩ := Cond.stringRef_spec hown hconst
  cases hev.symm.trans hev'
  obtain ⟨k', hk', he⟩ := X.warmed.alike.2.2 _ _ hk
  have hr' : k'.resolved[index]? = some (some (.string a)) := by
    rcases X.warmed.entry hk hk' index with h | ⟨h, -⟩
    · rw [h]; exact hr
    · rw [hr] at h; cases h
  intro target hrest
  subst hg
  jvm_step X.here [hexec, hdg, ldc_w.wp_string (s := T) (f := g) X.here.top hk' (by rw [he]; exact hcf) hcp hr']
  exact hrest
theorem ok_ldcsw {i j : Nat} {tx : String} (d : decode cc pc = .ok (.ldc_w i, 3)) (h : (own, i, tx, j) ∈ xStr) : XOkS z own cc nL ini pc (i_push (vR (some (z.2.1 j))) (pc + 3)) :=
  XOkS.p fun {al st t q} hf => by
    cases hf
    refine ⟨rfl, fun {p l e R s m args below meth c H locs cells slots Q ls} hE _ _ hL _ _ k => ?_⟩
    have hZ := hE.2.2.2.2.2.1.2.2.2.2.2.2.2.1 _ h
    intro T hT X
    obtain ⟨t9, a1, b1⟩ := k _ hL T hT X
    exact ⟨t9, xldcwS X hE.1 (own := own) (text := tx) (a := z.2.1 j) hE.2.2.2.1 hZ.1 hZ.2 (g := F0 m pc ls (vcs st)) rfl (by rw [hE.2.1]; exact d) t9 a1, b1⟩
/-- the number of an enum constant -/
theorem ok_geto {i f : Nat} {ref : String} {cs : List Nat} (d : decode cc pc = .ok (.getfield i, 3)) (hl : Cond.fieldLink own i "java/lang/Enum" "ordinal" "I" ∈ lw_all) (h : ∀ c ∈ cs, c ≠ 0 ∧ c < 1000 ∧ (∃ C, (c, C) ∈ xKds) ∧ (xFl c)[0]? = some (f, true)) : XOkS z own cc nL ini pc (i_geti cs f (pc + 3)) :=
  XOkS.p fun {al st t q} hf => by
    unfold i_geti at hf
    split at hf
    · split at hf
      · rename_i a r hc
        cases hf
        refine ⟨rfl, fun hE hR _ hL _ _ k => ?_⟩
        obtain ⟨h0, h1, ⟨C, hC⟩, hF⟩ := h _ hc
        obtain ⟨cf, kf, fi, fd, hi, hst, hsl⟩ := (hE.2.2.2.2.2.1.2.2.2.2.2.2.2.2.1 _ hC).2
        obtain ⟨cell, q1, q2, q3, q4, q5, q6⟩ := hR.ob rfl h0 h1
        have hv : xfv t (xcl t a) 0 a = .int (xfi t f a) := by unfold xfv; rw [hF]
        exact W.getf hE.1 hE.2.1 hE.2.2.2.1 (hE.2.2.2.2.1 _ hl) hi hst q1 q3 (by rw [hsl, q6 0 (List.getElem?_eq_some_iff.mp hF).1]; exact congrArg some hv) rfl rfl d (k _ hL)
      · cases hf
    · cases hf
end OKI
