/-! clones of arrays -/
set_option maxRecDepth 100000
section OKH
variable {z : XKT} {own : String} {cc : ByteArray} {nL : Nat} {ini : String × String} {pc : Nat} {f : XSem}
theorem xclone {p : Program} {l : Launch} {e : Env} {R : Room} {s : State} {m : MethodId} {args : Array Value} {below : List Frame} {meth : Method} {cd : Code} {H : Heap} {locs : List Loc} {cells slots : Nat} {Q : State → Prop} {ls : Array Slot} {t t1 : XSt} {a c i : Nat} {r : List Value} {ty : FieldType} {ad : String}
    (hE : XEn z own cc nL ini p l s m args meth cd) (hR : XRp z t H) (hS : XSm z s.heap H) (hls : ls.size = nL) (d : decode cc pc = .ok (.invokevirtual i, 3)) (had : "[" ++ ty.toString = ad)
    (h1 : Cond.methodLink own i ⟨ad, "clone", "()Ljava/lang/Object;"⟩ ∈ lw_all) (h2 : Cond.sameMethod ad "java/lang/Object" "clone" "()Ljava/lang/Object;" ∈ lw_all) (h3 : Cond.native ⟨"java/lang/Object", "clone", "()Ljava/lang/Object;"⟩ ∈ lw_all) (h4 : Cond.instanceMethod ⟨"java/lang/Object", "clone", "()Ljava/lang/Object;"⟩ ∈ lw_all)
    (h5 : Cond.selects ad ⟨ad, "clone", "()Ljava/lang/Object;"⟩ ⟨"java/lang/Object", "clone", "()Ljava/lang/Object;"⟩ ∈ lw_all) (h6 : Cond.castable ad "java/lang/Cloneable" ∈ lw_tbl) (hc : (c, ty) ∈ xArs) (h1000 : 1000 ≤ c) (hne : c = 1001 → ∀ j, j < xln t a → fits .byte (.int (xai t1 (xnx t) j)) = true) (ha : xcl t a = c) (hfit : ∀ j, j < xln t a → fits ty (xev t c a j) = true)
    (hfr : 8 ≤ R.frames) (hlo : (r.map fun v => v.category).sum + 14 ≤ R.locals) (hcl : cells + 1 ≤ R.cells) (hsl : slots + xln t a ≤ R.slots)
    (hn : xnx t1 = xnx t + 1) (hv : ∀ b, b ≠ xnx t → xSv t t1 b) (hc1 : xcl t1 (xnx t) = c) (hl1 : xln t1 (xnx t) = xln t a) (he : ∀ j, xev t1 c (xnx t) j = xev t c a j)
    (k : ∀ (H1 : Heap), XRp z t1 H1 → H1.size = H.size + 1 → (∀ x, x < H.size → H1[x]? = H[x]?) → W p l e R s m args below meth cd H1 locs (cells + 1) (slots + xln t a) Q (F0 m (pc + 3) ls (.ref (xnx t) :: r))) : W p l e R s m args below meth cd H locs cells slots Q (F0 m pc ls (.ref a :: r)) := by
  obtain ⟨cell, q1, q2, q3, q4, q5, q6, q7⟩ := hR.ar ha h1000
  have hnm : s.vm.findClass ad = some (xaC z c) := by
    have h2 := (hE.2.2.2.2.2.1.2.1 _ hc).2
    rw [← had]
    cases ty with
    | object n => obtain ⟨kA, comp, g1, g2, g3, g4⟩ := h2; exact g4
    | _ => exact h2
  obtain ⟨c0, t0', f1, f2, f3⟩ := Cond.castable_spec (va_Nw.use (A := args) rfl (hE.2.2.2.2.2.1.2.2.1 _ h6 rfl))
  cases hnm.symm.trans f1
  intro T hT X
  have hcellT : T.heap[a]? = some cell := by rw [hT]; exact q1
  obtain ⟨-, kA, hkA, comp, hkind⟩ := State.isArrayOf_alike X.warmed.alike ((hE.2.2.2.2.2.1.2.1 _ hc).1 0 (fun _ => .null))
  obtain ⟨-, kS, hkS, compS, hkindS⟩ := (hE.2.2.2.2.2.1.2.1 _ hc).1 0 (fun _ => .null)
  obtain ⟨vm', X', st⟩ := X.cloneArray hE.1 hE.2.2.2.1 (hE.2.2.2.2.1 _ h1) (hE.2.2.2.2.1 _ h2) (hE.2.2.2.2.1 _ h3) (hE.2.2.2.2.1 _ h4) (hE.2.2.2.2.1 _ h5) (a := a) (cell := cell) hcellT (fun k h => by rw [h] at q4; cases q4) q3 (by rw [q2]; exact hnm) f2 (by rw [q2]; exact f3)
    (fun i9 v hv9 => by
      rw [q2]
      have hk' : T.vm.classes[xaC z c]? = some kA := hkA
      have hi9 : i9 < xln t a := by rw [← q6]; exact (Array.getElem?_eq_some_iff.mp hv9).1
      have hv8 : v = xev t c a i9 := Option.some.inj (hv9.symm.trans (q7 i9 hi9))
      rw [hv8]
      have h88 := hfit i9 hi9
      simpa [State.fitsSlot, State.slotType?, hk', hkind] using h88)
    (g := F0 m pc ls (.ref a :: r)) rfl (by rw [hE.2.2.1]; exact hls) rfl (by rw [hE.2.1]; exact d) (by omega) (by show 2 * 0 + _ + 14 ≤ _; omega) hcl (by rw [q6]; exact hsl) (hloader := by rw [q2]; exact Vm.clonesLoader_of_array hkS hkindS)
  rw [q6] at X'
  have hsz := hR.size
  have hnew : ({ cls := cell.cls, slots := cell.slots } : Cell) = arrV (xaC z c) (xln t a) (fun j => xev t c a j) := by
    have e9 : cell.slots = Array.ofFn (n := xln t a) fun j => xev t c a j.val := by
      apply Array.ext
      · simp [q6]
      · intro j hj1 hj2
        have := q7 j (by omega)
        rw [Array.getElem?_eq_getElem hj1] at this
        simpa using this
    rw [q2, e9]
    rfl
  rw [hnew] at X'
  generalize hH1 : H.push (arrV (xaC z c) (xln t a) (fun j => xev t c a j)) = H1
  have z1 : H1.size = H.size + 1 := by rw [← hH1, Array.size_push]
  have e1 : H1[xnx t]? = some (arrV (xaC z c) (xln t a) (fun j => xev t c a j)) := by rw [← hH1, ← hsz, Array.getElem?_push_size]
  have o1 : ∀ q : Nat, q < H.size → H1[q]? = H[q]? := fun q hq => by rw [← hH1, Array.getElem?_push, if_neg (Nat.ne_of_lt hq)]
  have hR1 : XRp z t1 H1 := by
    refine hR.push z1 o1 hn hv fun _ => ?_
    rw [hc1, hl1]
    refine ⟨by omega, fun q => by omega, fun _ => ⟨⟨_, e1, rfl, (fun q => nomatch q), rfl, fun _ => arrV_congr (fun j _ => (he j).symm), arrV_size _ _ _, fun j hj => ?_⟩, fun q => hne q⟩⟩
    rw [arrV_read _ _ hj]
    exact congrArg some (he j).symm
  obtain ⟨t9, b1, b2⟩ := k H1 hR1 z1 o1 ((T.setVm vm').pushCell (arrV (xaC z c) (xln t a) (fun j => xev t c a j))) (by rw [← hH1, ← hT]; rfl) X'
  refine ⟨t9, st t9 ?_, b2⟩
  rw [hnew, hT, hsz]
  exact b1
theorem ok_clone {i : Nat} (d : decode cc pc = .ok (.invokevirtual i, 3)) (h1 : Cond.methodLink own i ⟨"[I", "clone", "()Ljava/lang/Object;"⟩ ∈ lw_all) (h2 : Cond.sameMethod "[I" "java/lang/Object" "clone" "()Ljava/lang/Object;" ∈ lw_all) (h3 : Cond.native ⟨"java/lang/Object", "clone", "()Ljava/lang/Object;"⟩ ∈ lw_all) (h4 : Cond.instanceMethod ⟨"java/lang/Object", "clone", "()Ljava/lang/Object;"⟩ ∈ lw_all)
    (h5 : Cond.selects "[I" ⟨"[I", "clone", "()Ljava/lang/Object;"⟩ ⟨"java/lang/Object", "clone", "()Ljava/lang/Object;"⟩ ∈ lw_all) (h6 : Cond.castable "[I" "java/lang/Cloneable" ∈ lw_tbl) : XOkS z own cc nL ini pc (i_clone 1000 (pc + 3)) :=
  XOkS.n (fun t _ st => match st with | Sum.inr (Sum.inl (some a)) :: _ => xln t a | _ => 0) fun {al st t q} hf => by
    unfold i_clone at hf
    split at hf
    · split at hf
      case isFalse => cases hf
      rename_i hw
      split at hf
      · rename_i a r ha
        cases hf
        refine ⟨rfl, rfl, rfl, fun {p l e R s m args below meth cd H locs cells slots Q ls} hE hR hS hcl hs hfr hlo hls k => ?_⟩
        have e1 : ∀ j, xev t 1000 a j = .int (xai t a j) := fun j => xev_i (by decide) (by decide)
        refine xclone (t1 := xsra (xnai t 1000 (xln t a)) (xnx t) (xai t a)) (ty := .int) hE hR hS hls d rfl h1 h2 h3 h4 h5 h6 (List.mem_of_getElem? (i := 0) rfl) (by decide) (fun q9 => absurd q9 (by decide)) ha (fun j _ => by rw [e1 j]; rfl) hfr ?_ hcl hs rfl (fun b hb => ⟨by rw [xcl_xsra, xcl_xnai, if_neg hb], by rw [xln_xsra, xln_xnai, if_neg hb], fun _ => rfl, fun j => ?_, ?_⟩) (by rw [xcl_xsra, xcl_xnai, if_pos rfl]) (by rw [xln_xsra, xln_xnai, if_pos rfl]) (fun j => by rw [e1 j, xev_i (by decide) (by decide), xai_xsra, if_pos rfl]) k
        · show ((vcs r).map fun v => v.category).sum + 14 ≤ _
          rw [vcs_sum]
          omega
        · simp only [xev, xai_xsra, if_neg hb, xai_xnai]
          rfl
        · funext j
          rw [xai_xsra, if_neg hb, xai_xnai, if_neg hb]
      · cases hf
    · cases hf
theorem ok_cloneB {i : Nat} (d : decode cc pc = .ok (.invokevirtual i, 3)) (h1 : Cond.methodLink own i ⟨"[B", "clone", "()Ljava/lang/Object;"⟩ ∈ lw_all) (h2 : Cond.sameMethod "[B" "java/lang/Object" "clone" "()Ljava/lang/Object;" ∈ lw_all) (h3 : Cond.native ⟨"java/lang/Object", "clone", "()Ljava/lang/Object;"⟩ ∈ lw_all) (h4 : Cond.instanceMethod ⟨"java/lang/Object", "clone", "()Ljava/lang/Object;"⟩ ∈ lw_all)
    (h5 : Cond.selects "[B" ⟨"[B", "clone", "()Ljava/lang/Object;"⟩ ⟨"java/lang/Object", "clone", "()Ljava/lang/Object;"⟩ ∈ lw_all) (h6 : Cond.castable "[B" "java/lang/Cloneable" ∈ lw_tbl) : XOkS z own cc nL ini pc (i_clone 1001 (pc + 3)) :=
  XOkS.n (fun t _ st => match st with | Sum.inr (Sum.inl (some a)) :: _ => xln t a | _ => 0) fun {al st t q} hf => by
    unfold i_clone at hf
    split at hf
    · split at hf
      case isFalse => cases hf
      rename_i hw
      split at hf
      · rename_i a r ha
        cases hf
        refine ⟨rfl, rfl, rfl, fun {p l e R s m args below meth cd H locs cells slots Q ls} hE hR hS hcl hs hfr hlo hls k => ?_⟩
        have hby : ∀ j, j < xln t a → fits .byte (.int (xai t a j)) = true := ((hR.2.2 a (by rw [ha]; decide)).2.2 (by rw [ha]; decide)).2 ha
        have e1 : ∀ j, xev t 1001 a j = .int (xai t a j) := fun j => xev_i (by decide) (by decide)
        refine xclone (t1 := xsra (xnai t 1001 (xln t a)) (xnx t) (xai t a)) (ty := .byte) hE hR hS hls d rfl h1 h2 h3 h4 h5 h6 (List.mem_of_getElem? (i := 1) rfl) (by decide) (fun _ j hj => by rw [xai_xsra, if_pos rfl]; exact hby j hj) ha (fun j hj => by rw [e1 j]; exact hby j hj) hfr ?_ hcl hs rfl (fun b hb => ⟨by rw [xcl_xsra, xcl_xnai, if_neg hb], by rw [xln_xsra, xln_xnai, if_neg hb], fun _ => rfl, fun j => ?_, ?_⟩) (by rw [xcl_xsra, xcl_xnai, if_pos rfl]) (by rw [xln_xsra, xln_xnai, if_pos rfl]) (fun j => by rw [e1 j, xev_i (by decide) (by decide), xai_xsra, if_pos rfl]) k
        · show ((vcs r).map fun v => v.category).sum + 14 ≤ _
          rw [vcs_sum]
          omega
        · simp only [xev, xai_xsra, if_neg hb, xai_xnai]
          rfl
        · funext j
          rw [xai_xsra, if_neg hb, xai_xnai, if_neg hb]
      · cases hf
    · cases hf
theorem ok_cloner {i : Nat} {ad E : String} {c : Nat} (d : decode cc pc = .ok (.invokevirtual i, 3)) (had : "[" ++ (FieldType.object E).toString = ad) (h1 : Cond.methodLink own i ⟨ad, "clone", "()Ljava/lang/Object;"⟩ ∈ lw_all) (h2 : Cond.sameMethod ad "java/lang/Object" "clone" "()Ljava/lang/Object;" ∈ lw_all) (h3 : Cond.native ⟨"java/lang/Object", "clone", "()Ljava/lang/Object;"⟩ ∈ lw_all) (h4 : Cond.instanceMethod ⟨"java/lang/Object", "clone", "()Ljava/lang/Object;"⟩ ∈ lw_all)
    (h5 : Cond.selects ad ⟨ad, "clone", "()Ljava/lang/Object;"⟩ ⟨"java/lang/Object", "clone", "()Ljava/lang/Object;"⟩ ∈ lw_all) (h6 : Cond.castable ad "java/lang/Cloneable" ∈ lw_tbl) (hc : (c, FieldType.object E) ∈ xArs) (hc1 : 1003 ≤ c) : XOkS z own cc nL ini pc (i_cloner c (pc + 3)) :=
  XOkS.n (fun t _ st => match st with | Sum.inr (Sum.inl (some a)) :: _ => xln t a | _ => 0) fun {al st t q} hf => by
    unfold i_cloner at hf
    split at hf
    · split at hf
      case isFalse => cases hf
      rename_i hw
      split at hf
      · rename_i a r ha
        cases hf
        refine ⟨rfl, rfl, rfl, fun {p l e R s m args below meth cd H locs cells slots Q ls} hE hR hS hcl hs hfr hlo hls k => ?_⟩
        have e1 : ∀ j, xev t c a j = va_rf (xar t a j) := fun j => xev_r hc1
        refine xclone (t1 := xsrr (xnar t c (xln t a)) (xnx t) (xar t a)) (ty := .object E) hE hR hS hls d had h1 h2 h3 h4 h5 h6 hc (by omega) (fun q9 => by omega) ha (fun j _ => by rw [e1 j]; cases xar t a j <;> rfl) hfr ?_ hcl hs rfl (fun b hb => ⟨by rw [xcl_xsrr, xcl_xnar, if_neg hb], by rw [xln_xsrr, xln_xnar, if_neg hb], fun _ => rfl, fun j => ?_, rfl⟩) (by rw [xcl_xsrr, xcl_xnar, if_pos rfl]) (by rw [xln_xsrr, xln_xnar, if_pos rfl]) (fun j => by rw [e1 j, xev_r hc1, xar_xsrr, if_pos rfl]) k
        · show ((vcs r).map fun v => v.category).sum + 14 ≤ _
          rw [vcs_sum]
          omega
        · simp only [xev, xar_xsrr, if_neg hb, xar_xnar]
          rfl
      · cases hf
    · cases hf
end OKH
