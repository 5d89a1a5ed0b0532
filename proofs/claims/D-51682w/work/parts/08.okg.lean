/-! copies, clones, made objects -/
set_option maxRecDepth 100000
section OKG
variable {z : XKT} {own : String} {cc : ByteArray} {nL : Nat} {ini : String × String} {pc : Nat} {f : XSem}
theorem ok_oinit {i : Nat} (d : decode cc pc = .ok (.invokespecial i, 3)) (h1 : Cond.methodLink own i Lib.objectInit ∈ lw_all) (h2 : Cond.instanceMethod Lib.objectInit ∈ lw_all) (h3 : Cond.code Lib.objectInit ⟨#[0xb1]⟩ 1 none ∈ lw_all) : XOkS z own cc nL ini pc (i_oinit (pc + 3)) :=
  XOkS.p fun {al st t q} hf => by
    unfold i_oinit at hf
    split at hf
    · rename_i a r
      split at hf
      case isFalse => cases hf
      rename_i hw
      cases hf
      refine ⟨rfl, fun hE hR _ hL hfr hlo k => ?_⟩
      refine W.objInit hE.1 hE.2.1 hE.2.2.2.1 (hE.2.2.2.2.1 _ h1) (hE.2.2.2.2.1 _ h2) (hE.2.2.2.2.1 _ h3) rfl (by rw [hE.2.2.1]; exact hL.1) rfl d (by omega) ?_ (k _ hL)
      show 2 * 0 + ((vcs r).map fun v => v.category).sum + 12 ≤ _
      rw [vcs_sum]
      omega
    · cases hf
theorem ok_castA {i c : Nat} {ty : FieldType} (d : decode cc pc = .ok (.checkcast i, 3)) (hl : Cond.classLink own i ("[" ++ ty.toString) ∈ lw_all) (hc : (c, ty) ∈ xArs) (h1000 : 1000 ≤ c) : XOkS z own cc nL ini pc (i_cast [c] (pc + 3)) :=
  XOkS.p fun {al st t q} hf => by
    unfold i_cast at hf
    split at hf
    · split at hf
      · rename_i o r hany
        cases hf
        refine ⟨rfl, fun {p l e R s m args below meth cd H locs cells slots Q ls} hE hR _ hL _ _ k => ?_⟩
        cases o with
        | none => exact lv_castN hE.1 hE.2.1 d (k _ hL)
        | some a =>
          have hw : xcl t a = c := by simpa [xany] using hany
          obtain ⟨cell, q1, q2, q3, q4, q5, q6, q7⟩ := hR.ar hw h1000
          have hnm : s.vm.findClass ("[" ++ ty.toString) = some (xaC z c) := by
            have h2 := (hE.2.2.2.2.2.1.2.1 _ hc).2
            cases ty with
            | object n => obtain ⟨kA, comp, g1, g2, g3, g4⟩ := h2; exact g4
            | _ => exact h2
          intro T hT X
          obtain ⟨vm', X', st9⟩ := X.checkcastYes hE.1 hE.2.2.2.1 (hE.2.2.2.2.1 _ hl) (by rw [hT]; exact q1) q4 hnm (by rw [q2]; exact va_asg _ _) (g := F0 m pc ls (vcs (vR (some a) :: r))) rfl rfl (by rw [hE.2.1]; exact d)
          obtain ⟨t9, a1, b1⟩ := k _ hL (T.setVm vm') hT X'
          exact ⟨t9, st9 t9 a1, b1⟩
      · cases hf
    · cases hf
theorem ok_acopy {i c : Nat} {ty : FieldType} (d : decode cc pc = .ok (.invokestatic i, 3)) (h1 : Cond.methodLink own i arraycopyName ∈ lw_all) (h2 : Cond.native arraycopyName ∈ lw_all) (h3 : Cond.static arraycopyName ∈ lw_all) (h4 : Cond.initialized "java/lang/System" ∈ lw_all) (hc : (c, ty) ∈ xArs) (hty : ty = .int ∨ (ty = .byte ∧ c = 1001)) (h1000 : 1000 ≤ c) (h1003 : c < 1003) (hne : c ≠ 1002) : XOkS z own cc nL ini pc (i_acopy z.1 c (pc + 3)) :=
  XOkS.w fun {al st t q} hf => by
    unfold i_acopy at hf
    split at hf
    · split at hf
      case isFalse => cases hf
      rename_i hw
      split at hf
      · rename_i n dp dd sp a r hcond
        cases hf
        refine ⟨rfl, rfl, rfl, fun {p l e R s m args below meth cd H locs cells slots Q ls} hE hR hS hL hfr hlo k => ?_⟩
        obtain ⟨⟨hb, ca, cD⟩, ⟨g1, g2, g3⟩, g4, g5⟩ := hcond
        have nn : ∀ z : Int32, ¬ z < 0 → z.toInt = (z.toNatClampNeg : Int) := by
          intro z hz
          have hz0 : (0 : Int) ≤ z.toInt := by
            have := Int32.not_lt.mp hz
            simpa using Int32.le_iff_toInt_le.mp this
          show z.toInt = ((z.toInt.toNat : Nat) : Int)
          omega
        have hRa := hR.2.2 a (by omega)
        obtain ⟨cs, a1, a2, a3, a4, a5, a6, a7⟩ := hR.ar ca h1000
        obtain ⟨cdst, b1, b2, b3, b4, b5, b6, b7⟩ := hR.ar cD h1000
        have hV : ∀ j, xev t c a j = .int (xai t a j) := fun j => xev_i hne h1003
        have hW : ∀ j, xev t c dd j = .int (xai t dd j) := fun j => xev_i hne h1003
        have hcd : cdst = arrV (xaC z c) (xln t dd) (fun j => .int (xai t dd j)) := (b5 hb).trans (arrV_congr fun j _ => hW j)
        obtain ⟨-, k0, hk0, cm0, hkk0⟩ := (hE.2.2.2.2.2.1.2.1 _ hc).1 0 (fun _ => .null)
        intro T hT X
        obtain ⟨vm', X', step⟩ := X.arraycopy hE.1 hE.2.2.2.1 (hE.2.2.2.2.1 _ h1) (hE.2.2.2.2.1 _ h2) (hE.2.2.2.2.1 _ h3) (hE.2.2.2.2.1 _ h4) (src := a) (dst := dd) (cs := cs) (cd := cdst) (srcPos := sp) (destPos := dp) (n := n) (by rw [hT]; exact a1) (by rw [hT]; exact b1)
          (fun _ h => by rw [h] at a4; cases a4) (fun _ h => by rw [h] at b4; cases b4) a3 b3 (by rw [a2]; exact hk0) (by rw [b2]; exact hk0) hkk0 hkk0 (by rcases hty with e | ⟨e, -⟩ <;> simp [e, refKind]) g1 g2 g3
          (by rw [nn sp g1, nn n g3, a6]; omega)
          (by rw [nn dp g2, nn n g3, b6]; omega)
          (fun vm₁ _ i9 hi => by
            have e : cs.slots.getD (sp.toNatClampNeg + i9) .null = .int (xai t a (sp.toNatClampNeg + i9)) := by
              rw [Array.getD_eq_getD_getElem?, a7 _ (by omega)]
              exact hV _
            refine ⟨?_, ?_⟩
            · rw [e]
              rcases hty with e9 | ⟨e9, hc9⟩
              · rw [e9]; rfl
              · rw [e9]
                exact ((hRa.2.2 (by omega)).2 (by omega)) _ (by omega)
            · rw [e]
              exact trivial)
          (g := F0 m pc ls (vcs (vI n :: vI dp :: vR (some dd) :: vI sp :: vR (some a) :: r))) rfl (by rw [hE.2.2.1]; exact hL.1) (rest := vcs r) rfl (by rw [hE.2.1]; exact d) (by omega) (by
            show 2 * 0 + ((vcs r).map fun v => v.category).sum + _ ≤ _
            rw [vcs_sum]
            have h8 : nativeFrameWords "java/lang/System" "arraycopy" 5 ≤ 500 := by decide +kernel
            omega)
        have e1 : copied cs cdst sp dp n = arrV (xaC z c) (xln t dd) (fun j => .int (va_cpy (xai t a) (xai t dd) sp.toNatClampNeg dp.toNatClampNeg n.toNatClampNeg j)) := by
          rw [hcd]
          exact va_copiedX (fun z => .int z) cs (xaC z c) (xai t a) (xai t dd) (fun j hj => by rw [a7 j hj]; exact congrArg some (hV j)) g4
        rw [e1] at X' step
        have hl : dd < H.size := (Array.getElem?_eq_some_iff.mp b1).1
        generalize hnew : arrV (xaC z c) (xln t dd) (fun j => .int (va_cpy (xai t a) (xai t dd) sp.toNatClampNeg dp.toNatClampNeg n.toNatClampNeg j)) = nw at X' step
        have hheap : ((T.setVm vm').setCell dd nw).heap = H.setIfInBounds dd nw := by rw [← hT]; rfl
        have oq : ∀ q : Nat, q ≠ dd → (H.setIfInBounds dd nw)[q]? = H[q]? := fun q hq => by simp [Array.getElem?_setIfInBounds, Ne.symm hq]
        have es : (H.setIfInBounds dd nw)[dd]? = some nw := by simp [Array.getElem?_setIfInBounds, hl]
        have ez : (H.setIfInBounds dd nw).size = H.size := by simp
        have hR1 : XRp z (xsra t dd (va_cpy (xai t a) (xai t dd) sp.toNatClampNeg dp.toNatClampNeg n.toNatClampNeg)) (H.setIfInBounds dd nw) := by
          refine hR.upd ez oq rfl (fun b hb9 => ⟨rfl, rfl, fun _ => rfl, fun j => by simp only [xev, xai_xsra, if_neg hb9]; rfl, by funext j; rw [xai_xsra, if_neg hb9]⟩) fun _ => ?_
          have hcl : xcl (xsra t dd (va_cpy (xai t a) (xai t dd) sp.toNatClampNeg dp.toNatClampNeg n.toNatClampNeg)) dd = c := cD
          rw [hcl]
          refine ⟨hR.lt (by omega), fun q => by omega, fun _ => ⟨⟨nw, es, by rw [← hnew]; rfl, by rw [← hnew]; exact (fun q => nomatch q), by rw [← hnew]; rfl, fun _ => by
            rw [← hnew]
            refine arrV_congr fun j _ => ?_
            show _ = xev _ c dd j
            rw [xev_i hne h1003, xai_xsra, if_pos rfl], by rw [← hnew]; exact arrV_size _ _ _, fun j hj => ?_⟩, fun q j hj => ?_⟩⟩
          · rw [← hnew, arrV_read _ _ (show j < xln t dd from hj)]
            refine congrArg some ?_
            show _ = xev _ c dd j
            rw [xev_i hne h1003, xai_xsra, if_pos rfl]
          · rw [xai_xsra, if_pos rfl]
            have hb1 := (hRa.2.2 (by omega)).2 (by omega)
            have hb2 := ((hR.2.2 dd (by omega)).2.2 (by omega)).2 (by omega)
            unfold va_cpy
            split
            · exact hb1 _ (by omega)
            · exact hb2 _ hj
        obtain ⟨t9, a9, b9⟩ := k _ _ hR1 (hS.wr hb ez oq) (fun x hx => by obtain ⟨z9, -, hz⟩ := List.mem_map.mp hx; rw [← hz]; exact hb) _ hheap X'
        exact ⟨t9, step t9 a9, b9⟩
      · cases hf
    · cases hf
end OKG
