/-! arrays read and written; casts; statics; the made ones */ -/
set_option maxRecDepth 100000
section OKE
variable {z : XKT} {own : String} {cc : ByteArray} {nL : Nat} {ini : String × String} {pc : Nat} {f : XSem}
theorem ok_naj {c : Nat} (d : decode cc pc = .ok (.newarray .long, 2)) (h1 : Cond.arrayClass .long ∈ lw_all) (hc : (c, FieldType.long) ∈ xArs) (h1000 : c = 1002) : XOkS z own cc nL ini pc (i_naj c (pc + 2)) :=
  XOkS.n (fun _ _ st => match st with | Sum.inl x :: _ => x.toNatClampNeg | _ => 0) fun {al st t q} hf => by
    unfold i_naj at hf
    split at hf
    · split at hf
      · rename_i x r hx
        cases hf
        refine ⟨rfl, rfl, rfl, fun {p l e R s m args below meth cd H locs cells slots Q ls} hE hR hS hcl hs _ _ _ k => ?_⟩
        have hsz := hR.size
        refine W.newa (atype := .long) hE.1 hE.2.1 (hE.2.2.2.2.1 _ h1) rfl d rfl hx.1 (by show _ * 8 ≤ _; omega) hcl hs fun cA kA comp f1 f2 f3 => ?_
        have hcA : cA = xaC z c := xra hE.2.2.2.2.2.1 hc (fun n q => nomatch q) f1
        rw [arrV_new, hcA, show defaultValue (newarray.typeOf .long) = .long 0 from rfl]
        have z1 : (H.push (arrV (xaC z c) x.toNatClampNeg fun _ => .long 0)).size = H.size + 1 := by rw [Array.size_push]
        have o1 : ∀ q : Nat, q < H.size → (H.push (arrV (xaC z c) x.toNatClampNeg fun _ => .long 0))[q]? = H[q]? := fun q hq => by rw [Array.getElem?_push, if_neg (Nat.ne_of_lt hq)]
        have e1 : (H.push (arrV (xaC z c) x.toNatClampNeg fun _ => .long 0))[xnx t]? = some (arrV (xaC z c) x.toNatClampNeg fun _ => .long 0) := by rw [← hsz, Array.getElem?_push_size]
        have k2 := k _ (hR.newa (t1 := xnaj t c x.toNatClampNeg) z1 o1 e1 rfl (fun b hb => xSv_xnaj hb) (by rw [xcl_xnaj, if_pos rfl]) (by omega) (by rw [xln_xnaj, if_pos rfl]) (fun j => by unfold xev; rw [if_pos h1000, xaj_xnaj, if_pos rfl]) (fun q => by omega)) z1 o1
        have e9 : (Value.ref H.size : Value) = .ref (xnx t) := by rw [hsz]
        show W _ _ _ _ _ _ _ _ _ _ _ _ _ _ _ (F0 _ _ _ (Value.ref H.size :: vcs r))
        rw [e9]
        exact k2
      · cases hf
    · cases hf
theorem ok_nar {i c : Nat} {C : String} (d : decode cc pc = .ok (.anewarray i, 3)) (h1 : Cond.classLink own i C ∈ lw_all) (h2 : Cond.arrayOver (.object C) ∈ lw_tbl) (hc : (c, FieldType.object C) ∈ xArs) (h1000 : 1003 ≤ c) : XOkS z own cc nL ini pc (i_nar c (pc + 3)) :=
  XOkS.n (fun _ _ st => match st with | Sum.inl x :: _ => x.toNatClampNeg | _ => 0) fun {al st t q} hf => by
    unfold i_nar at hf
    split at hf
    · split at hf
      · rename_i x r hx
        cases hf
        refine ⟨rfl, rfl, rfl, fun {p l e R s m args below meth cd H locs cells slots Q ls} hE hR hS hcl hs _ _ _ k => ?_⟩
        have hsz := hR.size
        refine W.anew hE.1 hE.2.1 hE.2.2.2.1 (hE.2.2.2.2.1 _ h1) (va_AO.use (hE.2.2.2.2.2.1.2.2.2.1 _ h2)) rfl d rfl hx.1 (by omega) hcl hs fun cA kA comp f1 f2 f3 f4 => ?_
        have hcA : cA = xaC z c := by
          obtain ⟨kA9, comp9, g1, g2, g3, g4⟩ := (hE.2.2.2.2.2.1.2.1 _ hc).2
          exact Option.some.inj (f1.symm.trans g4)
        rw [arrV_new, hcA]
        have z1 : (H.push (arrV (xaC z c) x.toNatClampNeg fun _ => .null)).size = H.size + 1 := by rw [Array.size_push]
        have o1 : ∀ q : Nat, q < H.size → (H.push (arrV (xaC z c) x.toNatClampNeg fun _ => .null))[q]? = H[q]? := fun q hq => by rw [Array.getElem?_push, if_neg (Nat.ne_of_lt hq)]
        have e1 : (H.push (arrV (xaC z c) x.toNatClampNeg fun _ => .null))[xnx t]? = some (arrV (xaC z c) x.toNatClampNeg fun _ => .null) := by rw [← hsz, Array.getElem?_push_size]
        have k2 := k _ (hR.newa (t1 := xnar t c x.toNatClampNeg) z1 o1 e1 rfl (fun b hb => xSv_xnar hb) (by rw [xcl_xnar, if_pos rfl]) (by omega) (by rw [xln_xnar, if_pos rfl]) (fun j => by unfold xev; rw [if_neg (by omega), if_neg (by omega), xar_xnar, if_pos rfl]; rfl) (fun q => by omega)) z1 o1
        have e9 : (Value.ref H.size : Value) = .ref (xnx t) := by rw [hsz]
        show W _ _ _ _ _ _ _ _ _ _ _ _ _ _ _ (F0 _ _ _ (Value.ref H.size :: vcs r))
        rw [e9]
        exact k2
      · cases hf
    · cases hf
theorem xarr {s : State} (hK : XKn z s) {c : Nat} (h1 : 1000 ≤ c) (h2 : c < 1008) {cell : Cell} (hcl : cell.cls = xaC z c) (hst : cell.vm.isStatics = false) : ∃ ty, s.isArrayOf cell ty ∧ (1003 ≤ c → ty.isReference = true) := by
  by_cases h7 : c = 1007
  · obtain ⟨-, k, hk, comp, hkd⟩ := hK.2.2.2.2.2.2.1 (1007, .object "java/lang/Integer") (List.mem_of_getElem? (i := 0) rfl) 0 (fun _ => .null)
    subst h7
    exact ⟨_, ⟨(fun q hq => by rw [hq] at hst; exact nomatch hst), k, (by rw [hcl]; exact hk), comp, hkd⟩, fun _ => rfl⟩
  · rcases (show c = 1000 ∨ c = 1001 ∨ c = 1002 ∨ c = 1003 ∨ c = 1004 ∨ c = 1005 ∨ c = 1006 by omega) with e | e | e | e | e | e | e <;> subst e
    · exact ⟨_, hK.arr (List.mem_of_getElem? (i := 0) rfl) hcl hst, fun q => by omega⟩
    · exact ⟨_, hK.arr (List.mem_of_getElem? (i := 1) rfl) hcl hst, fun q => by omega⟩
    · exact ⟨_, hK.arr (List.mem_of_getElem? (i := 2) rfl) hcl hst, fun q => by omega⟩
    · exact ⟨_, hK.arr (List.mem_of_getElem? (i := 3) rfl) hcl hst, fun _ => rfl⟩
    · exact ⟨_, hK.arr (List.mem_of_getElem? (i := 4) rfl) hcl hst, fun _ => rfl⟩
    · exact ⟨_, hK.arr (List.mem_of_getElem? (i := 5) rfl) hcl hst, fun _ => rfl⟩
    · exact ⟨_, hK.arr (List.mem_of_getElem? (i := 6) rfl) hcl hst, fun _ => rfl⟩
theorem ok_alen (d : decode cc pc = .ok (.arraylength, 1)) : XOkS z own cc nL ini pc (i_alen (pc + 1)) :=
  XOkS.p fun {al st t q} hf => by
    unfold i_alen at hf
    split at hf
    · split at hf
      · rename_i a r hc
        cases hf
        refine ⟨rfl, fun hE hR _ hL _ _ k => ?_⟩
        obtain ⟨cell, q1, q2, q3, q4, q5, q6, q7⟩ := hR.ar rfl hc.1
        obtain ⟨ty, hty, -⟩ := xarr hE.2.2.2.2.2.1 hc.1 hc.2 q2 q4
        exact W.alen (n := nI (xln t a)) hE.1 hE.2.1 q1 hty (by rw [q6]; rfl) rfl rfl d (k _ hL)
      · cases hf
    · cases hf
theorem ok_iald (d : decode cc pc = .ok (.iaload, 1)) : XOkS z own cc nL ini pc (i_ald 1000 (pc + 1)) :=
  XOkS.p fun {al st t q} hf => by
    unfold i_ald at hf
    split at hf
    · split at hf
      · rename_i i a r hc
        cases hf
        refine ⟨rfl, fun hE hR _ hL _ _ k => ?_⟩
        obtain ⟨hc, hin⟩ := hc
        obtain ⟨cell, q1, q2, q3, q4, q5, q6, q7⟩ := hR.ar hc (by omega)
        have hlt : i.toNatClampNeg < xln t a := Nat.not_le.mp fun q => hin (Or.inr q)
        refine W.iald (v := .int (xai t a i.toNatClampNeg)) hE.1 hE.2.1 q1 (hE.2.2.2.2.2.1.arr (ty := .int) (List.mem_of_getElem? (i := 0) rfl) q2 q4) q3 (by rw [q6]; exact hin) (by rw [q7 _ hlt]; rfl) rfl rfl d (k _ hL)
      · cases hf
    · cases hf
theorem ok_bald (d : decode cc pc = .ok (.baload, 1)) : XOkS z own cc nL ini pc (i_ald 1001 (pc + 1)) :=
  XOkS.p fun {al st t q} hf => by
    unfold i_ald at hf
    split at hf
    · split at hf
      · rename_i i a r hc
        cases hf
        refine ⟨rfl, fun hE hR _ hL _ _ k => ?_⟩
        obtain ⟨hc, hin⟩ := hc
        obtain ⟨cell, q1, q2, q3, q4, q5, q6, q7⟩ := hR.ar hc (by omega)
        have hlt : i.toNatClampNeg < xln t a := Nat.not_le.mp fun q => hin (Or.inr q)
        refine W.bald (v := .int (xai t a i.toNatClampNeg)) hE.1 hE.2.1 q1 (hE.2.2.2.2.2.1.arr (ty := .byte) (List.mem_of_getElem? (i := 1) rfl) q2 q4) q3 (by rw [q6]; exact hin) (by rw [q7 _ hlt]; rfl) rfl rfl d (k _ hL)
      · cases hf
    · cases hf
theorem ok_lald (d : decode cc pc = .ok (.laload, 1)) : XOkS z own cc nL ini pc (i_ajld 1002 (pc + 1)) :=
  XOkS.p fun {al st t q} hf => by
    unfold i_ajld at hf
    split at hf
    · split at hf
      · rename_i i a r hc
        cases hf
        refine ⟨rfl, fun hE hR _ hL _ _ k => ?_⟩
        obtain ⟨hc, hin⟩ := hc
        obtain ⟨cell, q1, q2, q3, q4, q5, q6, q7⟩ := hR.ar hc (by omega)
        have hlt : i.toNatClampNeg < xln t a := Nat.not_le.mp fun q => hin (Or.inr q)
        refine W.lald (v := .long (xaj t a i.toNatClampNeg)) hE.1 hE.2.1 q1 (hE.2.2.2.2.2.1.arr (ty := .long) (List.mem_of_getElem? (i := 2) rfl) q2 q4) q3 (by rw [q6]; exact hin) (by rw [q7 _ hlt]; rfl) rfl rfl d (k _ hL)
      · cases hf
    · cases hf
theorem ok_arld {cs : List Nat} (hcs : ∀ c ∈ cs, 1003 ≤ c ∧ c < 1008) (d : decode cc pc = .ok (.aaload, 1)) : XOkS z own cc nL ini pc (i_arld cs (pc + 1)) :=
  XOkS.p fun {al st t q} hf => by
    unfold i_arld at hf
    split at hf
    · split at hf
      · rename_i i a r hc
        cases hf
        refine ⟨rfl, fun hE hR _ hL _ _ k => ?_⟩
        obtain ⟨hc, hin⟩ := hc
        obtain ⟨hc1, hc2⟩ := hcs _ hc
        obtain ⟨cell, q1, q2, q3, q4, q5, q6, q7⟩ := hR.ar (a := a) rfl (by omega)
        obtain ⟨ty, hty, href⟩ := xarr hE.2.2.2.2.2.1 (by omega) hc2 q2 q4
        have hlt : i.toNatClampNeg < xln t a := Nat.not_le.mp fun q => hin (Or.inr q)
        refine W.aald (v := va_rf (xar t a i.toNatClampNeg)) (ty := ty) hE.1 hE.2.1 q1 hty (href hc1) q3 (by rw [q6]; exact hin) ?_ rfl rfl d (k _ hL)
        rw [q7 _ hlt]
        show some (xev t (xcl t a) a i.toNatClampNeg) = _
        unfold xev
        rw [if_neg (by omega), if_neg (by omega)]
      · cases hf
    · cases hf
/-- a place of an array is written -/
theorem XRp.wr {t t1 : XSt} {H H1 : Heap} {a c i : Nat} {cell : Cell} {v : Value} (hR : XRp z t H) (hc : xcl t a = c) (h1000 : 1000 ≤ c) (hi : i < xln t a)
    (hcell : H[a]? = some cell) (e1 : H1[a]? = some (cell.setSlot i v)) (e2 : H1.size = H.size) (e3 : ∀ q, q ≠ a → H1[q]? = H[q]?)
    (hcl : xcl t1 = xcl t) (hln : xln t1 = xln t) (hfi : xfi t1 = xfi t) (hfr : xfr t1 = xfr t) (hnx : xnx t1 = xnx t) (ho : ∀ b, b ≠ a → xai t1 b = xai t b ∧ xaj t1 b = xaj t b ∧ xar t1 b = xar t b)
    (hv : xev t1 c a i = v) (hw : ∀ j, j ≠ i → xev t1 c a j = xev t c a j) (hb : c = 1001 → fits .byte (.int (xai t1 a i)) = true ∧ ∀ j, j ≠ i → xai t1 a j = xai t a j) : XRp z t1 H1 := by
  refine hR.upd e2 e3 hnx (fun b hb => ⟨by rw [hcl], by rw [hln], fun k9 => by simp only [xfv, hfi, hfr], fun j => by simp only [xev, (ho b hb).1, (ho b hb).2.1, (ho b hb).2.2], (ho b hb).1⟩) fun _ => ?_
  rw [hcl, hc, hln]
  have h9 := (hR.2.2 a (by omega)).2.2 (by omega)
  rw [hc] at h9
  obtain ⟨⟨cell9, q1, q2, q3, q4, q5, q6, q7⟩, q8⟩ := h9
  cases hcell.symm.trans q1
  refine ⟨by rw [hnx]; exact hR.lt (by omega), fun q => by omega, fun _ => ⟨⟨_, e1, q2, q3, q4, fun q => by
    rw [q5 q, arrV_store]
    refine arrV_congr fun j _ => ?_
    unfold updV
    by_cases hji : j = i
    · rw [if_pos hji, hji, hv]
    · rw [if_neg hji]; exact (hw j hji).symm, by rw [k2_slotsz]; exact q6, fun j hj => ?_⟩, fun q j hj => ?_⟩⟩
  · by_cases hji : j = i
    · subst hji
      rw [Cell.slots_setSlot_self _ (by rw [q6]; exact hj)]
      exact congrArg some hv.symm
    · rw [slot_ne _ _ (Ne.symm hji), q7 j hj]
      exact congrArg some (hw j hji).symm
  · by_cases hji : j = i
    · subst hji; exact (hb q).1
    · rw [(hb q).2 j hji]; exact q8 q j hj
end OKE
