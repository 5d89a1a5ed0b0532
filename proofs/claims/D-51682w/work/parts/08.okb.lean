/-! arithmetic, the stack, branches -/
set_option maxRecDepth 100000
section OKB
variable {z : XKT} {own : String} {cc : ByteArray} {nL : Nat} {ini : String × String} {pc : Nat} {f : XSem}
theorem ok_iadd (d : decode cc pc = .ok (.iadd, 1)) : XOkS z own cc nL ini pc (i_bin (fun x y => x + y) (pc + 1)) :=
  XOkS.p fun {al st t q} hf => by
    unfold i_bin at hf
    split at hf
    · cases hf; exact ⟨rfl, fun hE _ _ hL _ _ k => lv_iadd hE.1 hE.2.1 d (k _ hL)⟩
    · cases hf
theorem ok_isub (d : decode cc pc = .ok (.isub, 1)) : XOkS z own cc nL ini pc (i_bin (fun x y => x - y) (pc + 1)) :=
  XOkS.p fun {al st t q} hf => by
    unfold i_bin at hf
    split at hf
    · cases hf; exact ⟨rfl, fun hE _ _ hL _ _ k => lv_isub hE.1 hE.2.1 d (k _ hL)⟩
    · cases hf
theorem ok_imul (d : decode cc pc = .ok (.imul, 1)) : XOkS z own cc nL ini pc (i_bin (fun x y => x * y) (pc + 1)) :=
  XOkS.p fun {al st t q} hf => by
    unfold i_bin at hf
    split at hf
    · cases hf; exact ⟨rfl, fun hE _ _ hL _ _ k => lv_imul hE.1 hE.2.1 d (k _ hL)⟩
    · cases hf
theorem ok_iand (d : decode cc pc = .ok (.iand, 1)) : XOkS z own cc nL ini pc (i_bin (fun x y => x &&& y) (pc + 1)) :=
  XOkS.p fun {al st t q} hf => by
    unfold i_bin at hf
    split at hf
    · cases hf; exact ⟨rfl, fun hE _ _ hL _ _ k => lv_iand hE.1 hE.2.1 d (k _ hL)⟩
    · cases hf
theorem ok_ior (d : decode cc pc = .ok (.ior, 1)) : XOkS z own cc nL ini pc (i_bin (fun x y => x ||| y) (pc + 1)) :=
  XOkS.p fun {al st t q} hf => by
    unfold i_bin at hf
    split at hf
    · cases hf; exact ⟨rfl, fun hE _ _ hL _ _ k => lv_ior hE.1 hE.2.1 d (k _ hL)⟩
    · cases hf
theorem ok_ixor (d : decode cc pc = .ok (.ixor, 1)) : XOkS z own cc nL ini pc (i_bin (fun x y => x ^^^ y) (pc + 1)) :=
  XOkS.p fun {al st t q} hf => by
    unfold i_bin at hf
    split at hf
    · cases hf; exact ⟨rfl, fun hE _ _ hL _ _ k => lv_ixor hE.1 hE.2.1 d (k _ hL)⟩
    · cases hf
theorem ok_ishl (d : decode cc pc = .ok (.ishl, 1)) : XOkS z own cc nL ini pc (i_bin (fun x y => x <<< (y &&& 31)) (pc + 1)) :=
  XOkS.p fun {al st t q} hf => by
    unfold i_bin at hf
    split at hf
    · cases hf; exact ⟨rfl, fun hE _ _ hL _ _ k => lv_ishl hE.1 hE.2.1 d (k _ hL)⟩
    · cases hf
theorem ok_ishr (d : decode cc pc = .ok (.ishr, 1)) : XOkS z own cc nL ini pc (i_bin (fun x y => x >>> (y &&& 31)) (pc + 1)) :=
  XOkS.p fun {al st t q} hf => by
    unfold i_bin at hf
    split at hf
    · cases hf; exact ⟨rfl, fun hE _ _ hL _ _ k => lv_ishr hE.1 hE.2.1 d (k _ hL)⟩
    · cases hf
theorem ok_iushr (d : decode cc pc = .ok (.iushr, 1)) : XOkS z own cc nL ini pc (i_bin (fun x y => (x.toUInt32 >>> (y.toUInt32 &&& Int32.toUInt32 31)).toInt32) (pc + 1)) :=
  XOkS.p fun {al st t q} hf => by
    unfold i_bin at hf
    split at hf
    · cases hf; exact ⟨rfl, fun hE _ _ hL _ _ k => lv_iushr hE.1 hE.2.1 d rfl (k _ hL)⟩
    · cases hf
theorem ok_idiv (d : decode cc pc = .ok (.idiv, 1)) : XOkS z own cc nL ini pc (i_quo (fun x y => x / y) (pc + 1)) :=
  XOkS.p fun {al st t q} hf => by
    unfold i_quo at hf
    split at hf
    · split at hf
      · rename_i hne
        cases hf; exact ⟨rfl, fun hE _ _ hL _ _ k => lv_idiv hE.1 hE.2.1 d hne (k _ hL)⟩
      · cases hf
    · cases hf
theorem ok_irem (d : decode cc pc = .ok (.irem, 1)) : XOkS z own cc nL ini pc (i_quo (fun x y => x - x / y * y) (pc + 1)) :=
  XOkS.p fun {al st t q} hf => by
    unfold i_quo at hf
    split at hf
    · split at hf
      · rename_i hne
        cases hf; exact ⟨rfl, fun hE _ _ hL _ _ k => lv_irem hE.1 hE.2.1 d hne (k _ hL)⟩
      · cases hf
    · cases hf
theorem ok_ineg (d : decode cc pc = .ok (.ineg, 1)) : XOkS z own cc nL ini pc (i_un (fun x => -x) (pc + 1)) :=
  XOkS.p fun {al st t q} hf => by
    unfold i_un at hf
    split at hf
    · cases hf; exact ⟨rfl, fun hE _ _ hL _ _ k => lv_ineg hE.1 hE.2.1 d (k _ hL)⟩
    · cases hf
theorem ok_i2b (d : decode cc pc = .ok (.i2b, 1)) : XOkS z own cc nL ini pc (i_un (fun x => x.toInt8.toInt32) (pc + 1)) :=
  XOkS.p fun {al st t q} hf => by
    unfold i_un at hf
    split at hf
    · cases hf; exact ⟨rfl, fun hE _ _ hL _ _ k => lv_i2b hE.1 hE.2.1 d rfl (k _ hL)⟩
    · cases hf
theorem ok_i2c (d : decode cc pc = .ok (.i2c, 1)) : XOkS z own cc nL ini pc (i_un (fun x => (x.toUInt32 % 65536).toInt32) (pc + 1)) :=
  XOkS.p fun {al st t q} hf => by
    unfold i_un at hf
    split at hf
    · cases hf; exact ⟨rfl, fun hE _ _ hL _ _ k => lv_i2c hE.1 hE.2.1 d rfl (k _ hL)⟩
    · cases hf
theorem ok_i2l (d : decode cc pc = .ok (.i2l, 1)) : XOkS z own cc nL ini pc (i_i2l (pc + 1)) :=
  XOkS.p fun {al st t q} hf => by
    unfold i_i2l at hf
    split at hf
    · cases hf; exact ⟨rfl, fun hE _ _ hL _ _ k => lv_i2l hE.1 hE.2.1 d rfl (k _ hL)⟩
    · cases hf
theorem ok_l2i (d : decode cc pc = .ok (.l2i, 1)) : XOkS z own cc nL ini pc (i_l2i (pc + 1)) :=
  XOkS.p fun {al st t q} hf => by
    unfold i_l2i at hf
    split at hf
    · cases hf; exact ⟨rfl, fun hE _ _ hL _ _ k => lv_l2i hE.1 hE.2.1 d rfl (k _ hL)⟩
    · cases hf
theorem ok_land (d : decode cc pc = .ok (.land, 1)) : XOkS z own cc nL ini pc (i_lbin (fun x y => x &&& y) (pc + 1)) :=
  XOkS.p fun {al st t q} hf => by
    unfold i_lbin at hf
    split at hf
    · cases hf; exact ⟨rfl, fun hE _ _ hL _ _ k => lv_land hE.1 hE.2.1 d (k _ hL)⟩
    · cases hf
theorem ok_lor (d : decode cc pc = .ok (.lor, 1)) : XOkS z own cc nL ini pc (i_lbin (fun x y => x ||| y) (pc + 1)) :=
  XOkS.p fun {al st t q} hf => by
    unfold i_lbin at hf
    split at hf
    · cases hf; exact ⟨rfl, fun hE _ _ hL _ _ k => lv_lor hE.1 hE.2.1 d (k _ hL)⟩
    · cases hf
theorem ok_lxor (d : decode cc pc = .ok (.lxor, 1)) : XOkS z own cc nL ini pc (i_lbin (fun x y => x ^^^ y) (pc + 1)) :=
  XOkS.p fun {al st t q} hf => by
    unfold i_lbin at hf
    split at hf
    · cases hf; exact ⟨rfl, fun hE _ _ hL _ _ k => lv_lxor hE.1 hE.2.1 d (k _ hL)⟩
    · cases hf
theorem ok_ladd (d : decode cc pc = .ok (.ladd, 1)) : XOkS z own cc nL ini pc (i_lbin (fun x y => x + y) (pc + 1)) :=
  XOkS.p fun {al st t q} hf => by
    unfold i_lbin at hf
    split at hf
    · cases hf; exact ⟨rfl, fun hE _ _ hL _ _ k => lv_ladd hE.1 hE.2.1 d (k _ hL)⟩
    · cases hf
theorem ok_lshl (d : decode cc pc = .ok (.lshl, 1)) : XOkS z own cc nL ini pc (i_lsh (fun x y => x <<< (y.toInt64 &&& 63)) (pc + 1)) :=
  XOkS.p fun {al st t q} hf => by
    unfold i_lsh at hf
    split at hf
    · cases hf; exact ⟨rfl, fun hE _ _ hL _ _ k => lv_lshl hE.1 hE.2.1 d rfl (k _ hL)⟩
    · cases hf
theorem ok_lushr (d : decode cc pc = .ok (.lushr, 1)) : XOkS z own cc nL ini pc (i_lsh (fun x y => (x.toUInt64 >>> (y.toInt64.toUInt64 &&& Int64.toUInt64 63)).toInt64) (pc + 1)) :=
  XOkS.p fun {al st t q} hf => by
    unfold i_lsh at hf
    split at hf
    · cases hf; exact ⟨rfl, fun hE _ _ hL _ _ k => lv_lushr hE.1 hE.2.1 d rfl (k _ hL)⟩
    · cases hf
theorem ok_lcmp (d : decode cc pc = .ok (.lcmp, 1)) : XOkS z own cc nL ini pc (i_lcmp (pc + 1)) :=
  XOkS.p fun {al st t q} hf => by
    unfold i_lcmp at hf
    split at hf
    · cases hf; exact ⟨rfl, fun hE _ _ hL _ _ k => W.lcmp hE.1 hE.2.1 d (k _ hL)⟩
    · cases hf
theorem ok_i2f (d : decode cc pc = .ok (.i2f, 1)) : XOkS z own cc nL ini pc (i_i2f (pc + 1)) :=
  XOkS.p fun {al st t q} hf => by
    unfold i_i2f at hf
    split at hf
    · cases hf; exact ⟨rfl, fun hE _ _ hL _ _ k => lv_i2f hE.1 hE.2.1 d (k _ hL)⟩
    · cases hf
theorem ok_i2d (d : decode cc pc = .ok (.i2d, 1)) : XOkS z own cc nL ini pc (i_i2d (pc + 1)) :=
  XOkS.p fun {al st t q} hf => by
    unfold i_i2d at hf
    split at hf
    · cases hf; exact ⟨rfl, fun hE _ _ hL _ _ k => lv_i2d hE.1 hE.2.1 d (k _ hL)⟩
    · cases hf
theorem ok_dcmp {op : CmpOp} (d : decode cc pc = .ok (.dcmp op, 1)) : XOkS z own cc nL ini pc (i_dcmp op (pc + 1)) :=
  XOkS.p fun {al st t q} hf => by
    unfold i_dcmp at hf
    split at hf
    · cases hf; exact ⟨rfl, fun hE _ _ hL _ _ k => lv_dcmp hE.1 hE.2.1 d (k _ hL)⟩
    · cases hf
theorem ok_f2d (d : decode cc pc = .ok (.f2d, 1)) : XOkS z own cc nL ini pc (i_f2d (pc + 1)) :=
  XOkS.p fun {al st t q} hf => by
    unfold i_f2d at hf
    split at hf
    · split at hf
      · rename_i hne
        cases hf; exact ⟨rfl, fun hE _ _ hL _ _ k => lv_f2d hE.1 hE.2.1 d hne (k _ hL)⟩
      · cases hf
    · cases hf
theorem ok_fdiv (d : decode cc pc = .ok (.fdiv, 1)) : XOkS z own cc nL ini pc (i_fdiv (pc + 1)) :=
  XOkS.p fun {al st t q} hf => by
    unfold i_fdiv at hf
    split at hf
    · split at hf
      · rename_i hne
        cases hf; exact ⟨rfl, fun hE _ _ hL _ _ k => lv_fdiv hE.1 hE.2.1 d hne (k _ hL)⟩
      · cases hf
    · cases hf
theorem ok_ddiv (d : decode cc pc = .ok (.ddiv, 1)) : XOkS z own cc nL ini pc (i_ddiv (pc + 1)) :=
  XOkS.p fun {al st t q} hf => by
    unfold i_ddiv at hf
    split at hf
    · split at hf
      · rename_i hne
        cases hf; exact ⟨rfl, fun hE _ _ hL _ _ k => lv_ddiv hE.1 hE.2.1 d hne (k _ hL)⟩
      · cases hf
    · cases hf
theorem vcv_1 {v : XV} (h : xone (some v) = true) : (vcv v).category = 1 := by rw [vcv_cat, if_pos h]
theorem ok_dup (d : decode cc pc = .ok (.dup, 1)) : XOkS z own cc nL ini pc (i_dup (pc + 1)) :=
  XOkS.p fun {al st t q} hf => by
    unfold i_dup at hf
    split at hf
    · split at hf
      · rename_i hx
        cases hf; exact ⟨rfl, fun hE _ _ hL _ _ k => lv_dup hE.1 hE.2.1 d (vcv_1 hx) (k _ hL)⟩
      · cases hf
    · cases hf
theorem ok_pop (d : decode cc pc = .ok (.pop, 1)) : XOkS z own cc nL ini pc (i_pop (pc + 1)) :=
  XOkS.p fun {al st t q} hf => by
    unfold i_pop at hf
    split at hf
    · split at hf
      · rename_i hx
        cases hf; exact ⟨rfl, fun hE _ _ hL _ _ k => lv_pop hE.1 hE.2.1 d (vcv_1 hx) (k _ hL)⟩
      · cases hf
    · cases hf
theorem ok_dup_x1 (d : decode cc pc = .ok (.dup_x1, 1)) : XOkS z own cc nL ini pc (i_dupx1 (pc + 1)) :=
  XOkS.p fun {al st t q} hf => by
    unfold i_dupx1 at hf
    split at hf
    · split at hf
      · rename_i hx
        cases hf; exact ⟨rfl, fun hE _ _ hL _ _ k => lv_dup_x1 hE.1 hE.2.1 d (vcv_1 hx.1) (vcv_1 hx.2) (k _ hL)⟩
      · cases hf
    · cases hf
theorem ok_dup2 (d : decode cc pc = .ok (.dup2, 1)) : XOkS z own cc nL ini pc (i_dup2 (pc + 1)) :=
  XOkS.p fun {al st t q} hf => by
    unfold i_dup2 at hf
    split at hf
    · split at hf
      · rename_i hx
        cases hf; exact ⟨rfl, fun hE _ _ hL _ _ k => lv_dup2_11 hE.1 hE.2.1 d (vcv_1 hx.1) (vcv_1 hx.2) (k _ hL)⟩
      · cases hf
    · cases hf
theorem ok_goto {off : Int} {tg : Nat} (d : decode cc pc = .ok (.goto off, 3)) (ht : (pc : Int) + off = (tg : Int)) : XOkS z own cc nL ini pc (i_goto tg) :=
  XOkS.p fun hf => by cases hf; exact ⟨rfl, fun hE _ _ hL _ _ k => lv_goto hE.1 hE.2.1 d ht (k _ hL)⟩
theorem ok_if_eq {off : Int} {tg : Nat} (d : decode cc pc = .ok (.ifCond .eq off, 3)) (ht : (pc : Int) + off = (tg : Int)) : XOkS z own cc nL ini pc (i_if (fun x => x = 0) tg (pc + 3)) :=
  XOkS.p fun {al st t q} hf => by
    unfold i_if at hf
    split at hf
    · cases hf; exact ⟨rfl, fun hE _ _ hL _ _ k => lv_if_eq hE.1 hE.2.1 d ht (fun hc => by have k1 := k _ hL; dsimp only at k1; rw [if_pos hc] at k1; exact k1) (fun hc => by have k1 := k _ hL; dsimp only at k1; rw [if_neg hc] at k1; exact k1)⟩
    · cases hf
theorem ok_if_ne {off : Int} {tg : Nat} (d : decode cc pc = .ok (.ifCond .ne off, 3)) (ht : (pc : Int) + off = (tg : Int)) : XOkS z own cc nL ini pc (i_if (fun x => ¬ x = 0) tg (pc + 3)) :=
  XOkS.p fun {al st t q} hf => by
    unfold i_if at hf
    split at hf
    · cases hf; exact ⟨rfl, fun hE _ _ hL _ _ k => lv_if_ne hE.1 hE.2.1 d ht (fun hc => by have k1 := k _ hL; dsimp only at k1; rw [if_pos hc] at k1; exact k1) (fun hc => by have k1 := k _ hL; dsimp only at k1; rw [if_neg (fun q => q hc)] at k1; exact k1)⟩
    · cases hf
theorem ok_if_lt {off : Int} {tg : Nat} (d : decode cc pc = .ok (.ifCond .lt off, 3)) (ht : (pc : Int) + off = (tg : Int)) : XOkS z own cc nL ini pc (i_if (fun x => x < 0) tg (pc + 3)) :=
  XOkS.p fun {al st t q} hf => by
    unfold i_if at hf
    split at hf
    · cases hf; exact ⟨rfl, fun hE _ _ hL _ _ k => lv_if_lt hE.1 hE.2.1 d ht (fun hc => by have k1 := k _ hL; dsimp only at k1; rw [if_pos hc] at k1; exact k1) (fun hc => by have k1 := k _ hL; dsimp only at k1; rw [if_neg hc] at k1; exact k1)⟩
    · cases hf
theorem ok_if_ge {off : Int} {tg : Nat} (d : decode cc pc = .ok (.ifCond .ge off, 3)) (ht : (pc : Int) + off = (tg : Int)) : XOkS z own cc nL ini pc (i_if (fun x => 0 ≤ x) tg (pc + 3)) :=
  XOkS.p fun {al st t q} hf => by
    unfold i_if at hf
    split at hf
    · cases hf; exact ⟨rfl, fun hE _ _ hL _ _ k => lv_if_ge hE.1 hE.2.1 d ht (fun hc => by have k1 := k _ hL; dsimp only at k1; rw [if_pos hc] at k1; exact k1) (fun hc => by have k1 := k _ hL; dsimp only at k1; rw [if_neg hc] at k1; exact k1)⟩
    · cases hf
theorem ok_if_gt {off : Int} {tg : Nat} (d : decode cc pc = .ok (.ifCond .gt off, 3)) (ht : (pc : Int) + off = (tg : Int)) : XOkS z own cc nL ini pc (i_if (fun x => 0 < x) tg (pc + 3)) :=
  XOkS.p fun {al st t q} hf => by
    unfold i_if at hf
    split at hf
    · cases hf; exact ⟨rfl, fun hE _ _ hL _ _ k => lv_if_gt hE.1 hE.2.1 d ht (fun hc => by have k1 := k _ hL; dsimp only at k1; rw [if_pos hc] at k1; exact k1) (fun hc => by have k1 := k _ hL; dsimp only at k1; rw [if_neg hc] at k1; exact k1)⟩
    · cases hf
theorem ok_if_le {off : Int} {tg : Nat} (d : decode cc pc = .ok (.ifCond .le off, 3)) (ht : (pc : Int) + off = (tg : Int)) : XOkS z own cc nL ini pc (i_if (fun x => x ≤ 0) tg (pc + 3)) :=
  XOkS.p fun {al st t q} hf => by
    unfold i_if at hf
    split at hf
    · cases hf; exact ⟨rfl, fun hE _ _ hL _ _ k => lv_if_le hE.1 hE.2.1 d ht (fun hc => by have k1 := k _ hL; dsimp only at k1; rw [if_pos hc] at k1; exact k1) (fun hc => by have k1 := k _ hL; dsimp only at k1; rw [if_neg hc] at k1; exact k1)⟩
    · cases hf
theorem ok_icmp_eq {off : Int} {tg : Nat} (d : decode cc pc = .ok (.if_icmp .eq off, 3)) (ht : (pc : Int) + off = (tg : Int)) : XOkS z own cc nL ini pc (i_icmp (fun x y => x = y) tg (pc + 3)) :=
  XOkS.p fun {al st t q} hf => by
    unfold i_icmp at hf
    split at hf
    · cases hf; exact ⟨rfl, fun hE _ _ hL _ _ k => lv_icmp_eq hE.1 hE.2.1 d ht (fun hc => by have k1 := k _ hL; dsimp only at k1; rw [if_pos hc] at k1; exact k1) (fun hc => by have k1 := k _ hL; dsimp only at k1; rw [if_neg hc] at k1; exact k1)⟩
    · cases hf
theorem ok_icmp_ne {off : Int} {tg : Nat} (d : decode cc pc = .ok (.if_icmp .ne off, 3)) (ht : (pc : Int) + off = (tg : Int)) : XOkS z own cc nL ini pc (i_icmp (fun x y => ¬ x = y) tg (pc + 3)) :=
  XOkS.p fun {al st t q} hf => by
    unfold i_icmp at hf
    split at hf
    · cases hf; exact ⟨rfl, fun hE _ _ hL _ _ k => lv_icmp_ne hE.1 hE.2.1 d ht (fun hc => by have k1 := k _ hL; dsimp only at k1; rw [if_pos hc] at k1; exact k1) (fun hc => by have k1 := k _ hL; dsimp only at k1; rw [if_neg (fun q => q hc)] at k1; exact k1)⟩
    · cases hf
theorem ok_icmp_lt {off : Int} {tg : Nat} (d : decode cc pc = .ok (.if_icmp .lt off, 3)) (ht : (pc : Int) + off = (tg : Int)) : XOkS z own cc nL ini pc (i_icmp (fun x y => x < y) tg (pc + 3)) :=
  XOkS.p fun {al st t q} hf => by
    unfold i_icmp at hf
    split at hf
    · cases hf; exact ⟨rfl, fun hE _ _ hL _ _ k => lv_icmp_lt hE.1 hE.2.1 d ht (fun hc => by have k1 := k _ hL; dsimp only at k1; rw [if_pos hc] at k1; exact k1) (fun hc => by have k1 := k _ hL; dsimp only at k1; rw [if_neg hc] at k1; exact k1)⟩
    · cases hf
theorem ok_icmp_ge {off : Int} {tg : Nat} (d : decode cc pc = .ok (.if_icmp .ge off, 3)) (ht : (pc : Int) + off = (tg : Int)) : XOkS z own cc nL ini pc (i_icmp (fun x y => y ≤ x) tg (pc + 3)) :=
  XOkS.p fun {al st t q} hf => by
    unfold i_icmp at hf
    split at hf
    · cases hf; exact ⟨rfl, fun hE _ _ hL _ _ k => lv_icmp_ge hE.1 hE.2.1 d ht (fun hc => by have k1 := k _ hL; dsimp only at k1; rw [if_pos hc] at k1; exact k1) (fun hc => by have k1 := k _ hL; dsimp only at k1; rw [if_neg hc] at k1; exact k1)⟩
    · cases hf
theorem ok_icmp_gt {off : Int} {tg : Nat} (d : decode cc pc = .ok (.if_icmp .gt off, 3)) (ht : (pc : Int) + off = (tg : Int)) : XOkS z own cc nL ini pc (i_icmp (fun x y => y < x) tg (pc + 3)) :=
  XOkS.p fun {al st t q} hf => by
    unfold i_icmp at hf
    split at hf
    · cases hf; exact ⟨rfl, fun hE _ _ hL _ _ k => lv_icmp_gt hE.1 hE.2.1 d ht (fun hc => by have k1 := k _ hL; dsimp only at k1; rw [if_pos hc] at k1; exact k1) (fun hc => by have k1 := k _ hL; dsimp only at k1; rw [if_neg hc] at k1; exact k1)⟩
    · cases hf
theorem ok_icmp_le {off : Int} {tg : Nat} (d : decode cc pc = .ok (.if_icmp .le off, 3)) (ht : (pc : Int) + off = (tg : Int)) : XOkS z own cc nL ini pc (i_icmp (fun x y => x ≤ y) tg (pc + 3)) :=
  XOkS.p fun {al st t q} hf => by
    unfold i_icmp at hf
    split at hf
    · cases hf; exact ⟨rfl, fun hE _ _ hL _ _ k => lv_icmp_le hE.1 hE.2.1 d ht (fun hc => by have k1 := k _ hL; dsimp only at k1; rw [if_pos hc] at k1; exact k1) (fun hc => by have k1 := k _ hL; dsimp only at k1; rw [if_neg hc] at k1; exact k1)⟩
    · cases hf
theorem ok_acmp_eq {off : Int} {tg : Nat} (d : decode cc pc = .ok (.if_acmp .eq off, 3)) (ht : (pc : Int) + off = (tg : Int)) : XOkS z own cc nL ini pc (i_acmpeq tg (pc + 3)) :=
  XOkS.p fun {al st t q} hf => by
    unfold i_acmpeq at hf
    split at hf
    · cases hf; exact ⟨rfl, fun hE _ _ hL _ _ k => lv_acmp_eq hE.1 hE.2.1 d ht (fun hc => by have k1 := k _ hL; dsimp only at k1; rw [if_pos hc] at k1; exact k1) (fun hc => by have k1 := k _ hL; dsimp only at k1; rw [if_neg hc] at k1; exact k1)⟩
    · cases hf
theorem ok_acmp_ne {off : Int} {tg : Nat} (d : decode cc pc = .ok (.if_acmp .ne off, 3)) (ht : (pc : Int) + off = (tg : Int)) : XOkS z own cc nL ini pc (i_acmpne tg (pc + 3)) :=
  XOkS.p fun {al st t q} hf => by
    unfold i_acmpne at hf
    split at hf
    · cases hf; exact ⟨rfl, fun hE _ _ hL _ _ k => lv_acmp_ne hE.1 hE.2.1 d ht (fun hc => by have k1 := k _ hL; dsimp only at k1; rw [if_neg hc] at k1; exact k1) (fun hc => by have k1 := k _ hL; dsimp only at k1; rw [if_pos hc] at k1; exact k1)⟩
    · cases hf
theorem ok_ifnull {off : Int} {tg : Nat} (d : decode cc pc = .ok (.ifnull off, 3)) (ht : (pc : Int) + off = (tg : Int)) : XOkS z own cc nL ini pc (i_ifnull tg (pc + 3)) :=
  XOkS.p fun {al st t q} hf => by
    unfold i_ifnull at hf
    split at hf
    · rename_i x r
      cases hf
      refine ⟨rfl, fun hE _ _ hL _ _ k => ?_⟩
      have k1 := k _ hL
      cases x with
      | none => exact lv_ifnullN hE.1 hE.2.1 d ht (by dsimp only at k1; rw [if_pos rfl] at k1; exact k1)
      | some a => exact lv_ifnull hE.1 hE.2.1 d (by dsimp only at k1; rw [if_neg (fun q => nomatch q)] at k1; exact k1)
    · cases hf
theorem ok_ifnonnull {off : Int} {tg : Nat} (d : decode cc pc = .ok (.ifnonnull off, 3)) (ht : (pc : Int) + off = (tg : Int)) : XOkS z own cc nL ini pc (i_ifnull (pc + 3) tg) :=
  XOkS.p fun {al st t q} hf => by
    unfold i_ifnull at hf
    split at hf
    · rename_i x r
      cases hf
      refine ⟨rfl, fun hE _ _ hL _ _ k => ?_⟩
      have k1 := k _ hL
      cases x with
      | none => exact lv_ifnonnullN hE.1 hE.2.1 d (by dsimp only at k1; rw [if_pos rfl] at k1; exact k1)
      | some a => exact lv_ifnonnull hE.1 hE.2.1 d ht (by dsimp only at k1; rw [if_neg (fun q => nomatch q)] at k1; exact k1)
    · cases hf
/-- a switch's rows against its offsets -/
def xswk (pc : Nat) : List (Int × Int) → List (Int32 × Nat) → Bool
  | [], [] => true
  | a :: r, b :: s => decide (b.1.toInt = a.1) && decide ((pc : Int) + a.2 = (b.2 : Int)) && xswk pc r s
  | _, _ => false
theorem xswk_off {pc : Nat} {df : Int} {dt : Nat} (hd : (pc : Int) + df = (dt : Int)) (x : Int32) : ∀ (a : List (Int × Int)) (b : List (Int32 × Nat)), xswk pc a b = true → (pc : Int) + Op.lookupswitch.offset a df x.toInt = ((xswt b dt x : Nat) : Int)
  | [], [], _ => by simpa [Op.lookupswitch.offset, xswt] using hd
  | a :: r, b :: s, h => by
    simp only [xswk, Bool.and_eq_true, decide_eq_true_eq] at h
    obtain ⟨⟨h1, h2⟩, h3⟩ := h
    obtain ⟨a1, a2⟩ := a
    rw [Op.lookupswitch.offset_cons]
    unfold xswt
    by_cases hx : x = b.1
    · rw [if_pos hx, if_pos (by rw [hx]; first | exact h1 | exact h1.symm)]
      exact h2
    · rw [if_neg hx, if_neg (fun q => hx (Int32.toInt_inj.mp (by rw [h1]; first | exact q | exact q.symm)))]
      exact xswk_off hd x r s h3
  | [], _ :: _, h => by simp [xswk] at h
  | _ :: _, [], h => by simp [xswk] at h
theorem ok_lookup {df : Int} {ps : Array (Int × Int)} {len dt : Nat} {qs : List (Int32 × Nat)} (d : decode cc pc = .ok (.lookupswitch df ps, len)) (hp : (ps.toList.zip (ps.toList.drop 1)).all (fun (a, next) => a.1 < next.1) = true) (hd : (pc : Int) + df = (dt : Int)) (hk : xswk pc ps.toList qs = true) : XOkS z own cc nL ini pc (i_swt qs dt) :=
  XOkS.p fun {al st t q} hf => by
    unfold i_swt at hf
    split at hf
    · cases hf; exact ⟨rfl, fun hE _ _ hL _ _ k => lv_lookup hE.1 hE.2.1 d hp rfl (xswk_off hd _ _ _ hk) (k _ hL)⟩
    · cases hf
/-- a table's rows: from lo on -/
def xtbk (pc : Nat) : Int → List Int → List (Int32 × Nat) → Bool
  | _, [], [] => true
  | lo, a :: r, b :: s => decide (b.1.toInt = lo) && decide ((pc : Int) + a = (b.2 : Int)) && xtbk pc (lo + 1) r s
  | _, _, _ => false
theorem xtbk_in {pc : Nat} {dt : Nat} (x : Int32) : ∀ (lo : Int) (a : List Int) (b : List (Int32 × Nat)), xtbk pc lo a b = true → ((x.toInt < lo ∨ lo + a.length ≤ x.toInt) → xswt b dt x = dt) ∧ (¬ x.toInt < lo → x.toInt < lo + a.length → ∃ o, a[(x.toInt - lo).toNat]? = some o ∧ (pc : Int) + o = ((xswt b dt x : Nat) : Int))
  | lo, [], [], _ => ⟨fun _ => rfl, fun h1 h2 => absurd h2 (by simp; omega)⟩
  | lo, a :: r, b :: s, h => by
    simp only [xtbk, Bool.and_eq_true, decide_eq_true_eq] at h
    obtain ⟨⟨h1, h2⟩, h3⟩ := h
    obtain ⟨i1, i2⟩ := xtbk_in x (lo + 1) r s h3
    simp only [List.length_cons, Int.natCast_add, Int.natCast_one]
    unfold xswt
    by_cases hx : x = b.1
    · have e : x.toInt = lo := by rw [hx]; exact h1
      rw [if_pos hx]
      refine ⟨fun q => by omega, fun _ _ => ⟨a, ?_, h2⟩⟩
      rw [e, Int.sub_self]
      rfl
    · have e : ¬ x.toInt = lo := fun q => hx (Int32.toInt_inj.mp (by rw [h1]; exact q))
      rw [if_neg hx]
      refine ⟨fun q => i1 (by omega), fun q1 q2 => ?_⟩
      obtain ⟨o, k1, k2⟩ := i2 (by omega) (by omega)
      refine ⟨o, ?_, k2⟩
      have e2 : (x.toInt - lo).toNat = (x.toInt - (lo + 1)).toNat + 1 := by omega
      rw [e2, List.getElem?_cons_succ]
      exact k1
  | _, [], _ :: _, h => by simp [xtbk] at h
  | _, _ :: _, [], h => by simp [xtbk] at h
theorem ok_table {df lo hi : Int} {offs : Array Int} {len dt : Nat} {qs : List (Int32 × Nat)} (d : decode cc pc = .ok (.tableswitch df lo hi offs, len)) (hd : (pc : Int) + df = (dt : Int)) (hn : lo + offs.toList.length = hi + 1) (hk : xtbk pc lo offs.toList qs = true) : XOkS z own cc nL ini pc (i_swt qs dt) :=
  XOkS.p fun {al st t q} hf => by
    unfold i_swt at hf
    split at hf
    · rename_i x r
      cases hf
      refine ⟨rfl, fun hE _ _ hL _ _ k => ?_⟩
      obtain ⟨k1, k2⟩ := xtbk_in (dt := dt) x lo offs.toList qs hk
      have kk := k _ hL
      by_cases hx : x.toInt < lo ∨ hi < x.toInt
      · refine lv_tableOut hE.1 hE.2.1 d hx hd ?_
        have e := k1 (by omega)
        dsimp only at kk
        rw [e] at kk
        exact kk
      · obtain ⟨o, h1, h2⟩ := k2 (by omega) (by omega)
        exact lv_tableIn hE.1 hE.2.1 d (by omega) (by omega) (by rw [← Array.getElem?_toList]; exact h1) h2 kk
    · cases hf
end OKB
