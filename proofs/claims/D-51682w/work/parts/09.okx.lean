/-! EVERY INSTRUCTION IS THE MODEL'S; printed by tools/okgen.py -/
set_option maxRecDepth 100000
theorem hd_X5_accept (z : XKT) : XHd z Y_X5_accept := xHd_none rfl (xhd0 rfl)
theorem kX5_accept_0 (z : XKT) : XOi z xInf Y_X5_accept 0 (.inl (i_aload 0 1)) := ok_aload_n dX5_accept_0 rfl
theorem kX5_accept_1 (z : XKT) : XOi z xInf Y_X5_accept 1 (.inl (i_aload 1 2)) := ok_aload_n dX5_accept_1 rfl
theorem kX5_accept_2 (z : XKT) : XOi z xInf Y_X5_accept 2 (.inr (.inl (5, g_virt [(4, 237)] 1))) := show XOkC z xInf Y_X5_accept 2 5 (g_virt [(4, 237)] 1) from okc_V (q := Y_X5_accept) (List.forall_mem_cons.mpr ⟨(show XOkV z xInf Y_X5_accept 2 5 1 (4, 237) from okv_V (q := Y_X5_accept) (q1 := Y_X5_isWord) Z_X5_isWord rfl (by decide) ⟨by decide, by decide, Or.inl ⟨_, _, (List.mem_of_getElem? (l := xCls) (i := 3) rfl)⟩⟩ dX5_accept_2 q3067 q3069 qs108 q153 q3070 hy_259), (fun _ h => absurd h List.not_mem_nil)⟩)
theorem kX5_accept_5 (z : XKT) : XOi z xInf Y_X5_accept 5 (.inl (i_istore 2 6)) := ok_istore_n dX5_accept_5 rfl
theorem kX5_accept_6 (z : XKT) : XOi z xInf Y_X5_accept 6 (.inl (i_iload 2 7)) := ok_iload_n dX5_accept_6 rfl
theorem kX5_accept_7 (z : XKT) : XOi z xInf Y_X5_accept 7 (.inl (i_if (fun x => x = 0) 14 10)) := ok_if_eq dX5_accept_7 rfl
theorem kX5_accept_10 (z : XKT) : XOi z xInf Y_X5_accept 10 (.inl (i_aload 0 11)) := ok_aload_n dX5_accept_10 rfl
theorem kX5_accept_11 (z : XKT) : XOi z xInf Y_X5_accept 11 (.inr (.inl (14, g_virt [(4, 284)] 0))) := show XOkC z xInf Y_X5_accept 11 14 (g_virt [(4, 284)] 0) from okc_V (q := Y_X5_accept) (List.forall_mem_cons.mpr ⟨(show XOkV z xInf Y_X5_accept 11 14 0 (4, 284) from okv_V (q := Y_X5_accept) (q1 := Y_X5_scan) Z_X5_scan rfl (by decide) ⟨by decide, by decide, Or.inl ⟨_, _, (List.mem_of_getElem? (l := xCls) (i := 3) rfl)⟩⟩ dX5_accept_11 q3046 q3048 qs103 q153 q3049 hy_260), (fun _ h => absurd h List.not_mem_nil)⟩)
theorem kX5_accept_14 (z : XKT) : XOi z xInf Y_X5_accept 14 (.inl (i_iload 2 15)) := ok_iload_n dX5_accept_14 rfl
theorem kX5_accept_15 (z : XKT) : XOi z xInf Y_X5_accept 15 (.inr (.inr (.inl (r_i .boolean)))) := show XOkR Y_X5_accept 15 ((r_i .boolean)) from okr_i (q := Y_X5_accept) (ty := .boolean) rfl rfl dX5_accept_15
theorem o_X5_accept (z : XKT) : XMi z xInf Y_X5_accept := XMi.mk9 (T := T_X5_accept z) rfl (⟨kX5_accept_0 z, ⟨kX5_accept_1 z, ⟨kX5_accept_2 z, ⟨kX5_accept_5 z, ⟨kX5_accept_6 z, ⟨kX5_accept_7 z, ⟨kX5_accept_10 z, ⟨kX5_accept_11 z, ⟨kX5_accept_14 z, ⟨kX5_accept_15 z, trivial⟩⟩⟩⟩⟩⟩⟩⟩⟩⟩) (hd_X5_accept z) rfl rfl (by decide +kernel)
theorem hd_X5_account (z : XKT) : XHd z Y_X5_account := xHd_none rfl (xhd0 rfl)
theorem kX5_account_0 (z : XKT) : XOi z xInf Y_X5_account 0 (.inl (i_aload 0 1)) := ok_aload_n dX5_account_0 rfl
theorem kX5_account_1 (z : XKT) : XOi z xInf Y_X5_account 1 (.inl (i_iload 1 2)) := ok_iload_n dX5_account_1 rfl
theorem kX5_account_2 (z : XKT) : XOi z xInf Y_X5_account 2 (.inl (i_push (vI 0) 3)) := ok_iconst dX5_account_2 rfl
theorem kX5_account_3 (z : XKT) : XOi z xInf Y_X5_account 3 (.inl (i_push (vI 10) 5)) := ok_bipush dX5_account_3 rfl
theorem kX5_account_5 (z : XKT) : XOi z xInf Y_X5_account 5 (.inr (.inl (8, g_stat 226 3))) := show XOkC z xInf Y_X5_account 5 8 (g_stat 226 3) from okc_S (q := Y_X5_account) (q1 := Y_X5_inRange) Z_X5_inRange rfl (by decide) dX5_account_5 q2603 q2604 q153 q2605 hy_261
theorem kX5_account_8 (z : XKT) : XOi z xInf Y_X5_account 8 (.inr (.inl (11, g_virt [(4, 240)] 1))) := show XOkC z xInf Y_X5_account 8 11 (g_virt [(4, 240)] 1) from okc_V (q := Y_X5_account) (List.forall_mem_cons.mpr ⟨(show XOkV z xInf Y_X5_account 8 11 1 (4, 240) from okv_V (q := Y_X5_account) (q1 := Y_X5_lacks) Z_X5_lacks rfl (by decide) ⟨by decide, by decide, Or.inl ⟨_, _, (List.mem_of_getElem? (l := xCls) (i := 3) rfl)⟩⟩ dX5_account_8 q2606 q2608 qs46 q153 q2609 hy_262), (fun _ h => absurd h List.not_mem_nil)⟩)
theorem kX5_account_11 (z : XKT) : XOi z xInf Y_X5_account 11 (.inl (i_if (fun x => x = 0) 16 14)) := ok_if_eq dX5_account_11 rfl
theorem kX5_account_14 (z : XKT) : XOi z xInf Y_X5_account 14 (.inl (i_push (vI 0) 15)) := ok_iconst dX5_account_14 rfl
theorem kX5_account_15 (z : XKT) : XOi z xInf Y_X5_account 15 (.inr (.inr (.inl (r_i .int)))) := show XOkR Y_X5_account 15 ((r_i .int)) from okr_i (q := Y_X5_account) (ty := .int) rfl rfl dX5_account_15
theorem kX5_account_16 (z : XKT) : XOi z xInf Y_X5_account 16 (.inl (i_iload 1 17)) := ok_iload_n dX5_account_16 rfl
theorem kX5_account_17 (z : XKT) : XOi z xInf Y_X5_account 17 (.inl (i_push (vI 3) 18)) := ok_iconst dX5_account_17 rfl
theorem kX5_account_18 (z : XKT) : XOi z xInf Y_X5_account 18 (.inl (i_icmp (fun x y => y ≤ x) 30 21)) := ok_icmp_ge dX5_account_18 rfl
theorem kX5_account_21 (z : XKT) : XOi z xInf Y_X5_account 21 (.inl (i_aload 0 22)) := ok_aload_n dX5_account_21 rfl
theorem kX5_account_22 (z : XKT) : XOi z xInf Y_X5_account 22 (.inl (i_getr [4] 35 25)) := ok_getr dX5_account_22 q2512 (List.forall_mem_cons.mpr ⟨⟨_, _, _, _, fd_35_4_0⟩, (fun _ h => absurd h List.not_mem_nil)⟩)
theorem kX5_account_25 (z : XKT) : XOi z xInf Y_X5_account 25 (.inl (i_iload 1 26)) := ok_iload_n dX5_account_25 rfl
theorem kX5_account_26 (z : XKT) : XOi z xInf Y_X5_account 26 (.inl (i_ald 1000 27)) := ok_iald dX5_account_26
theorem kX5_account_27 (z : XKT) : XOi z xInf Y_X5_account 27 (.inl (i_goto 35)) := ok_goto dX5_account_27 rfl
theorem kX5_account_30 (z : XKT) : XOi z xInf Y_X5_account 30 (.inl (i_aload 0 31)) := ok_aload_n dX5_account_30 rfl
theorem kX5_account_31 (z : XKT) : XOi z xInf Y_X5_account 31 (.inl (i_iload 1 32)) := ok_iload_n dX5_account_31 rfl
theorem kX5_account_32 (z : XKT) : XOi z xInf Y_X5_account 32 (.inr (.inl (35, g_virt [(4, 290)] 1))) := show XOkC z xInf Y_X5_account 32 35 (g_virt [(4, 290)] 1) from okc_V (q := Y_X5_account) (List.forall_mem_cons.mpr ⟨(show XOkV z xInf Y_X5_account 32 35 1 (4, 290) from okv_V (q := Y_X5_account) (q1 := Y_X5_tallied) Z_X5_tallied rfl (by decide) ⟨by decide, by decide, Or.inl ⟨_, _, (List.mem_of_getElem? (l := xCls) (i := 3) rfl)⟩⟩ dX5_account_32 q2646 q2648 qs55 q153 q2649 hy_263), (fun _ h => absurd h List.not_mem_nil)⟩)
theorem kX5_account_35 (z : XKT) : XOi z xInf Y_X5_account 35 (.inr (.inr (.inl (r_i .int)))) := show XOkR Y_X5_account 35 ((r_i .int)) from okr_i (q := Y_X5_account) (ty := .int) rfl rfl dX5_account_35
theorem o_X5_account (z : XKT) : XMi z xInf Y_X5_account := XMi.mk9 (T := T_X5_account z) rfl (⟨kX5_account_0 z, ⟨kX5_account_1 z, ⟨kX5_account_2 z, ⟨kX5_account_3 z, ⟨kX5_account_5 z, ⟨kX5_account_8 z, ⟨kX5_account_11 z, ⟨kX5_account_14 z, ⟨kX5_account_15 z, ⟨kX5_account_16 z, ⟨kX5_account_17 z, ⟨kX5_account_18 z, ⟨kX5_account_21 z, ⟨kX5_account_22 z, ⟨kX5_account_25 z, ⟨kX5_account_26 z, ⟨kX5_account_27 z, ⟨kX5_account_30 z, ⟨kX5_account_31 z, ⟨kX5_account_32 z, ⟨kX5_account_35 z, trivial⟩⟩⟩⟩⟩⟩⟩⟩⟩⟩⟩⟩⟩⟩⟩⟩⟩⟩⟩⟩⟩) (hd_X5_account z) rfl rfl (by decide +kernel)
theorem hd_X5_addGood (z : XKT) : XHd z Y_X5_addGood := xHd_none rfl (xhd0 rfl)
theorem kX5_addGood_0 (z : XKT) : XOi z xInf Y_X5_addGood 0 (.inl (i_aload 0 1)) := ok_aload_n dX5_addGood_0 rfl
theorem kX5_addGood_1 (z : XKT) : XOi z xInf Y_X5_addGood 1 (.inl (i_getr [4] 40 4)) := ok_getr dX5_addGood_1 q2517 (List.forall_mem_cons.mpr ⟨⟨_, _, _, _, fd_40_4_0⟩, (fun _ h => absurd h List.not_mem_nil)⟩)
theorem kX5_addGood_4 (z : XKT) : XOi z xInf Y_X5_addGood 4 (.inl (i_push (vI 5) 5)) := ok_iconst dX5_addGood_4 rfl
theorem kX5_addGood_5 (z : XKT) : XOi z xInf Y_X5_addGood 5 (.inl (i_ald 1000 6)) := ok_iald dX5_addGood_5
theorem kX5_addGood_6 (z : XKT) : XOi z xInf Y_X5_addGood 6 (.inl (i_istore 6 8)) := ok_istore dX5_addGood_6
theorem kX5_addGood_8 (z : XKT) : XOi z xInf Y_X5_addGood 8 (.inl (i_aload 0 9)) := ok_aload_n dX5_addGood_8 rfl
theorem kX5_addGood_9 (z : XKT) : XOi z xInf Y_X5_addGood 9 (.inl (i_getr [4] 40 12)) := ok_getr dX5_addGood_9 q2517 (List.forall_mem_cons.mpr ⟨⟨_, _, _, _, fd_40_4_0⟩, (fun _ h => absurd h List.not_mem_nil)⟩)
theorem kX5_addGood_12 (z : XKT) : XOi z xInf Y_X5_addGood 12 (.inl (i_push (vI 5) 13)) := ok_iconst dX5_addGood_12 rfl
theorem kX5_addGood_13 (z : XKT) : XOi z xInf Y_X5_addGood 13 (.inl (i_dup2 14)) := ok_dup2 dX5_addGood_13
theorem kX5_addGood_14 (z : XKT) : XOi z xInf Y_X5_addGood 14 (.inl (i_ald 1000 15)) := ok_iald dX5_addGood_14
theorem kX5_addGood_15 (z : XKT) : XOi z xInf Y_X5_addGood 15 (.inl (i_push (vI 1) 16)) := ok_iconst dX5_addGood_15 rfl
theorem kX5_addGood_16 (z : XKT) : XOi z xInf Y_X5_addGood 16 (.inl (i_bin (fun x y => x + y) 17)) := ok_iadd dX5_addGood_16
theorem kX5_addGood_17 (z : XKT) : XOi z xInf Y_X5_addGood 17 (.inl (i_ast z.1 1000 (fun x => x) 18)) := ok_iast dX5_addGood_17
theorem kX5_addGood_18 (z : XKT) : XOi z xInf Y_X5_addGood 18 (.inl (i_aload 0 19)) := ok_aload_n dX5_addGood_18 rfl
theorem kX5_addGood_19 (z : XKT) : XOi z xInf Y_X5_addGood 19 (.inl (i_iload 6 21)) := ok_iload dX5_addGood_19
theorem kX5_addGood_21 (z : XKT) : XOi z xInf Y_X5_addGood 21 (.inl (i_push (vI 0) 22)) := ok_iconst dX5_addGood_21 rfl
theorem kX5_addGood_22 (z : XKT) : XOi z xInf Y_X5_addGood 22 (.inl (i_iload 1 23)) := ok_iload_n dX5_addGood_22 rfl
theorem kX5_addGood_23 (z : XKT) : XOi z xInf Y_X5_addGood 23 (.inr (.inl (26, g_virt [(4, 241)] 3))) := show XOkC z xInf Y_X5_addGood 23 26 (g_virt [(4, 241)] 3) from okc_V (q := Y_X5_addGood) (List.forall_mem_cons.mpr ⟨(show XOkV z xInf Y_X5_addGood 23 26 3 (4, 241) from okv_V (q := Y_X5_addGood) (q1 := Y_X5_lay) Z_X5_lay rfl (by decide) ⟨by decide, by decide, Or.inl ⟨_, _, (List.mem_of_getElem? (l := xCls) (i := 3) rfl)⟩⟩ dX5_addGood_23 q2503 q2505 qs45 q153 q2506 hy_264), (fun _ h => absurd h List.not_mem_nil)⟩)
theorem kX5_addGood_26 (z : XKT) : XOi z xInf Y_X5_addGood 26 (.inl (i_aload 0 27)) := ok_aload_n dX5_addGood_26 rfl
theorem kX5_addGood_27 (z : XKT) : XOi z xInf Y_X5_addGood 27 (.inl (i_iload 6 29)) := ok_iload dX5_addGood_27
theorem kX5_addGood_29 (z : XKT) : XOi z xInf Y_X5_addGood 29 (.inl (i_push (vI 1) 30)) := ok_iconst dX5_addGood_29 rfl
theorem kX5_addGood_30 (z : XKT) : XOi z xInf Y_X5_addGood 30 (.inl (i_iload 2 31)) := ok_iload_n dX5_addGood_30 rfl
theorem kX5_addGood_31 (z : XKT) : XOi z xInf Y_X5_addGood 31 (.inr (.inl (34, g_virt [(4, 241)] 3))) := show XOkC z xInf Y_X5_addGood 31 34 (g_virt [(4, 241)] 3) from okc_V (q := Y_X5_addGood) (List.forall_mem_cons.mpr ⟨(show XOkV z xInf Y_X5_addGood 31 34 3 (4, 241) from okv_V (q := Y_X5_addGood) (q1 := Y_X5_lay) Z_X5_lay rfl (by decide) ⟨by decide, by decide, Or.inl ⟨_, _, (List.mem_of_getElem? (l := xCls) (i := 3) rfl)⟩⟩ dX5_addGood_31 q2503 q2505 qs45 q153 q2506 hy_264), (fun _ h => absurd h List.not_mem_nil)⟩)
theorem kX5_addGood_34 (z : XKT) : XOi z xInf Y_X5_addGood 34 (.inl (i_aload 0 35)) := ok_aload_n dX5_addGood_34 rfl
theorem kX5_addGood_35 (z : XKT) : XOi z xInf Y_X5_addGood 35 (.inl (i_iload 6 37)) := ok_iload dX5_addGood_35
theorem kX5_addGood_37 (z : XKT) : XOi z xInf Y_X5_addGood 37 (.inl (i_push (vI 3) 38)) := ok_iconst dX5_addGood_37 rfl
theorem kX5_addGood_38 (z : XKT) : XOi z xInf Y_X5_addGood 38 (.inl (i_iload 3 39)) := ok_iload_n dX5_addGood_38 rfl
theorem kX5_addGood_39 (z : XKT) : XOi z xInf Y_X5_addGood 39 (.inr (.inl (42, g_virt [(4, 241)] 3))) := show XOkC z xInf Y_X5_addGood 39 42 (g_virt [(4, 241)] 3) from okc_V (q := Y_X5_addGood) (List.forall_mem_cons.mpr ⟨(show XOkV z xInf Y_X5_addGood 39 42 3 (4, 241) from okv_V (q := Y_X5_addGood) (q1 := Y_X5_lay) Z_X5_lay rfl (by decide) ⟨by decide, by decide, Or.inl ⟨_, _, (List.mem_of_getElem? (l := xCls) (i := 3) rfl)⟩⟩ dX5_addGood_39 q2503 q2505 qs45 q153 q2506 hy_264), (fun _ h => absurd h List.not_mem_nil)⟩)
theorem kX5_addGood_42 (z : XKT) : XOi z xInf Y_X5_addGood 42 (.inl (i_aload 0 43)) := ok_aload_n dX5_addGood_42 rfl
theorem kX5_addGood_43 (z : XKT) : XOi z xInf Y_X5_addGood 43 (.inl (i_iload 6 45)) := ok_iload dX5_addGood_43
theorem kX5_addGood_45 (z : XKT) : XOi z xInf Y_X5_addGood 45 (.inl (i_push (vI 4) 46)) := ok_iconst dX5_addGood_45 rfl
theorem kX5_addGood_46 (z : XKT) : XOi z xInf Y_X5_addGood 46 (.inl (i_iload 4 48)) := ok_iload dX5_addGood_46
theorem kX5_addGood_48 (z : XKT) : XOi z xInf Y_X5_addGood 48 (.inr (.inl (51, g_virt [(4, 241)] 3))) := show XOkC z xInf Y_X5_addGood 48 51 (g_virt [(4, 241)] 3) from okc_V (q := Y_X5_addGood) (List.forall_mem_cons.mpr ⟨(show XOkV z xInf Y_X5_addGood 48 51 3 (4, 241) from okv_V (q := Y_X5_addGood) (q1 := Y_X5_lay) Z_X5_lay rfl (by decide) ⟨by decide, by decide, Or.inl ⟨_, _, (List.mem_of_getElem? (l := xCls) (i := 3) rfl)⟩⟩ dX5_addGood_48 q2503 q2505 qs45 q153 q2506 hy_264), (fun _ h => absurd h List.not_mem_nil)⟩)
theorem kX5_addGood_51 (z : XKT) : XOi z xInf Y_X5_addGood 51 (.inl (i_aload 0 52)) := ok_aload_n dX5_addGood_51 rfl
theorem kX5_addGood_52 (z : XKT) : XOi z xInf Y_X5_addGood 52 (.inl (i_iload 6 54)) := ok_iload dX5_addGood_52
theorem kX5_addGood_54 (z : XKT) : XOi z xInf Y_X5_addGood 54 (.inl (i_push (vI 2) 55)) := ok_iconst dX5_addGood_54 rfl
theorem kX5_addGood_55 (z : XKT) : XOi z xInf Y_X5_addGood 55 (.inl (i_iload 5 57)) := ok_iload dX5_addGood_55
theorem kX5_addGood_57 (z : XKT) : XOi z xInf Y_X5_addGood 57 (.inr (.inl (60, g_virt [(4, 241)] 3))) := show XOkC z xInf Y_X5_addGood 57 60 (g_virt [(4, 241)] 3) from okc_V (q := Y_X5_addGood) (List.forall_mem_cons.mpr ⟨(show XOkV z xInf Y_X5_addGood 57 60 3 (4, 241) from okv_V (q := Y_X5_addGood) (q1 := Y_X5_lay) Z_X5_lay rfl (by decide) ⟨by decide, by decide, Or.inl ⟨_, _, (List.mem_of_getElem? (l := xCls) (i := 3) rfl)⟩⟩ dX5_addGood_57 q2503 q2505 qs45 q153 q2506 hy_264), (fun _ h => absurd h List.not_mem_nil)⟩)
theorem kX5_addGood_60 (z : XKT) : XOi z xInf Y_X5_addGood 60 (.inl (i_aload 0 61)) := ok_aload_n dX5_addGood_60 rfl
theorem kX5_addGood_61 (z : XKT) : XOi z xInf Y_X5_addGood 61 (.inl (i_iload 6 63)) := ok_iload dX5_addGood_61
theorem kX5_addGood_63 (z : XKT) : XOi z xInf Y_X5_addGood 63 (.inl (i_push (vI 7) 65)) := ok_bipush dX5_addGood_63 rfl
theorem kX5_addGood_65 (z : XKT) : XOi z xInf Y_X5_addGood 65 (.inl (i_push (vI (-1)) 66)) := ok_iconst dX5_addGood_65 rfl
theorem kX5_addGood_66 (z : XKT) : XOi z xInf Y_X5_addGood 66 (.inr (.inl (69, g_virt [(4, 241)] 3))) := show XOkC z xInf Y_X5_addGood 66 69 (g_virt [(4, 241)] 3) from okc_V (q := Y_X5_addGood) (List.forall_mem_cons.mpr ⟨(show XOkV z xInf Y_X5_addGood 66 69 3 (4, 241) from okv_V (q := Y_X5_addGood) (q1 := Y_X5_lay) Z_X5_lay rfl (by decide) ⟨by decide, by decide, Or.inl ⟨_, _, (List.mem_of_getElem? (l := xCls) (i := 3) rfl)⟩⟩ dX5_addGood_66 q2503 q2505 qs45 q153 q2506 hy_264), (fun _ h => absurd h List.not_mem_nil)⟩)
theorem kX5_addGood_69 (z : XKT) : XOi z xInf Y_X5_addGood 69 (.inr (.inr (.inl r_v))) := show XOkR Y_X5_addGood 69 (r_v) from okr_v (q := Y_X5_addGood) rfl dX5_addGood_69
theorem o_X5_addGood (z : XKT) : XMi z xInf Y_X5_addGood := XMi.mk9 (T := T_X5_addGood z) rfl (⟨kX5_addGood_0 z, ⟨kX5_addGood_1 z, ⟨kX5_addGood_4 z, ⟨kX5_addGood_5 z, ⟨kX5_addGood_6 z, ⟨kX5_addGood_8 z, ⟨kX5_addGood_9 z, ⟨kX5_addGood_12 z, ⟨kX5_addGood_13 z, ⟨kX5_addGood_14 z, ⟨kX5_addGood_15 z, ⟨kX5_addGood_16 z, ⟨kX5_addGood_17 z, ⟨kX5_addGood_18 z, ⟨kX5_addGood_19 z, ⟨kX5_addGood_21 z, ⟨kX5_addGood_22 z, ⟨kX5_addGood_23 z, ⟨kX5_addGood_26 z, ⟨kX5_addGood_27 z, ⟨kX5_addGood_29 z, ⟨kX5_addGood_30 z, ⟨kX5_addGood_31 z, ⟨kX5_addGood_34 z, ⟨kX5_addGood_35 z, ⟨kX5_addGood_37 z, ⟨kX5_addGood_38 z, ⟨kX5_addGood_39 z, ⟨kX5_addGood_42 z, ⟨kX5_addGood_43 z, ⟨kX5_addGood_45 z, ⟨kX5_addGood_46 z, ⟨kX5_addGood_48 z, ⟨kX5_addGood_51 z, ⟨kX5_addGood_52 z, ⟨kX5_addGood_54 z, ⟨kX5_addGood_55 z, ⟨kX5_addGood_57 z, ⟨kX5_addGood_60 z, ⟨kX5_addGood_61 z, ⟨kX5_addGood_63 z, ⟨kX5_addGood_65 z, ⟨kX5_addGood_66 z, ⟨kX5_addGood_69 z, trivial⟩⟩⟩⟩⟩⟩⟩⟩⟩⟩⟩⟩⟩⟩⟩⟩⟩⟩⟩⟩⟩⟩⟩⟩⟩⟩⟩⟩⟩⟩⟩⟩⟩⟩⟩⟩⟩⟩⟩⟩⟩⟩⟩⟩) (hd_X5_addGood z) rfl rfl (by decide +kernel)
theorem hd_X5_addHand (z : XKT) : XHd z Y_X5_addHand := xHd_none rfl (xhd0 rfl)
theorem kX5_addHand_0 (z : XKT) : XOi z xInf Y_X5_addHand 0 (.inl (i_aload 0 1)) := ok_aload_n dX5_addHand_0 rfl
theorem kX5_addHand_1 (z : XKT) : XOi z xInf Y_X5_addHand 1 (.inl (i_iload 1 2)) := ok_iload_n dX5_addHand_1 rfl
theorem kX5_addHand_2 (z : XKT) : XOi z xInf Y_X5_addHand 2 (.inl (i_push (vI 10) 4)) := ok_bipush dX5_addHand_2 rfl
theorem kX5_addHand_4 (z : XKT) : XOi z xInf Y_X5_addHand 4 (.inl (i_aload 0 5)) := ok_aload_n dX5_addHand_4 rfl
theorem kX5_addHand_5 (z : XKT) : XOi z xInf Y_X5_addHand 5 (.inl (i_iload 1 6)) := ok_iload_n dX5_addHand_5 rfl
theorem kX5_addHand_6 (z : XKT) : XOi z xInf Y_X5_addHand 6 (.inl (i_push (vI 9) 8)) := ok_bipush dX5_addHand_6 rfl
theorem kX5_addHand_8 (z : XKT) : XOi z xInf Y_X5_addHand 8 (.inr (.inl (11, g_virt [(4, 253)] 2))) := show XOkC z xInf Y_X5_addHand 8 11 (g_virt [(4, 253)] 2) from okc_V (q := Y_X5_addHand) (List.forall_mem_cons.mpr ⟨(show XOkV z xInf Y_X5_addHand 8 11 2 (4, 253) from okv_V (q := Y_X5_addHand) (q1 := Y_X5_of) Z_X5_of rfl (by decide) ⟨by decide, by decide, Or.inl ⟨_, _, (List.mem_of_getElem? (l := xCls) (i := 3) rfl)⟩⟩ dX5_addHand_8 q2622 q2624 qs50 q153 q2625 hy_265), (fun _ h => absurd h List.not_mem_nil)⟩)
theorem kX5_addHand_11 (z : XKT) : XOi z xInf Y_X5_addHand 11 (.inl (i_bin (fun x y => x + y) 12)) := ok_iadd dX5_addHand_11
theorem kX5_addHand_12 (z : XKT) : XOi z xInf Y_X5_addHand 12 (.inl (i_iload 2 13)) := ok_iload_n dX5_addHand_12 rfl
theorem kX5_addHand_13 (z : XKT) : XOi z xInf Y_X5_addHand 13 (.inr (.inl (16, g_virt [(4, 241)] 3))) := show XOkC z xInf Y_X5_addHand 13 16 (g_virt [(4, 241)] 3) from okc_V (q := Y_X5_addHand) (List.forall_mem_cons.mpr ⟨(show XOkV z xInf Y_X5_addHand 13 16 3 (4, 241) from okv_V (q := Y_X5_addHand) (q1 := Y_X5_lay) Z_X5_lay rfl (by decide) ⟨by decide, by decide, Or.inl ⟨_, _, (List.mem_of_getElem? (l := xCls) (i := 3) rfl)⟩⟩ dX5_addHand_13 q2503 q2505 qs45 q153 q2506 hy_264), (fun _ h => absurd h List.not_mem_nil)⟩)
theorem kX5_addHand_16 (z : XKT) : XOi z xInf Y_X5_addHand 16 (.inl (i_aload 0 17)) := ok_aload_n dX5_addHand_16 rfl
theorem kX5_addHand_17 (z : XKT) : XOi z xInf Y_X5_addHand 17 (.inl (i_iload 1 18)) := ok_iload_n dX5_addHand_17 rfl
theorem kX5_addHand_18 (z : XKT) : XOi z xInf Y_X5_addHand 18 (.inl (i_push (vI 9) 20)) := ok_bipush dX5_addHand_18 rfl
theorem kX5_addHand_20 (z : XKT) : XOi z xInf Y_X5_addHand 20 (.inl (i_aload 0 21)) := ok_aload_n dX5_addHand_20 rfl
theorem kX5_addHand_21 (z : XKT) : XOi z xInf Y_X5_addHand 21 (.inl (i_iload 1 22)) := ok_iload_n dX5_addHand_21 rfl
theorem kX5_addHand_22 (z : XKT) : XOi z xInf Y_X5_addHand 22 (.inl (i_push (vI 9) 24)) := ok_bipush dX5_addHand_22 rfl
theorem kX5_addHand_24 (z : XKT) : XOi z xInf Y_X5_addHand 24 (.inr (.inl (27, g_virt [(4, 253)] 2))) := show XOkC z xInf Y_X5_addHand 24 27 (g_virt [(4, 253)] 2) from okc_V (q := Y_X5_addHand) (List.forall_mem_cons.mpr ⟨(show XOkV z xInf Y_X5_addHand 24 27 2 (4, 253) from okv_V (q := Y_X5_addHand) (q1 := Y_X5_of) Z_X5_of rfl (by decide) ⟨by decide, by decide, Or.inl ⟨_, _, (List.mem_of_getElem? (l := xCls) (i := 3) rfl)⟩⟩ dX5_addHand_24 q2622 q2624 qs50 q153 q2625 hy_265), (fun _ h => absurd h List.not_mem_nil)⟩)
theorem kX5_addHand_27 (z : XKT) : XOi z xInf Y_X5_addHand 27 (.inl (i_push (vI 1) 28)) := ok_iconst dX5_addHand_27 rfl
theorem kX5_addHand_28 (z : XKT) : XOi z xInf Y_X5_addHand 28 (.inl (i_bin (fun x y => x + y) 29)) := ok_iadd dX5_addHand_28
theorem kX5_addHand_29 (z : XKT) : XOi z xInf Y_X5_addHand 29 (.inr (.inl (32, g_virt [(4, 241)] 3))) := show XOkC z xInf Y_X5_addHand 29 32 (g_virt [(4, 241)] 3) from okc_V (q := Y_X5_addHand) (List.forall_mem_cons.mpr ⟨(show XOkV z xInf Y_X5_addHand 29 32 3 (4, 241) from okv_V (q := Y_X5_addHand) (q1 := Y_X5_lay) Z_X5_lay rfl (by decide) ⟨by decide, by decide, Or.inl ⟨_, _, (List.mem_of_getElem? (l := xCls) (i := 3) rfl)⟩⟩ dX5_addHand_29 q2503 q2505 qs45 q153 q2506 hy_264), (fun _ h => absurd h List.not_mem_nil)⟩)
theorem kX5_addHand_32 (z : XKT) : XOi z xInf Y_X5_addHand 32 (.inl (i_aload 0 33)) := ok_aload_n dX5_addHand_32 rfl
theorem kX5_addHand_33 (z : XKT) : XOi z xInf Y_X5_addHand 33 (.inl (i_iload 2 34)) := ok_iload_n dX5_addHand_33 rfl
theorem kX5_addHand_34 (z : XKT) : XOi z xInf Y_X5_addHand 34 (.inl (i_push (vI 1) 35)) := ok_iconst dX5_addHand_34 rfl
theorem kX5_addHand_35 (z : XKT) : XOi z xInf Y_X5_addHand 35 (.inl (i_iload 1 36)) := ok_iload_n dX5_addHand_35 rfl
theorem kX5_addHand_36 (z : XKT) : XOi z xInf Y_X5_addHand 36 (.inr (.inl (39, g_virt [(4, 242)] 3))) := show XOkC z xInf Y_X5_addHand 36 39 (g_virt [(4, 242)] 3) from okc_V (q := Y_X5_addHand) (List.forall_mem_cons.mpr ⟨(show XOkV z xInf Y_X5_addHand 36 39 3 (4, 242) from okv_V (q := Y_X5_addHand) (q1 := Y_X5_layFinder) Z_X5_layFinder rfl (by decide) ⟨by decide, by decide, Or.inl ⟨_, _, (List.mem_of_getElem? (l := xCls) (i := 3) rfl)⟩⟩ dX5_addHand_36 q2495 q2497 qs43 q153 q2498 hy_266), (fun _ h => absurd h List.not_mem_nil)⟩)
theorem kX5_addHand_39 (z : XKT) : XOi z xInf Y_X5_addHand 39 (.inr (.inr (.inl r_v))) := show XOkR Y_X5_addHand 39 (r_v) from okr_v (q := Y_X5_addHand) rfl dX5_addHand_39
theorem o_X5_addHand (z : XKT) : XMi z xInf Y_X5_addHand := XMi.mk9 (T := T_X5_addHand z) rfl (⟨kX5_addHand_0 z, ⟨kX5_addHand_1 z, ⟨kX5_addHand_2 z, ⟨kX5_addHand_4 z, ⟨kX5_addHand_5 z, ⟨kX5_addHand_6 z, ⟨kX5_addHand_8 z, ⟨kX5_addHand_11 z, ⟨kX5_addHand_12 z, ⟨kX5_addHand_13 z, ⟨kX5_addHand_16 z, ⟨kX5_addHand_17 z, ⟨kX5_addHand_18 z, ⟨kX5_addHand_20 z, ⟨kX5_addHand_21 z, ⟨kX5_addHand_22 z, ⟨kX5_addHand_24 z, ⟨kX5_addHand_27 z, ⟨kX5_addHand_28 z, ⟨kX5_addHand_29 z, ⟨kX5_addHand_32 z, ⟨kX5_addHand_33 z, ⟨kX5_addHand_34 z, ⟨kX5_addHand_35 z, ⟨kX5_addHand_36 z, ⟨kX5_addHand_39 z, trivial⟩⟩⟩⟩⟩⟩⟩⟩⟩⟩⟩⟩⟩⟩⟩⟩⟩⟩⟩⟩⟩⟩⟩⟩⟩⟩) (hd_X5_addHand z) rfl rfl (by decide +kernel)
theorem hd_X5_advance (z : XKT) : XHd z Y_X5_advance := xHd_none rfl (xhd0 rfl)
theorem kX5_advance_0 (z : XKT) : XOi z xInf Y_X5_advance 0 (.inl (i_aload 0 1)) := ok_aload_n dX5_advance_0 rfl
theorem kX5_advance_1 (z : XKT) : XOi z xInf Y_X5_advance 1 (.inl (i_geti [4] 52 4)) := ok_geti dX5_advance_1 q2529 (List.forall_mem_cons.mpr ⟨⟨_, _, _, _, fd_52_4_0⟩, (fun _ h => absurd h List.not_mem_nil)⟩)
theorem kX5_advance_4 (z : XKT) : XOi z xInf Y_X5_advance 4 (.inl (i_if (fun x => ¬ x = 0) 11 7)) := ok_if_ne dX5_advance_4 rfl
theorem kX5_advance_7 (z : XKT) : XOi z xInf Y_X5_advance 7 (.inl (i_aload 0 8)) := ok_aload_n dX5_advance_7 rfl
theorem kX5_advance_8 (z : XKT) : XOi z xInf Y_X5_advance 8 (.inr (.inl (11, g_virt [(4, 284)] 0))) := show XOkC z xInf Y_X5_advance 8 11 (g_virt [(4, 284)] 0) from okc_V (q := Y_X5_advance) (List.forall_mem_cons.mpr ⟨(show XOkV z xInf Y_X5_advance 8 11 0 (4, 284) from okv_V (q := Y_X5_advance) (q1 := Y_X5_scan) Z_X5_scan rfl (by decide) ⟨by decide, by decide, Or.inl ⟨_, _, (List.mem_of_getElem? (l := xCls) (i := 3) rfl)⟩⟩ dX5_advance_8 q3046 q3048 qs103 q153 q3049 hy_260), (fun _ h => absurd h List.not_mem_nil)⟩)
theorem kX5_advance_11 (z : XKT) : XOi z xInf Y_X5_advance 11 (.inr (.inr (.inl r_v))) := show XOkR Y_X5_advance 11 (r_v) from okr_v (q := Y_X5_advance) rfl dX5_advance_11
theorem o_X5_advance (z : XKT) : XMi z xInf Y_X5_advance := XMi.mk9 (T := T_X5_advance z) rfl (⟨kX5_advance_0 z, ⟨kX5_advance_1 z, ⟨kX5_advance_4 z, ⟨kX5_advance_7 z, ⟨kX5_advance_8 z, ⟨kX5_advance_11 z, trivial⟩⟩⟩⟩⟩⟩) (hd_X5_advance z) rfl rfl (by decide +kernel)
theorem hd_X5_allPurses (z : XKT) : XHd z Y_X5_allPurses := xHd_none rfl (xhd0 rfl)
theorem kX5_allPurses_0 (z : XKT) : XOi z xInf Y_X5_allPurses 0 (.inl (i_aload 0 1)) := ok_aload_n dX5_allPurses_0 rfl
theorem kX5_allPurses_1 (z : XKT) : XOi z xInf Y_X5_allPurses 1 (.inl (i_getr [4] 40 4)) := ok_getr dX5_allPurses_1 q2517 (List.forall_mem_cons.mpr ⟨⟨_, _, _, _, fd_40_4_0⟩, (fun _ h => absurd h List.not_mem_nil)⟩)
theorem kX5_allPurses_4 (z : XKT) : XOi z xInf Y_X5_allPurses 4 (.inl (i_push (vI 6) 6)) := ok_bipush dX5_allPurses_4 rfl
theorem kX5_allPurses_6 (z : XKT) : XOi z xInf Y_X5_allPurses 6 (.inl (i_ald 1000 7)) := ok_iald dX5_allPurses_6
theorem kX5_allPurses_7 (z : XKT) : XOi z xInf Y_X5_allPurses 7 (.inl (i_istore 1 8)) := ok_istore_n dX5_allPurses_7 rfl
theorem kX5_allPurses_8 (z : XKT) : XOi z xInf Y_X5_allPurses 8 (.inl (i_push (vI 0) 9)) := ok_iconst dX5_allPurses_8 rfl
theorem kX5_allPurses_9 (z : XKT) : XOi z xInf Y_X5_allPurses 9 (.inl (i_istore 2 10)) := ok_istore_n dX5_allPurses_9 rfl
theorem kX5_allPurses_10 (z : XKT) : XOi z xInf Y_X5_allPurses 10 (.inl (i_iload 2 11)) := ok_iload_n dX5_allPurses_10 rfl
theorem kX5_allPurses_11 (z : XKT) : XOi z xInf Y_X5_allPurses 11 (.inl (i_push (vI 5) 12)) := ok_iconst dX5_allPurses_11 rfl
theorem kX5_allPurses_12 (z : XKT) : XOi z xInf Y_X5_allPurses 12 (.inl (i_icmp (fun x y => y ≤ x) 33 15)) := ok_icmp_ge dX5_allPurses_12 rfl
theorem kX5_allPurses_15 (z : XKT) : XOi z xInf Y_X5_allPurses 15 (.inl (i_iload 1 16)) := ok_iload_n dX5_allPurses_15 rfl
theorem kX5_allPurses_16 (z : XKT) : XOi z xInf Y_X5_allPurses 16 (.inl (i_aload 0 17)) := ok_aload_n dX5_allPurses_16 rfl
theorem kX5_allPurses_17 (z : XKT) : XOi z xInf Y_X5_allPurses 17 (.inl (i_getr [4] 40 20)) := ok_getr dX5_allPurses_17 q2517 (List.forall_mem_cons.mpr ⟨⟨_, _, _, _, fd_40_4_0⟩, (fun _ h => absurd h List.not_mem_nil)⟩)
theorem kX5_allPurses_20 (z : XKT) : XOi z xInf Y_X5_allPurses 20 (.inl (i_push (vI 15) 22)) := ok_bipush dX5_allPurses_20 rfl
theorem kX5_allPurses_22 (z : XKT) : XOi z xInf Y_X5_allPurses 22 (.inl (i_iload 2 23)) := ok_iload_n dX5_allPurses_22 rfl
theorem kX5_allPurses_23 (z : XKT) : XOi z xInf Y_X5_allPurses 23 (.inl (i_bin (fun x y => x + y) 24)) := ok_iadd dX5_allPurses_23
theorem kX5_allPurses_24 (z : XKT) : XOi z xInf Y_X5_allPurses 24 (.inl (i_ald 1000 25)) := ok_iald dX5_allPurses_24
theorem kX5_allPurses_25 (z : XKT) : XOi z xInf Y_X5_allPurses 25 (.inl (i_bin (fun x y => x + y) 26)) := ok_iadd dX5_allPurses_25
theorem kX5_allPurses_26 (z : XKT) : XOi z xInf Y_X5_allPurses 26 (.inl (i_istore 1 27)) := ok_istore_n dX5_allPurses_26 rfl
theorem kX5_allPurses_27 (z : XKT) : XOi z xInf Y_X5_allPurses 27 (.inl (i_iinc 2 1 30)) := ok_iinc dX5_allPurses_27 rfl
theorem kX5_allPurses_30 (z : XKT) : XOi z xInf Y_X5_allPurses 30 (.inl (i_goto 10)) := ok_goto dX5_allPurses_30 rfl
theorem kX5_allPurses_33 (z : XKT) : XOi z xInf Y_X5_allPurses 33 (.inl (i_push (vI 0) 34)) := ok_iconst dX5_allPurses_33 rfl
theorem kX5_allPurses_34 (z : XKT) : XOi z xInf Y_X5_allPurses 34 (.inl (i_istore 2 35)) := ok_istore_n dX5_allPurses_34 rfl
theorem kX5_allPurses_35 (z : XKT) : XOi z xInf Y_X5_allPurses 35 (.inl (i_iload 2 36)) := ok_iload_n dX5_allPurses_35 rfl
theorem kX5_allPurses_36 (z : XKT) : XOi z xInf Y_X5_allPurses 36 (.inl (i_aload 0 37)) := ok_aload_n dX5_allPurses_36 rfl
theorem kX5_allPurses_37 (z : XKT) : XOi z xInf Y_X5_allPurses 37 (.inl (i_getr [4] 40 40)) := ok_getr dX5_allPurses_37 q2517 (List.forall_mem_cons.mpr ⟨⟨_, _, _, _, fd_40_4_0⟩, (fun _ h => absurd h List.not_mem_nil)⟩)
theorem kX5_allPurses_40 (z : XKT) : XOi z xInf Y_X5_allPurses 40 (.inl (i_push (vI 4) 41)) := ok_iconst dX5_allPurses_40 rfl
theorem kX5_allPurses_41 (z : XKT) : XOi z xInf Y_X5_allPurses 41 (.inl (i_ald 1000 42)) := ok_iald dX5_allPurses_41
theorem kX5_allPurses_42 (z : XKT) : XOi z xInf Y_X5_allPurses 42 (.inl (i_icmp (fun x y => y ≤ x) 60 45)) := ok_icmp_ge dX5_allPurses_42 rfl
theorem kX5_allPurses_45 (z : XKT) : XOi z xInf Y_X5_allPurses 45 (.inl (i_iload 1 46)) := ok_iload_n dX5_allPurses_45 rfl
theorem kX5_allPurses_46 (z : XKT) : XOi z xInf Y_X5_allPurses 46 (.inl (i_aload 0 47)) := ok_aload_n dX5_allPurses_46 rfl
theorem kX5_allPurses_47 (z : XKT) : XOi z xInf Y_X5_allPurses 47 (.inl (i_iload 2 48)) := ok_iload_n dX5_allPurses_47 rfl
theorem kX5_allPurses_48 (z : XKT) : XOi z xInf Y_X5_allPurses 48 (.inl (i_push (vI 0) 49)) := ok_iconst dX5_allPurses_48 rfl
theorem kX5_allPurses_49 (z : XKT) : XOi z xInf Y_X5_allPurses 49 (.inr (.inl (52, g_virt [(4, 254)] 2))) := show XOkC z xInf Y_X5_allPurses 49 52 (g_virt [(4, 254)] 2) from okc_V (q := Y_X5_allPurses) (List.forall_mem_cons.mpr ⟨(show XOkV z xInf Y_X5_allPurses 49 52 2 (4, 254) from okv_V (q := Y_X5_allPurses) (q1 := Y_X5_ofFinder) Z_X5_ofFinder rfl (by decide) ⟨by decide, by decide, Or.inl ⟨_, _, (List.mem_of_getElem? (l := xCls) (i := 3) rfl)⟩⟩ dX5_allPurses_49 q2630 q2632 qs52 q153 q2633 hy_267), (fun _ h => absurd h List.not_mem_nil)⟩)
theorem kX5_allPurses_52 (z : XKT) : XOi z xInf Y_X5_allPurses 52 (.inl (i_bin (fun x y => x + y) 53)) := ok_iadd dX5_allPurses_52
theorem kX5_allPurses_53 (z : XKT) : XOi z xInf Y_X5_allPurses 53 (.inl (i_istore 1 54)) := ok_istore_n dX5_allPurses_53 rfl
theorem kX5_allPurses_54 (z : XKT) : XOi z xInf Y_X5_allPurses 54 (.inl (i_iinc 2 1 57)) := ok_iinc dX5_allPurses_54 rfl
theorem kX5_allPurses_57 (z : XKT) : XOi z xInf Y_X5_allPurses 57 (.inl (i_goto 35)) := ok_goto dX5_allPurses_57 rfl
theorem kX5_allPurses_60 (z : XKT) : XOi z xInf Y_X5_allPurses 60 (.inl (i_iload 1 61)) := ok_iload_n dX5_allPurses_60 rfl
theorem kX5_allPurses_61 (z : XKT) : XOi z xInf Y_X5_allPurses 61 (.inr (.inr (.inl (r_i .int)))) := show XOkR Y_X5_allPurses 61 ((r_i .int)) from okr_i (q := Y_X5_allPurses) (ty := .int) rfl rfl dX5_allPurses_61
theorem o_X5_allPurses (z : XKT) : XMi z xInf Y_X5_allPurses := XMi.mk9 (T := T_X5_allPurses z) rfl (⟨kX5_allPurses_0 z, ⟨kX5_allPurses_1 z, ⟨kX5_allPurses_4 z, ⟨kX5_allPurses_6 z, ⟨kX5_allPurses_7 z, ⟨kX5_allPurses_8 z, ⟨kX5_allPurses_9 z, ⟨kX5_allPurses_10 z, ⟨kX5_allPurses_11 z, ⟨kX5_allPurses_12 z, ⟨kX5_allPurses_15 z, ⟨kX5_allPurses_16 z, ⟨kX5_allPurses_17 z, ⟨kX5_allPurses_20 z, ⟨kX5_allPurses_22 z, ⟨kX5_allPurses_23 z, ⟨kX5_allPurses_24 z, ⟨kX5_allPurses_25 z, ⟨kX5_allPurses_26 z, ⟨kX5_allPurses_27 z, ⟨kX5_allPurses_30 z, ⟨kX5_allPurses_33 z, ⟨kX5_allPurses_34 z, ⟨kX5_allPurses_35 z, ⟨kX5_allPurses_36 z, ⟨kX5_allPurses_37 z, ⟨kX5_allPurses_40 z, ⟨kX5_allPurses_41 z, ⟨kX5_allPurses_42 z, ⟨kX5_allPurses_45 z, ⟨kX5_allPurses_46 z, ⟨kX5_allPurses_47 z, ⟨kX5_allPurses_48 z, ⟨kX5_allPurses_49 z, ⟨kX5_allPurses_52 z, ⟨kX5_allPurses_53 z, ⟨kX5_allPurses_54 z, ⟨kX5_allPurses_57 z, ⟨kX5_allPurses_60 z, ⟨kX5_allPurses_61 z, trivial⟩⟩⟩⟩⟩⟩⟩⟩⟩⟩⟩⟩⟩⟩⟩⟩⟩⟩⟩⟩⟩⟩⟩⟩⟩⟩⟩⟩⟩⟩⟩⟩⟩⟩⟩⟩⟩⟩⟩⟩) (hd_X5_allPurses z) rfl rfl (by decide +kernel)
theorem hd_X5_begin (z : XKT) : XHd z Y_X5_begin := xHd_none rfl (xhd0 rfl)
theorem kX5_begin_0 (z : XKT) : XOi z xInf Y_X5_begin 0 (.inl (i_push (vI 0) 1)) := ok_iconst dX5_begin_0 rfl
theorem kX5_begin_1 (z : XKT) : XOi z xInf Y_X5_begin 1 (.inl (i_istore 5 3)) := ok_istore dX5_begin_1
theorem kX5_begin_3 (z : XKT) : XOi z xInf Y_X5_begin 3 (.inl (i_iload 5 5)) := ok_iload dX5_begin_3
theorem kX5_begin_5 (z : XKT) : XOi z xInf Y_X5_begin 5 (.inl (i_push (vI 468) 8)) := ok_sipush dX5_begin_5 rfl
theorem kX5_begin_8 (z : XKT) : XOi z xInf Y_X5_begin 8 (.inl (i_icmp (fun x y => y ≤ x) 25 11)) := ok_icmp_ge dX5_begin_8 rfl
theorem kX5_begin_11 (z : XKT) : XOi z xInf Y_X5_begin 11 (.inl (i_aload 0 12)) := ok_aload_n dX5_begin_11 rfl
theorem kX5_begin_12 (z : XKT) : XOi z xInf Y_X5_begin 12 (.inl (i_getr [4] 40 15)) := ok_getr dX5_begin_12 q2517 (List.forall_mem_cons.mpr ⟨⟨_, _, _, _, fd_40_4_0⟩, (fun _ h => absurd h List.not_mem_nil)⟩)
theorem kX5_begin_15 (z : XKT) : XOi z xInf Y_X5_begin 15 (.inl (i_iload 5 17)) := ok_iload dX5_begin_15
theorem kX5_begin_17 (z : XKT) : XOi z xInf Y_X5_begin 17 (.inl (i_push (vI 0) 18)) := ok_iconst dX5_begin_17 rfl
theorem kX5_begin_18 (z : XKT) : XOi z xInf Y_X5_begin 18 (.inl (i_ast z.1 1000 (fun x => x) 19)) := ok_iast dX5_begin_18
theorem kX5_begin_19 (z : XKT) : XOi z xInf Y_X5_begin 19 (.inl (i_iinc 5 1 22)) := ok_iinc dX5_begin_19 rfl
theorem kX5_begin_22 (z : XKT) : XOi z xInf Y_X5_begin 22 (.inl (i_goto 3)) := ok_goto dX5_begin_22 rfl
theorem kX5_begin_25 (z : XKT) : XOi z xInf Y_X5_begin 25 (.inl (i_aload 0 26)) := ok_aload_n dX5_begin_25 rfl
theorem kX5_begin_26 (z : XKT) : XOi z xInf Y_X5_begin 26 (.inl (i_getr [4] 40 29)) := ok_getr dX5_begin_26 q2517 (List.forall_mem_cons.mpr ⟨⟨_, _, _, _, fd_40_4_0⟩, (fun _ h => absurd h List.not_mem_nil)⟩)
theorem kX5_begin_29 (z : XKT) : XOi z xInf Y_X5_begin 29 (.inl (i_push (vI 1) 30)) := ok_iconst dX5_begin_29 rfl
theorem kX5_begin_30 (z : XKT) : XOi z xInf Y_X5_begin 30 (.inl (i_iload 1 31)) := ok_iload_n dX5_begin_30 rfl
theorem kX5_begin_31 (z : XKT) : XOi z xInf Y_X5_begin 31 (.inl (i_ast z.1 1000 (fun x => x) 32)) := ok_iast dX5_begin_31
theorem kX5_begin_32 (z : XKT) : XOi z xInf Y_X5_begin 32 (.inl (i_aload 0 33)) := ok_aload_n dX5_begin_32 rfl
theorem kX5_begin_33 (z : XKT) : XOi z xInf Y_X5_begin 33 (.inl (i_getr [4] 40 36)) := ok_getr dX5_begin_33 q2517 (List.forall_mem_cons.mpr ⟨⟨_, _, _, _, fd_40_4_0⟩, (fun _ h => absurd h List.not_mem_nil)⟩)
theorem kX5_begin_36 (z : XKT) : XOi z xInf Y_X5_begin 36 (.inl (i_push (vI 2) 37)) := ok_iconst dX5_begin_36 rfl
theorem kX5_begin_37 (z : XKT) : XOi z xInf Y_X5_begin 37 (.inl (i_iload 2 38)) := ok_iload_n dX5_begin_37 rfl
theorem kX5_begin_38 (z : XKT) : XOi z xInf Y_X5_begin 38 (.inl (i_ast z.1 1000 (fun x => x) 39)) := ok_iast dX5_begin_38
theorem kX5_begin_39 (z : XKT) : XOi z xInf Y_X5_begin 39 (.inl (i_aload 0 40)) := ok_aload_n dX5_begin_39 rfl
theorem kX5_begin_40 (z : XKT) : XOi z xInf Y_X5_begin 40 (.inl (i_getr [4] 40 43)) := ok_getr dX5_begin_40 q2517 (List.forall_mem_cons.mpr ⟨⟨_, _, _, _, fd_40_4_0⟩, (fun _ h => absurd h List.not_mem_nil)⟩)
theorem kX5_begin_43 (z : XKT) : XOi z xInf Y_X5_begin 43 (.inl (i_push (vI 3) 44)) := ok_iconst dX5_begin_43 rfl
theorem kX5_begin_44 (z : XKT) : XOi z xInf Y_X5_begin 44 (.inl (i_iload 3 45)) := ok_iload_n dX5_begin_44 rfl
theorem kX5_begin_45 (z : XKT) : XOi z xInf Y_X5_begin 45 (.inl (i_ast z.1 1000 (fun x => x) 46)) := ok_iast dX5_begin_45
theorem kX5_begin_46 (z : XKT) : XOi z xInf Y_X5_begin 46 (.inl (i_aload 0 47)) := ok_aload_n dX5_begin_46 rfl
theorem kX5_begin_47 (z : XKT) : XOi z xInf Y_X5_begin 47 (.inl (i_getr [4] 40 50)) := ok_getr dX5_begin_47 q2517 (List.forall_mem_cons.mpr ⟨⟨_, _, _, _, fd_40_4_0⟩, (fun _ h => absurd h List.not_mem_nil)⟩)
theorem kX5_begin_50 (z : XKT) : XOi z xInf Y_X5_begin 50 (.inl (i_push (vI 4) 51)) := ok_iconst dX5_begin_50 rfl
theorem kX5_begin_51 (z : XKT) : XOi z xInf Y_X5_begin 51 (.inl (i_iload 4 53)) := ok_iload dX5_begin_51
theorem kX5_begin_53 (z : XKT) : XOi z xInf Y_X5_begin 53 (.inl (i_ast z.1 1000 (fun x => x) 54)) := ok_iast dX5_begin_53
theorem kX5_begin_54 (z : XKT) : XOi z xInf Y_X5_begin 54 (.inl (i_push (vI 0) 55)) := ok_iconst dX5_begin_54 rfl
theorem kX5_begin_55 (z : XKT) : XOi z xInf Y_X5_begin 55 (.inl (i_istore 5 57)) := ok_istore dX5_begin_55
theorem kX5_begin_57 (z : XKT) : XOi z xInf Y_X5_begin 57 (.inl (i_iload 5 59)) := ok_iload dX5_begin_57
theorem kX5_begin_59 (z : XKT) : XOi z xInf Y_X5_begin 59 (.inl (i_iload 4 61)) := ok_iload dX5_begin_59
theorem kX5_begin_61 (z : XKT) : XOi z xInf Y_X5_begin 61 (.inl (i_icmp (fun x y => y ≤ x) 78 64)) := ok_icmp_ge dX5_begin_61 rfl
theorem kX5_begin_64 (z : XKT) : XOi z xInf Y_X5_begin 64 (.inl (i_aload 0 65)) := ok_aload_n dX5_begin_64 rfl
theorem kX5_begin_65 (z : XKT) : XOi z xInf Y_X5_begin 65 (.inl (i_iload 5 67)) := ok_iload dX5_begin_65
theorem kX5_begin_67 (z : XKT) : XOi z xInf Y_X5_begin 67 (.inl (i_push (vI 1) 68)) := ok_iconst dX5_begin_67 rfl
theorem kX5_begin_68 (z : XKT) : XOi z xInf Y_X5_begin 68 (.inl (i_push (vI (-1)) 69)) := ok_iconst dX5_begin_68 rfl
theorem kX5_begin_69 (z : XKT) : XOi z xInf Y_X5_begin 69 (.inr (.inl (72, g_virt [(4, 242)] 3))) := show XOkC z xInf Y_X5_begin 69 72 (g_virt [(4, 242)] 3) from okc_V (q := Y_X5_begin) (List.forall_mem_cons.mpr ⟨(show XOkV z xInf Y_X5_begin 69 72 3 (4, 242) from okv_V (q := Y_X5_begin) (q1 := Y_X5_layFinder) Z_X5_layFinder rfl (by decide) ⟨by decide, by decide, Or.inl ⟨_, _, (List.mem_of_getElem? (l := xCls) (i := 3) rfl)⟩⟩ dX5_begin_69 q2495 q2497 qs43 q153 q2498 hy_266), (fun _ h => absurd h List.not_mem_nil)⟩)
theorem kX5_begin_72 (z : XKT) : XOi z xInf Y_X5_begin 72 (.inl (i_iinc 5 1 75)) := ok_iinc dX5_begin_72 rfl
theorem kX5_begin_75 (z : XKT) : XOi z xInf Y_X5_begin 75 (.inl (i_goto 57)) := ok_goto dX5_begin_75 rfl
theorem kX5_begin_78 (z : XKT) : XOi z xInf Y_X5_begin 78 (.inr (.inr (.inl r_v))) := show XOkR Y_X5_begin 78 (r_v) from okr_v (q := Y_X5_begin) rfl dX5_begin_78
theorem o_X5_begin (z : XKT) : XMi z xInf Y_X5_begin := XMi.mk9 (T := T_X5_begin z) rfl (⟨kX5_begin_0 z, ⟨kX5_begin_1 z, ⟨kX5_begin_3 z, ⟨kX5_begin_5 z, ⟨kX5_begin_8 z, ⟨kX5_begin_11 z, ⟨kX5_begin_12 z, ⟨kX5_begin_15 z, ⟨kX5_begin_17 z, ⟨kX5_begin_18 z, ⟨kX5_begin_19 z, ⟨kX5_begin_22 z, ⟨kX5_begin_25 z, ⟨kX5_begin_26 z, ⟨kX5_begin_29 z, ⟨kX5_begin_30 z, ⟨kX5_begin_31 z, ⟨kX5_begin_32 z, ⟨kX5_begin_33 z, ⟨kX5_begin_36 z, ⟨kX5_begin_37 z, ⟨kX5_begin_38 z, ⟨kX5_begin_39 z, ⟨kX5_begin_40 z, ⟨kX5_begin_43 z, ⟨kX5_begin_44 z, ⟨kX5_begin_45 z, ⟨kX5_begin_46 z, ⟨kX5_begin_47 z, ⟨kX5_begin_50 z, ⟨kX5_begin_51 z, ⟨kX5_begin_53 z, ⟨kX5_begin_54 z, ⟨kX5_begin_55 z, ⟨kX5_begin_57 z, ⟨kX5_begin_59 z, ⟨kX5_begin_61 z, ⟨kX5_begin_64 z, ⟨kX5_begin_65 z, ⟨kX5_begin_67 z, ⟨kX5_begin_68 z, ⟨kX5_begin_69 z, ⟨kX5_begin_72 z, ⟨kX5_begin_75 z, ⟨kX5_begin_78 z, trivial⟩⟩⟩⟩⟩⟩⟩⟩⟩⟩⟩⟩⟩⟩⟩⟩⟩⟩⟩⟩⟩⟩⟩⟩⟩⟩⟩⟩⟩⟩⟩⟩⟩⟩⟩⟩⟩⟩⟩⟩⟩⟩⟩⟩⟩) (hd_X5_begin z) rfl rfl (by decide +kernel)
theorem hd_X5_bestClaim (z : XKT) : XHd z Y_X5_bestClaim := xHd_none rfl (xhd0 rfl)
theorem kX5_bestClaim_0 (z : XKT) : XOi z xInf Y_X5_bestClaim 0 (.inl (i_aload 0 1)) := ok_aload_n dX5_bestClaim_0 rfl
theorem kX5_bestClaim_1 (z : XKT) : XOi z xInf Y_X5_bestClaim 1 (.inl (i_push (vI 0) 2)) := ok_iconst dX5_bestClaim_1 rfl
theorem kX5_bestClaim_2 (z : XKT) : XOi z xInf Y_X5_bestClaim 2 (.inl (i_puti z.1 [4] .int 42 5)) := ok_puti dX5_bestClaim_2 q2519 rfl (List.forall_mem_cons.mpr ⟨⟨_, _, _, _, tyX5, fd_42_4_0, ⟨tyX5_ok, nmX5, (Or.inl rfl)⟩, rfl⟩, (fun _ h => absurd h List.not_mem_nil)⟩)
theorem kX5_bestClaim_5 (z : XKT) : XOi z xInf Y_X5_bestClaim 5 (.inl (i_push (vI (-1)) 6)) := ok_iconst dX5_bestClaim_5 rfl
theorem kX5_bestClaim_6 (z : XKT) : XOi z xInf Y_X5_bestClaim 6 (.inl (i_istore 1 7)) := ok_istore_n dX5_bestClaim_6 rfl
theorem kX5_bestClaim_7 (z : XKT) : XOi z xInf Y_X5_bestClaim 7 (.inl (i_push (vI 0) 8)) := ok_iconst dX5_bestClaim_7 rfl
theorem kX5_bestClaim_8 (z : XKT) : XOi z xInf Y_X5_bestClaim 8 (.inl (i_istore 2 9)) := ok_istore_n dX5_bestClaim_8 rfl
theorem kX5_bestClaim_9 (z : XKT) : XOi z xInf Y_X5_bestClaim 9 (.inl (i_push (vI 1) 10)) := ok_iconst dX5_bestClaim_9 rfl
theorem kX5_bestClaim_10 (z : XKT) : XOi z xInf Y_X5_bestClaim 10 (.inl (i_istore 3 11)) := ok_istore_n dX5_bestClaim_10 rfl
theorem kX5_bestClaim_11 (z : XKT) : XOi z xInf Y_X5_bestClaim 11 (.inl (i_iload 3 12)) := ok_iload_n dX5_bestClaim_11 rfl
theorem kX5_bestClaim_12 (z : XKT) : XOi z xInf Y_X5_bestClaim 12 (.inl (i_push (vI 5) 13)) := ok_iconst dX5_bestClaim_12 rfl
theorem kX5_bestClaim_13 (z : XKT) : XOi z xInf Y_X5_bestClaim 13 (.inl (i_icmp (fun x y => y < x) 39 16)) := ok_icmp_gt dX5_bestClaim_13 rfl
theorem kX5_bestClaim_16 (z : XKT) : XOi z xInf Y_X5_bestClaim 16 (.inl (i_aload 0 17)) := ok_aload_n dX5_bestClaim_16 rfl
theorem kX5_bestClaim_17 (z : XKT) : XOi z xInf Y_X5_bestClaim 17 (.inl (i_iload 3 18)) := ok_iload_n dX5_bestClaim_17 rfl
theorem kX5_bestClaim_18 (z : XKT) : XOi z xInf Y_X5_bestClaim 18 (.inr (.inl (21, g_virt [(4, 182)] 1))) := show XOkC z xInf Y_X5_bestClaim 18 21 (g_virt [(4, 182)] 1) from okc_V (q := Y_X5_bestClaim) (List.forall_mem_cons.mpr ⟨(show XOkV z xInf Y_X5_bestClaim 18 21 1 (4, 182) from okv_V (q := Y_X5_bestClaim) (q1 := Y_X5_claimable) Z_X5_claimable rfl (by decide) ⟨by decide, by decide, Or.inl ⟨_, _, (List.mem_of_getElem? (l := xCls) (i := 3) rfl)⟩⟩ dX5_bestClaim_18 q2826 q2828 qs76 q153 q2829 hy_268), (fun _ h => absurd h List.not_mem_nil)⟩)
theorem kX5_bestClaim_21 (z : XKT) : XOi z xInf Y_X5_bestClaim 21 (.inl (i_iload 2 22)) := ok_iload_n dX5_bestClaim_21 rfl
theorem kX5_bestClaim_22 (z : XKT) : XOi z xInf Y_X5_bestClaim 22 (.inl (i_icmp (fun x y => x ≤ y) 33 25)) := ok_icmp_le dX5_bestClaim_22 rfl
theorem kX5_bestClaim_25 (z : XKT) : XOi z xInf Y_X5_bestClaim 25 (.inl (i_iload 3 26)) := ok_iload_n dX5_bestClaim_25 rfl
theorem kX5_bestClaim_26 (z : XKT) : XOi z xInf Y_X5_bestClaim 26 (.inl (i_istore 1 27)) := ok_istore_n dX5_bestClaim_26 rfl
theorem kX5_bestClaim_27 (z : XKT) : XOi z xInf Y_X5_bestClaim 27 (.inl (i_aload 0 28)) := ok_aload_n dX5_bestClaim_27 rfl
theorem kX5_bestClaim_28 (z : XKT) : XOi z xInf Y_X5_bestClaim 28 (.inl (i_iload 3 29)) := ok_iload_n dX5_bestClaim_28 rfl
theorem kX5_bestClaim_29 (z : XKT) : XOi z xInf Y_X5_bestClaim 29 (.inr (.inl (32, g_virt [(4, 182)] 1))) := show XOkC z xInf Y_X5_bestClaim 29 32 (g_virt [(4, 182)] 1) from okc_V (q := Y_X5_bestClaim) (List.forall_mem_cons.mpr ⟨(show XOkV z xInf Y_X5_bestClaim 29 32 1 (4, 182) from okv_V (q := Y_X5_bestClaim) (q1 := Y_X5_claimable) Z_X5_claimable rfl (by decide) ⟨by decide, by decide, Or.inl ⟨_, _, (List.mem_of_getElem? (l := xCls) (i := 3) rfl)⟩⟩ dX5_bestClaim_29 q2826 q2828 qs76 q153 q2829 hy_268), (fun _ h => absurd h List.not_mem_nil)⟩)
theorem kX5_bestClaim_32 (z : XKT) : XOi z xInf Y_X5_bestClaim 32 (.inl (i_istore 2 33)) := ok_istore_n dX5_bestClaim_32 rfl
theorem kX5_bestClaim_33 (z : XKT) : XOi z xInf Y_X5_bestClaim 33 (.inl (i_iinc 3 1 36)) := ok_iinc dX5_bestClaim_33 rfl
theorem kX5_bestClaim_36 (z : XKT) : XOi z xInf Y_X5_bestClaim 36 (.inl (i_goto 11)) := ok_goto dX5_bestClaim_36 rfl
theorem kX5_bestClaim_39 (z : XKT) : XOi z xInf Y_X5_bestClaim 39 (.inl (i_iload 1 40)) := ok_iload_n dX5_bestClaim_39 rfl
theorem kX5_bestClaim_40 (z : XKT) : XOi z xInf Y_X5_bestClaim 40 (.inr (.inr (.inl (r_i .int)))) := show XOkR Y_X5_bestClaim 40 ((r_i .int)) from okr_i (q := Y_X5_bestClaim) (ty := .int) rfl rfl dX5_bestClaim_40
theorem o_X5_bestClaim (z : XKT) : XMi z xInf Y_X5_bestClaim := XMi.mk9 (T := T_X5_bestClaim z) rfl (⟨kX5_bestClaim_0 z, ⟨kX5_bestClaim_1 z, ⟨kX5_bestClaim_2 z, ⟨kX5_bestClaim_5 z, ⟨kX5_bestClaim_6 z, ⟨kX5_bestClaim_7 z, ⟨kX5_bestClaim_8 z, ⟨kX5_bestClaim_9 z, ⟨kX5_bestClaim_10 z, ⟨kX5_bestClaim_11 z, ⟨kX5_bestClaim_12 z, ⟨kX5_bestClaim_13 z, ⟨kX5_bestClaim_16 z, ⟨kX5_bestClaim_17 z, ⟨kX5_bestClaim_18 z, ⟨kX5_bestClaim_21 z, ⟨kX5_bestClaim_22 z, ⟨kX5_bestClaim_25 z, ⟨kX5_bestClaim_26 z, ⟨kX5_bestClaim_27 z, ⟨kX5_bestClaim_28 z, ⟨kX5_bestClaim_29 z, ⟨kX5_bestClaim_32 z, ⟨kX5_bestClaim_33 z, ⟨kX5_bestClaim_36 z, ⟨kX5_bestClaim_39 z, ⟨kX5_bestClaim_40 z, trivial⟩⟩⟩⟩⟩⟩⟩⟩⟩⟩⟩⟩⟩⟩⟩⟩⟩⟩⟩⟩⟩⟩⟩⟩⟩⟩⟩) (hd_X5_bestClaim z) rfl rfl (by decide +kernel)
theorem hd_X5_bestHaul (z : XKT) : XHd z Y_X5_bestHaul := xHd_none rfl (xhd0 rfl)
theorem kX5_bestHaul_0 (z : XKT) : XOi z xInf Y_X5_bestHaul 0 (.inl (i_aload 0 1)) := ok_aload_n dX5_bestHaul_0 rfl
theorem kX5_bestHaul_1 (z : XKT) : XOi z xInf Y_X5_bestHaul 1 (.inl (i_push (vI 0) 2)) := ok_iconst dX5_bestHaul_1 rfl
theorem kX5_bestHaul_2 (z : XKT) : XOi z xInf Y_X5_bestHaul 2 (.inl (i_puti z.1 [4] .int 42 5)) := ok_puti dX5_bestHaul_2 q2519 rfl (List.forall_mem_cons.mpr ⟨⟨_, _, _, _, tyX5, fd_42_4_0, ⟨tyX5_ok, nmX5, (Or.inl rfl)⟩, rfl⟩, (fun _ h => absurd h List.not_mem_nil)⟩)
theorem kX5_bestHaul_5 (z : XKT) : XOi z xInf Y_X5_bestHaul 5 (.inl (i_push (vI (-1)) 6)) := ok_iconst dX5_bestHaul_5 rfl
theorem kX5_bestHaul_6 (z : XKT) : XOi z xInf Y_X5_bestHaul 6 (.inl (i_istore 1 7)) := ok_istore_n dX5_bestHaul_6 rfl
theorem kX5_bestHaul_7 (z : XKT) : XOi z xInf Y_X5_bestHaul 7 (.inl (i_aload 0 8)) := ok_aload_n dX5_bestHaul_7 rfl
theorem kX5_bestHaul_8 (z : XKT) : XOi z xInf Y_X5_bestHaul 8 (.inr (.inl (11, g_virt [(4, 187)] 0))) := show XOkC z xInf Y_X5_bestHaul 8 11 (g_virt [(4, 187)] 0) from okc_V (q := Y_X5_bestHaul) (List.forall_mem_cons.mpr ⟨(show XOkV z xInf Y_X5_bestHaul 8 11 0 (4, 187) from okv_V (q := Y_X5_bestHaul) (q1 := Y_X5_countFree) Z_X5_countFree rfl (by decide) ⟨by decide, by decide, Or.inl ⟨_, _, (List.mem_of_getElem? (l := xCls) (i := 3) rfl)⟩⟩ dX5_bestHaul_8 q2626 q2628 qs51 q153 q2629 hy_269), (fun _ h => absurd h List.not_mem_nil)⟩)
theorem kX5_bestHaul_11 (z : XKT) : XOi z xInf Y_X5_bestHaul 11 (.inl (i_istore 2 12)) := ok_istore_n dX5_bestHaul_11 rfl
theorem kX5_bestHaul_12 (z : XKT) : XOi z xInf Y_X5_bestHaul 12 (.inl (i_push (vI 0) 13)) := ok_iconst dX5_bestHaul_12 rfl
theorem kX5_bestHaul_13 (z : XKT) : XOi z xInf Y_X5_bestHaul 13 (.inl (i_istore 3 14)) := ok_istore_n dX5_bestHaul_13 rfl
theorem kX5_bestHaul_14 (z : XKT) : XOi z xInf Y_X5_bestHaul 14 (.inl (i_iload 3 15)) := ok_iload_n dX5_bestHaul_14 rfl
theorem kX5_bestHaul_15 (z : XKT) : XOi z xInf Y_X5_bestHaul 15 (.inl (i_aload 0 16)) := ok_aload_n dX5_bestHaul_15 rfl
theorem kX5_bestHaul_16 (z : XKT) : XOi z xInf Y_X5_bestHaul 16 (.inl (i_getr [4] 40 19)) := ok_getr dX5_bestHaul_16 q2517 (List.forall_mem_cons.mpr ⟨⟨_, _, _, _, fd_40_4_0⟩, (fun _ h => absurd h List.not_mem_nil)⟩)
theorem kX5_bestHaul_19 (z : XKT) : XOi z xInf Y_X5_bestHaul 19 (.inl (i_push (vI 5) 20)) := ok_iconst dX5_bestHaul_19 rfl
theorem kX5_bestHaul_20 (z : XKT) : XOi z xInf Y_X5_bestHaul 20 (.inl (i_ald 1000 21)) := ok_iald dX5_bestHaul_20
theorem kX5_bestHaul_21 (z : XKT) : XOi z xInf Y_X5_bestHaul 21 (.inl (i_icmp (fun x y => y ≤ x) 109 24)) := ok_icmp_ge dX5_bestHaul_21 rfl
theorem kX5_bestHaul_24 (z : XKT) : XOi z xInf Y_X5_bestHaul 24 (.inl (i_aload 0 25)) := ok_aload_n dX5_bestHaul_24 rfl
theorem kX5_bestHaul_25 (z : XKT) : XOi z xInf Y_X5_bestHaul 25 (.inl (i_iload 3 26)) := ok_iload_n dX5_bestHaul_25 rfl
theorem kX5_bestHaul_26 (z : XKT) : XOi z xInf Y_X5_bestHaul 26 (.inl (i_push (vI 0) 27)) := ok_iconst dX5_bestHaul_26 rfl
theorem kX5_bestHaul_27 (z : XKT) : XOi z xInf Y_X5_bestHaul 27 (.inr (.inl (30, g_virt [(4, 233)] 2))) := show XOkC z xInf Y_X5_bestHaul 27 30 (g_virt [(4, 233)] 2) from okc_V (q := Y_X5_bestHaul) (List.forall_mem_cons.mpr ⟨(show XOkV z xInf Y_X5_bestHaul 27 30 2 (4, 233) from okv_V (q := Y_X5_bestHaul) (q1 := Y_X5_isIn) Z_X5_isIn rfl (by decide) ⟨by decide, by decide, Or.inl ⟨_, _, (List.mem_of_getElem? (l := xCls) (i := 3) rfl)⟩⟩ dX5_bestHaul_27 q2618 q2620 qs49 q153 q2621 hy_270), (fun _ h => absurd h List.not_mem_nil)⟩)
theorem kX5_bestHaul_30 (z : XKT) : XOi z xInf Y_X5_bestHaul 30 (.inl (i_if (fun x => x = 0) 69 33)) := ok_if_eq dX5_bestHaul_30 rfl
theorem kX5_bestHaul_33 (z : XKT) : XOi z xInf Y_X5_bestHaul 33 (.inl (i_aload 0 34)) := ok_aload_n dX5_bestHaul_33 rfl
theorem kX5_bestHaul_34 (z : XKT) : XOi z xInf Y_X5_bestHaul 34 (.inl (i_iload 3 35)) := ok_iload_n dX5_bestHaul_34 rfl
theorem kX5_bestHaul_35 (z : XKT) : XOi z xInf Y_X5_bestHaul 35 (.inl (i_aload 0 36)) := ok_aload_n dX5_bestHaul_35 rfl
theorem kX5_bestHaul_36 (z : XKT) : XOi z xInf Y_X5_bestHaul 36 (.inl (i_getr [4] 40 39)) := ok_getr dX5_bestHaul_36 q2517 (List.forall_mem_cons.mpr ⟨⟨_, _, _, _, fd_40_4_0⟩, (fun _ h => absurd h List.not_mem_nil)⟩)
theorem kX5_bestHaul_39 (z : XKT) : XOi z xInf Y_X5_bestHaul 39 (.inl (i_push (vI 0) 40)) := ok_iconst dX5_bestHaul_39 rfl
theorem kX5_bestHaul_40 (z : XKT) : XOi z xInf Y_X5_bestHaul 40 (.inl (i_ald 1000 41)) := ok_iald dX5_bestHaul_40
theorem kX5_bestHaul_41 (z : XKT) : XOi z xInf Y_X5_bestHaul 41 (.inr (.inl (44, g_virt [(4, 230)] 2))) := show XOkC z xInf Y_X5_bestHaul 41 44 (g_virt [(4, 230)] 2) from okc_V (q := Y_X5_bestHaul) (List.forall_mem_cons.mpr ⟨(show XOkV z xInf Y_X5_bestHaul 41 44 2 (4, 230) from okv_V (q := Y_X5_bestHaul) (q1 := Y_X5_isDry) Z_X5_isDry rfl (by decide) ⟨by decide, by decide, Or.inl ⟨_, _, (List.mem_of_getElem? (l := xCls) (i := 3) rfl)⟩⟩ dX5_bestHaul_41 q2638 q2640 qs54 q153 q2641 hy_271), (fun _ h => absurd h List.not_mem_nil)⟩)
theorem kX5_bestHaul_44 (z : XKT) : XOi z xInf Y_X5_bestHaul 44 (.inl (i_if (fun x => x = 0) 69 47)) := ok_if_eq dX5_bestHaul_44 rfl
theorem kX5_bestHaul_47 (z : XKT) : XOi z xInf Y_X5_bestHaul 47 (.inl (i_aload 0 48)) := ok_aload_n dX5_bestHaul_47 rfl
theorem kX5_bestHaul_48 (z : XKT) : XOi z xInf Y_X5_bestHaul 48 (.inl (i_iload 3 49)) := ok_iload_n dX5_bestHaul_48 rfl
theorem kX5_bestHaul_49 (z : XKT) : XOi z xInf Y_X5_bestHaul 49 (.inl (i_push (vI 9) 51)) := ok_bipush dX5_bestHaul_49 rfl
theorem kX5_bestHaul_51 (z : XKT) : XOi z xInf Y_X5_bestHaul 51 (.inr (.inl (54, g_virt [(4, 253)] 2))) := show XOkC z xInf Y_X5_bestHaul 51 54 (g_virt [(4, 253)] 2) from okc_V (q := Y_X5_bestHaul) (List.forall_mem_cons.mpr ⟨(show XOkV z xInf Y_X5_bestHaul 51 54 2 (4, 253) from okv_V (q := Y_X5_bestHaul) (q1 := Y_X5_of) Z_X5_of rfl (by decide) ⟨by decide, by decide, Or.inl ⟨_, _, (List.mem_of_getElem? (l := xCls) (i := 3) rfl)⟩⟩ dX5_bestHaul_51 q2622 q2624 qs50 q153 q2625 hy_265), (fun _ h => absurd h List.not_mem_nil)⟩)
theorem kX5_bestHaul_54 (z : XKT) : XOi z xInf Y_X5_bestHaul 54 (.inl (i_iload 2 55)) := ok_iload_n dX5_bestHaul_54 rfl
theorem kX5_bestHaul_55 (z : XKT) : XOi z xInf Y_X5_bestHaul 55 (.inl (i_bin (fun x y => x + y) 56)) := ok_iadd dX5_bestHaul_55
theorem kX5_bestHaul_56 (z : XKT) : XOi z xInf Y_X5_bestHaul 56 (.inl (i_aload 0 57)) := ok_aload_n dX5_bestHaul_56 rfl
theorem kX5_bestHaul_57 (z : XKT) : XOi z xInf Y_X5_bestHaul 57 (.inl (i_iload 3 58)) := ok_iload_n dX5_bestHaul_57 rfl
theorem kX5_bestHaul_58 (z : XKT) : XOi z xInf Y_X5_bestHaul 58 (.inl (i_push (vI 4) 59)) := ok_iconst dX5_bestHaul_58 rfl
theorem kX5_bestHaul_59 (z : XKT) : XOi z xInf Y_X5_bestHaul 59 (.inr (.inl (62, g_virt [(4, 253)] 2))) := show XOkC z xInf Y_X5_bestHaul 59 62 (g_virt [(4, 253)] 2) from okc_V (q := Y_X5_bestHaul) (List.forall_mem_cons.mpr ⟨(show XOkV z xInf Y_X5_bestHaul 59 62 2 (4, 253) from okv_V (q := Y_X5_bestHaul) (q1 := Y_X5_of) Z_X5_of rfl (by decide) ⟨by decide, by decide, Or.inl ⟨_, _, (List.mem_of_getElem? (l := xCls) (i := 3) rfl)⟩⟩ dX5_bestHaul_59 q2622 q2624 qs50 q153 q2625 hy_265), (fun _ h => absurd h List.not_mem_nil)⟩)
theorem kX5_bestHaul_62 (z : XKT) : XOi z xInf Y_X5_bestHaul 62 (.inl (i_icmp (fun x y => x < y) 69 65)) := ok_icmp_lt dX5_bestHaul_62 rfl
theorem kX5_bestHaul_65 (z : XKT) : XOi z xInf Y_X5_bestHaul 65 (.inl (i_push (vI 1) 66)) := ok_iconst dX5_bestHaul_65 rfl
theorem kX5_bestHaul_66 (z : XKT) : XOi z xInf Y_X5_bestHaul 66 (.inl (i_goto 70)) := ok_goto dX5_bestHaul_66 rfl
theorem kX5_bestHaul_69 (z : XKT) : XOi z xInf Y_X5_bestHaul 69 (.inl (i_push (vI 0) 70)) := ok_iconst dX5_bestHaul_69 rfl
theorem kX5_bestHaul_70 (z : XKT) : XOi z xInf Y_X5_bestHaul 70 (.inl (i_istore 4 72)) := ok_istore dX5_bestHaul_70
theorem kX5_bestHaul_72 (z : XKT) : XOi z xInf Y_X5_bestHaul 72 (.inl (i_iload 4 74)) := ok_iload dX5_bestHaul_72
theorem kX5_bestHaul_74 (z : XKT) : XOi z xInf Y_X5_bestHaul 74 (.inl (i_if (fun x => x = 0) 101 77)) := ok_if_eq dX5_bestHaul_74 rfl
theorem kX5_bestHaul_77 (z : XKT) : XOi z xInf Y_X5_bestHaul 77 (.inl (i_iload 1 78)) := ok_iload_n dX5_bestHaul_77 rfl
theorem kX5_bestHaul_78 (z : XKT) : XOi z xInf Y_X5_bestHaul 78 (.inl (i_push (vI (-1)) 79)) := ok_iconst dX5_bestHaul_78 rfl
theorem kX5_bestHaul_79 (z : XKT) : XOi z xInf Y_X5_bestHaul 79 (.inl (i_icmp (fun x y => x = y) 97 82)) := ok_icmp_eq dX5_bestHaul_79 rfl
theorem kX5_bestHaul_82 (z : XKT) : XOi z xInf Y_X5_bestHaul 82 (.inl (i_aload 0 83)) := ok_aload_n dX5_bestHaul_82 rfl
theorem kX5_bestHaul_83 (z : XKT) : XOi z xInf Y_X5_bestHaul 83 (.inl (i_iload 3 84)) := ok_iload_n dX5_bestHaul_83 rfl
theorem kX5_bestHaul_84 (z : XKT) : XOi z xInf Y_X5_bestHaul 84 (.inl (i_push (vI 1) 85)) := ok_iconst dX5_bestHaul_84 rfl
theorem kX5_bestHaul_85 (z : XKT) : XOi z xInf Y_X5_bestHaul 85 (.inr (.inl (88, g_virt [(4, 253)] 2))) := show XOkC z xInf Y_X5_bestHaul 85 88 (g_virt [(4, 253)] 2) from okc_V (q := Y_X5_bestHaul) (List.forall_mem_cons.mpr ⟨(show XOkV z xInf Y_X5_bestHaul 85 88 2 (4, 253) from okv_V (q := Y_X5_bestHaul) (q1 := Y_X5_of) Z_X5_of rfl (by decide) ⟨by decide, by decide, Or.inl ⟨_, _, (List.mem_of_getElem? (l := xCls) (i := 3) rfl)⟩⟩ dX5_bestHaul_85 q2622 q2624 qs50 q153 q2625 hy_265), (fun _ h => absurd h List.not_mem_nil)⟩)
theorem kX5_bestHaul_88 (z : XKT) : XOi z xInf Y_X5_bestHaul 88 (.inl (i_aload 0 89)) := ok_aload_n dX5_bestHaul_88 rfl
theorem kX5_bestHaul_89 (z : XKT) : XOi z xInf Y_X5_bestHaul 89 (.inl (i_iload 1 90)) := ok_iload_n dX5_bestHaul_89 rfl
theorem kX5_bestHaul_90 (z : XKT) : XOi z xInf Y_X5_bestHaul 90 (.inl (i_push (vI 1) 91)) := ok_iconst dX5_bestHaul_90 rfl
theorem kX5_bestHaul_91 (z : XKT) : XOi z xInf Y_X5_bestHaul 91 (.inr (.inl (94, g_virt [(4, 253)] 2))) := show XOkC z xInf Y_X5_bestHaul 91 94 (g_virt [(4, 253)] 2) from okc_V (q := Y_X5_bestHaul) (List.forall_mem_cons.mpr ⟨(show XOkV z xInf Y_X5_bestHaul 91 94 2 (4, 253) from okv_V (q := Y_X5_bestHaul) (q1 := Y_X5_of) Z_X5_of rfl (by decide) ⟨by decide, by decide, Or.inl ⟨_, _, (List.mem_of_getElem? (l := xCls) (i := 3) rfl)⟩⟩ dX5_bestHaul_91 q2622 q2624 qs50 q153 q2625 hy_265), (fun _ h => absurd h List.not_mem_nil)⟩)
theorem kX5_bestHaul_94 (z : XKT) : XOi z xInf Y_X5_bestHaul 94 (.inl (i_icmp (fun x y => x ≤ y) 101 97)) := ok_icmp_le dX5_bestHaul_94 rfl
theorem kX5_bestHaul_97 (z : XKT) : XOi z xInf Y_X5_bestHaul 97 (.inl (i_iload 3 98)) := ok_iload_n dX5_bestHaul_97 rfl
theorem kX5_bestHaul_98 (z : XKT) : XOi z xInf Y_X5_bestHaul 98 (.inl (i_goto 102)) := ok_goto dX5_bestHaul_98 rfl
theorem kX5_bestHaul_101 (z : XKT) : XOi z xInf Y_X5_bestHaul 101 (.inl (i_iload 1 102)) := ok_iload_n dX5_bestHaul_101 rfl
theorem kX5_bestHaul_102 (z : XKT) : XOi z xInf Y_X5_bestHaul 102 (.inl (i_istore 1 103)) := ok_istore_n dX5_bestHaul_102 rfl
theorem kX5_bestHaul_103 (z : XKT) : XOi z xInf Y_X5_bestHaul 103 (.inl (i_iinc 3 1 106)) := ok_iinc dX5_bestHaul_103 rfl
theorem kX5_bestHaul_106 (z : XKT) : XOi z xInf Y_X5_bestHaul 106 (.inl (i_goto 14)) := ok_goto dX5_bestHaul_106 rfl
theorem kX5_bestHaul_109 (z : XKT) : XOi z xInf Y_X5_bestHaul 109 (.inl (i_iload 1 110)) := ok_iload_n dX5_bestHaul_109 rfl
theorem kX5_bestHaul_110 (z : XKT) : XOi z xInf Y_X5_bestHaul 110 (.inr (.inr (.inl (r_i .int)))) := show XOkR Y_X5_bestHaul 110 ((r_i .int)) from okr_i (q := Y_X5_bestHaul) (ty := .int) rfl rfl dX5_bestHaul_110
theorem o_X5_bestHaul (z : XKT) : XMi z xInf Y_X5_bestHaul := XMi.mk9 (T := T_X5_bestHaul z) rfl (⟨kX5_bestHaul_0 z, ⟨kX5_bestHaul_1 z, ⟨kX5_bestHaul_2 z, ⟨kX5_bestHaul_5 z, ⟨kX5_bestHaul_6 z, ⟨kX5_bestHaul_7 z, ⟨kX5_bestHaul_8 z, ⟨kX5_bestHaul_11 z, ⟨kX5_bestHaul_12 z, ⟨kX5_bestHaul_13 z, ⟨kX5_bestHaul_14 z, ⟨kX5_bestHaul_15 z, ⟨kX5_bestHaul_16 z, ⟨kX5_bestHaul_19 z, ⟨kX5_bestHaul_20 z, ⟨kX5_bestHaul_21 z, ⟨kX5_bestHaul_24 z, ⟨kX5_bestHaul_25 z, ⟨kX5_bestHaul_26 z, ⟨kX5_bestHaul_27 z, ⟨kX5_bestHaul_30 z, ⟨kX5_bestHaul_33 z, ⟨kX5_bestHaul_34 z, ⟨kX5_bestHaul_35 z, ⟨kX5_bestHaul_36 z, ⟨kX5_bestHaul_39 z, ⟨kX5_bestHaul_40 z, ⟨kX5_bestHaul_41 z, ⟨kX5_bestHaul_44 z, ⟨kX5_bestHaul_47 z, ⟨kX5_bestHaul_48 z, ⟨kX5_bestHaul_49 z, ⟨kX5_bestHaul_51 z, ⟨kX5_bestHaul_54 z, ⟨kX5_bestHaul_55 z, ⟨kX5_bestHaul_56 z, ⟨kX5_bestHaul_57 z, ⟨kX5_bestHaul_58 z, ⟨kX5_bestHaul_59 z, ⟨kX5_bestHaul_62 z, ⟨kX5_bestHaul_65 z, ⟨kX5_bestHaul_66 z, ⟨kX5_bestHaul_69 z, ⟨kX5_bestHaul_70 z, ⟨kX5_bestHaul_72 z, ⟨kX5_bestHaul_74 z, ⟨kX5_bestHaul_77 z, ⟨kX5_bestHaul_78 z, ⟨kX5_bestHaul_79 z, ⟨kX5_bestHaul_82 z, ⟨kX5_bestHaul_83 z, ⟨kX5_bestHaul_84 z, ⟨kX5_bestHaul_85 z, ⟨kX5_bestHaul_88 z, ⟨kX5_bestHaul_89 z, ⟨kX5_bestHaul_90 z, ⟨kX5_bestHaul_91 z, ⟨kX5_bestHaul_94 z, ⟨kX5_bestHaul_97 z, ⟨kX5_bestHaul_98 z, ⟨kX5_bestHaul_101 z, ⟨kX5_bestHaul_102 z, ⟨kX5_bestHaul_103 z, ⟨kX5_bestHaul_106 z, ⟨kX5_bestHaul_109 z, ⟨kX5_bestHaul_110 z, trivial⟩⟩⟩⟩⟩⟩⟩⟩⟩⟩⟩⟩⟩⟩⟩⟩⟩⟩⟩⟩⟩⟩⟩⟩⟩⟩⟩⟩⟩⟩⟩⟩⟩⟩⟩⟩⟩⟩⟩⟩⟩⟩⟩⟩⟩⟩⟩⟩⟩⟩⟩⟩⟩⟩⟩⟩⟩⟩⟩⟩⟩⟩⟩⟩⟩⟩) (hd_X5_bestHaul z) rfl rfl (by decide +kernel)
theorem hd_X5_byteAt (z : XKT) : XHd z Y_X5_byteAt := xHd_none rfl (xhd0 rfl)
theorem kX5_byteAt_0 (z : XKT) : XOi z xInf Y_X5_byteAt 0 (.inl (i_iload 1 1)) := ok_iload_n dX5_byteAt_0 rfl
theorem kX5_byteAt_1 (z : XKT) : XOi z xInf Y_X5_byteAt 1 (.inl (i_aload 0 2)) := ok_aload_n dX5_byteAt_1 rfl
theorem kX5_byteAt_2 (z : XKT) : XOi z xInf Y_X5_byteAt 2 (.inl (i_geti [4] 48 5)) := ok_geti dX5_byteAt_2 q2525 (List.forall_mem_cons.mpr ⟨⟨_, _, _, _, fd_48_4_0⟩, (fun _ h => absurd h List.not_mem_nil)⟩)
theorem kX5_byteAt_5 (z : XKT) : XOi z xInf Y_X5_byteAt 5 (.inl (i_icmp (fun x y => y ≤ x) 17 8)) := ok_icmp_ge dX5_byteAt_5 rfl
theorem kX5_byteAt_8 (z : XKT) : XOi z xInf Y_X5_byteAt 8 (.inl (i_aload 0 9)) := ok_aload_n dX5_byteAt_8 rfl
theorem kX5_byteAt_9 (z : XKT) : XOi z xInf Y_X5_byteAt 9 (.inl (i_getr [4] 46 12)) := ok_getr dX5_byteAt_9 q2523 (List.forall_mem_cons.mpr ⟨⟨_, _, _, _, fd_46_4_0⟩, (fun _ h => absurd h List.not_mem_nil)⟩)
theorem kX5_byteAt_12 (z : XKT) : XOi z xInf Y_X5_byteAt 12 (.inl (i_iload 1 13)) := ok_iload_n dX5_byteAt_12 rfl
theorem kX5_byteAt_13 (z : XKT) : XOi z xInf Y_X5_byteAt 13 (.inl (i_ald 1000 14)) := ok_iald dX5_byteAt_13
theorem kX5_byteAt_14 (z : XKT) : XOi z xInf Y_X5_byteAt 14 (.inl (i_goto 18)) := ok_goto dX5_byteAt_14 rfl
theorem kX5_byteAt_17 (z : XKT) : XOi z xInf Y_X5_byteAt 17 (.inl (i_push (vI (-1)) 18)) := ok_iconst dX5_byteAt_17 rfl
theorem kX5_byteAt_18 (z : XKT) : XOi z xInf Y_X5_byteAt 18 (.inr (.inr (.inl (r_i .int)))) := show XOkR Y_X5_byteAt 18 ((r_i .int)) from okr_i (q := Y_X5_byteAt) (ty := .int) rfl rfl dX5_byteAt_18
theorem o_X5_byteAt (z : XKT) : XMi z xInf Y_X5_byteAt := XMi.mk9 (T := T_X5_byteAt z) rfl (⟨kX5_byteAt_0 z, ⟨kX5_byteAt_1 z, ⟨kX5_byteAt_2 z, ⟨kX5_byteAt_5 z, ⟨kX5_byteAt_8 z, ⟨kX5_byteAt_9 z, ⟨kX5_byteAt_12 z, ⟨kX5_byteAt_13 z, ⟨kX5_byteAt_14 z, ⟨kX5_byteAt_17 z, ⟨kX5_byteAt_18 z, trivial⟩⟩⟩⟩⟩⟩⟩⟩⟩⟩⟩) (hd_X5_byteAt z) rfl rfl (by decide +kernel)
theorem hd_X5_cause (z : XKT) : XHd z Y_X5_cause := xHd_none rfl (xhd0 rfl)
theorem kX5_cause_0 (z : XKT) : XOi z xInf Y_X5_cause 0 (.inl (i_aload 0 1)) := ok_aload_n dX5_cause_0 rfl
theorem kX5_cause_1 (z : XKT) : XOi z xInf Y_X5_cause 1 (.inl (i_aload 0 2)) := ok_aload_n dX5_cause_1 rfl
theorem kX5_cause_2 (z : XKT) : XOi z xInf Y_X5_cause 2 (.inl (i_iload 1 3)) := ok_iload_n dX5_cause_2 rfl
theorem kX5_cause_3 (z : XKT) : XOi z xInf Y_X5_cause 3 (.inr (.inl (6, g_virt [(4, 232)] 1))) := show XOkC z xInf Y_X5_cause 3 6 (g_virt [(4, 232)] 1) from okc_V (q := Y_X5_cause) (List.forall_mem_cons.mpr ⟨(show XOkV z xInf Y_X5_cause 3 6 1 (4, 232) from okv_V (q := Y_X5_cause) (q1 := Y_X5_isGood) Z_X5_isGood rfl (by decide) ⟨by decide, by decide, Or.inl ⟨_, _, (List.mem_of_getElem? (l := xCls) (i := 3) rfl)⟩⟩ dX5_cause_3 q2654 q2656 qs56 q153 q2657 hy_272), (fun _ h => absurd h List.not_mem_nil)⟩)
theorem kX5_cause_6 (z : XKT) : XOi z xInf Y_X5_cause 6 (.inr (.inl (9, g_virt [(4, 240)] 1))) := show XOkC z xInf Y_X5_cause 6 9 (g_virt [(4, 240)] 1) from okc_V (q := Y_X5_cause) (List.forall_mem_cons.mpr ⟨(show XOkV z xInf Y_X5_cause 6 9 1 (4, 240) from okv_V (q := Y_X5_cause) (q1 := Y_X5_lacks) Z_X5_lacks rfl (by decide) ⟨by decide, by decide, Or.inl ⟨_, _, (List.mem_of_getElem? (l := xCls) (i := 3) rfl)⟩⟩ dX5_cause_6 q2606 q2608 qs46 q153 q2609 hy_262), (fun _ h => absurd h List.not_mem_nil)⟩)
theorem kX5_cause_9 (z : XKT) : XOi z xInf Y_X5_cause 9 (.inl (i_if (fun x => x = 0) 14 12)) := ok_if_eq dX5_cause_9 rfl
theorem kX5_cause_12 (z : XKT) : XOi z xInf Y_X5_cause 12 (.inl (i_push (vI 0) 13)) := ok_iconst dX5_cause_12 rfl
theorem kX5_cause_13 (z : XKT) : XOi z xInf Y_X5_cause 13 (.inr (.inr (.inl (r_i .int)))) := show XOkR Y_X5_cause 13 ((r_i .int)) from okr_i (q := Y_X5_cause) (ty := .int) rfl rfl dX5_cause_13
theorem kX5_cause_14 (z : XKT) : XOi z xInf Y_X5_cause 14 (.inl (i_aload 0 15)) := ok_aload_n dX5_cause_14 rfl
theorem kX5_cause_15 (z : XKT) : XOi z xInf Y_X5_cause 15 (.inl (i_iload 1 16)) := ok_iload_n dX5_cause_15 rfl
theorem kX5_cause_16 (z : XKT) : XOi z xInf Y_X5_cause 16 (.inr (.inl (19, g_virt [(4, 225)] 1))) := show XOkC z xInf Y_X5_cause 16 19 (g_virt [(4, 225)] 1) from okc_V (q := Y_X5_cause) (List.forall_mem_cons.mpr ⟨(show XOkV z xInf Y_X5_cause 16 19 1 (4, 225) from okv_V (q := Y_X5_cause) (q1 := Y_X5_haulRefusal) Z_X5_haulRefusal rfl (by decide) ⟨by decide, by decide, Or.inl ⟨_, _, (List.mem_of_getElem? (l := xCls) (i := 3) rfl)⟩⟩ dX5_cause_16 q2846 q2848 qs77 q153 q2849 hy_273), (fun _ h => absurd h List.not_mem_nil)⟩)
theorem kX5_cause_19 (z : XKT) : XOi z xInf Y_X5_cause 19 (.inl (i_swt [((-4), 57), ((-3), 51), ((-2), 44)] 72)) := ok_table dX5_cause_19 rfl rfl (by decide +kernel)
theorem kX5_cause_44 (z : XKT) : XOi z xInf Y_X5_cause 44 (.inl (i_aload 0 45)) := ok_aload_n dX5_cause_44 rfl
theorem kX5_cause_45 (z : XKT) : XOi z xInf Y_X5_cause 45 (.inl (i_iload 1 46)) := ok_iload_n dX5_cause_45 rfl
theorem kX5_cause_46 (z : XKT) : XOi z xInf Y_X5_cause 46 (.inl (i_push (vI 5) 47)) := ok_iconst dX5_cause_46 rfl
theorem kX5_cause_47 (z : XKT) : XOi z xInf Y_X5_cause 47 (.inr (.inl (50, g_virt [(4, 253)] 2))) := show XOkC z xInf Y_X5_cause 47 50 (g_virt [(4, 253)] 2) from okc_V (q := Y_X5_cause) (List.forall_mem_cons.mpr ⟨(show XOkV z xInf Y_X5_cause 47 50 2 (4, 253) from okv_V (q := Y_X5_cause) (q1 := Y_X5_of) Z_X5_of rfl (by decide) ⟨by decide, by decide, Or.inl ⟨_, _, (List.mem_of_getElem? (l := xCls) (i := 3) rfl)⟩⟩ dX5_cause_47 q2622 q2624 qs50 q153 q2625 hy_265), (fun _ h => absurd h List.not_mem_nil)⟩)
theorem kX5_cause_50 (z : XKT) : XOi z xInf Y_X5_cause 50 (.inr (.inr (.inl (r_i .int)))) := show XOkR Y_X5_cause 50 ((r_i .int)) from okr_i (q := Y_X5_cause) (ty := .int) rfl rfl dX5_cause_50
theorem kX5_cause_51 (z : XKT) : XOi z xInf Y_X5_cause 51 (.inl (i_aload 0 52)) := ok_aload_n dX5_cause_51 rfl
theorem kX5_cause_52 (z : XKT) : XOi z xInf Y_X5_cause 52 (.inl (i_iload 1 53)) := ok_iload_n dX5_cause_52 rfl
theorem kX5_cause_53 (z : XKT) : XOi z xInf Y_X5_cause 53 (.inr (.inl (56, g_virt [(4, 295)] 1))) := show XOkC z xInf Y_X5_cause 53 56 (g_virt [(4, 295)] 1) from okc_V (q := Y_X5_cause) (List.forall_mem_cons.mpr ⟨(show XOkV z xInf Y_X5_cause 53 56 1 (4, 295) from okv_V (q := Y_X5_cause) (q1 := Y_X5_ticksToDry) Z_X5_ticksToDry rfl (by decide) ⟨by decide, by decide, Or.inl ⟨_, _, (List.mem_of_getElem? (l := xCls) (i := 3) rfl)⟩⟩ dX5_cause_53 q2774 q2776 qs73 q153 q2777 hy_274), (fun _ h => absurd h List.not_mem_nil)⟩)
theorem kX5_cause_56 (z : XKT) : XOi z xInf Y_X5_cause 56 (.inr (.inr (.inl (r_i .int)))) := show XOkR Y_X5_cause 56 ((r_i .int)) from okr_i (q := Y_X5_cause) (ty := .int) rfl rfl dX5_cause_56
theorem kX5_cause_57 (z : XKT) : XOi z xInf Y_X5_cause 57 (.inl (i_aload 0 58)) := ok_aload_n dX5_cause_57 rfl
theorem kX5_cause_58 (z : XKT) : XOi z xInf Y_X5_cause 58 (.inl (i_iload 1 59)) := ok_iload_n dX5_cause_58 rfl
theorem kX5_cause_59 (z : XKT) : XOi z xInf Y_X5_cause 59 (.inl (i_push (vI 4) 60)) := ok_iconst dX5_cause_59 rfl
theorem kX5_cause_60 (z : XKT) : XOi z xInf Y_X5_cause 60 (.inr (.inl (63, g_virt [(4, 253)] 2))) := show XOkC z xInf Y_X5_cause 60 63 (g_virt [(4, 253)] 2) from okc_V (q := Y_X5_cause) (List.forall_mem_cons.mpr ⟨(show XOkV z xInf Y_X5_cause 60 63 2 (4, 253) from okv_V (q := Y_X5_cause) (q1 := Y_X5_of) Z_X5_of rfl (by decide) ⟨by decide, by decide, Or.inl ⟨_, _, (List.mem_of_getElem? (l := xCls) (i := 3) rfl)⟩⟩ dX5_cause_60 q2622 q2624 qs50 q153 q2625 hy_265), (fun _ h => absurd h List.not_mem_nil)⟩)
theorem kX5_cause_63 (z : XKT) : XOi z xInf Y_X5_cause 63 (.inl (i_aload 0 64)) := ok_aload_n dX5_cause_63 rfl
theorem kX5_cause_64 (z : XKT) : XOi z xInf Y_X5_cause 64 (.inl (i_iload 1 65)) := ok_iload_n dX5_cause_64 rfl
theorem kX5_cause_65 (z : XKT) : XOi z xInf Y_X5_cause 65 (.inl (i_push (vI 9) 67)) := ok_bipush dX5_cause_65 rfl
theorem kX5_cause_67 (z : XKT) : XOi z xInf Y_X5_cause 67 (.inr (.inl (70, g_virt [(4, 253)] 2))) := show XOkC z xInf Y_X5_cause 67 70 (g_virt [(4, 253)] 2) from okc_V (q := Y_X5_cause) (List.forall_mem_cons.mpr ⟨(show XOkV z xInf Y_X5_cause 67 70 2 (4, 253) from okv_V (q := Y_X5_cause) (q1 := Y_X5_of) Z_X5_of rfl (by decide) ⟨by decide, by decide, Or.inl ⟨_, _, (List.mem_of_getElem? (l := xCls) (i := 3) rfl)⟩⟩ dX5_cause_67 q2622 q2624 qs50 q153 q2625 hy_265), (fun _ h => absurd h List.not_mem_nil)⟩)
theorem kX5_cause_70 (z : XKT) : XOi z xInf Y_X5_cause 70 (.inl (i_bin (fun x y => x - y) 71)) := ok_isub dX5_cause_70
theorem kX5_cause_71 (z : XKT) : XOi z xInf Y_X5_cause 71 (.inr (.inr (.inl (r_i .int)))) := show XOkR Y_X5_cause 71 ((r_i .int)) from okr_i (q := Y_X5_cause) (ty := .int) rfl rfl dX5_cause_71
theorem kX5_cause_72 (z : XKT) : XOi z xInf Y_X5_cause 72 (.inl (i_push (vI (-1)) 73)) := ok_iconst dX5_cause_72 rfl
theorem kX5_cause_73 (z : XKT) : XOi z xInf Y_X5_cause 73 (.inr (.inr (.inl (r_i .int)))) := show XOkR Y_X5_cause 73 ((r_i .int)) from okr_i (q := Y_X5_cause) (ty := .int) rfl rfl dX5_cause_73
theorem o_X5_cause (z : XKT) : XMi z xInf Y_X5_cause := XMi.mk9 (T := T_X5_cause z) rfl (⟨kX5_cause_0 z, ⟨kX5_cause_1 z, ⟨kX5_cause_2 z, ⟨kX5_cause_3 z, ⟨kX5_cause_6 z, ⟨kX5_cause_9 z, ⟨kX5_cause_12 z, ⟨kX5_cause_13 z, ⟨kX5_cause_14 z, ⟨kX5_cause_15 z, ⟨kX5_cause_16 z, ⟨kX5_cause_19 z, ⟨kX5_cause_44 z, ⟨kX5_cause_45 z, ⟨kX5_cause_46 z, ⟨kX5_cause_47 z, ⟨kX5_cause_50 z, ⟨kX5_cause_51 z, ⟨kX5_cause_52 z, ⟨kX5_cause_53 z, ⟨kX5_cause_56 z, ⟨kX5_cause_57 z, ⟨kX5_cause_58 z, ⟨kX5_cause_59 z, ⟨kX5_cause_60 z, ⟨kX5_cause_63 z, ⟨kX5_cause_64 z, ⟨kX5_cause_65 z, ⟨kX5_cause_67 z, ⟨kX5_cause_70 z, ⟨kX5_cause_71 z, ⟨kX5_cause_72 z, ⟨kX5_cause_73 z, trivial⟩⟩⟩⟩⟩⟩⟩⟩⟩⟩⟩⟩⟩⟩⟩⟩⟩⟩⟩⟩⟩⟩⟩⟩⟩⟩⟩⟩⟩⟩⟩⟩⟩) (hd_X5_cause z) rfl rfl (by decide +kernel)
theorem hd_X5_check (z : XKT) : XHd z Y_X5_check := xHd_none rfl (xhd0 rfl)
theorem kX5_check_0 (z : XKT) : XOi z xInf Y_X5_check 0 (.inl (i_iload 1 1)) := ok_iload_n dX5_check_0 rfl
theorem kX5_check_1 (z : XKT) : XOi z xInf Y_X5_check 1 (.inl (i_if (fun x => ¬ x = 0) 24 4)) := ok_if_ne dX5_check_1 rfl
theorem kX5_check_4 (z : XKT) : XOi z xInf Y_X5_check 4 (.inl (i_aload 0 5)) := ok_aload_n dX5_check_4 rfl
theorem kX5_check_5 (z : XKT) : XOi z xInf Y_X5_check 5 (.inl (i_geti [4] 52 8)) := ok_geti dX5_check_5 q2529 (List.forall_mem_cons.mpr ⟨⟨_, _, _, _, fd_52_4_0⟩, (fun _ h => absurd h List.not_mem_nil)⟩)
theorem kX5_check_8 (z : XKT) : XOi z xInf Y_X5_check 8 (.inl (i_if (fun x => ¬ x = 0) 24 11)) := ok_if_ne dX5_check_8 rfl
theorem kX5_check_11 (z : XKT) : XOi z xInf Y_X5_check 11 (.inl (i_aload 0 12)) := ok_aload_n dX5_check_11 rfl
theorem kX5_check_12 (z : XKT) : XOi z xInf Y_X5_check 12 (.inl (i_iload 2 13)) := ok_iload_n dX5_check_12 rfl
theorem kX5_check_13 (z : XKT) : XOi z xInf Y_X5_check 13 (.inl (i_puti z.1 [4] .int 52 16)) := ok_puti dX5_check_13 q2529 rfl (List.forall_mem_cons.mpr ⟨⟨_, _, _, _, tyX5, fd_52_4_0, ⟨tyX5_ok, nmX5, (Or.inl rfl)⟩, rfl⟩, (fun _ h => absurd h List.not_mem_nil)⟩)
theorem kX5_check_16 (z : XKT) : XOi z xInf Y_X5_check 16 (.inl (i_aload 0 17)) := ok_aload_n dX5_check_16 rfl
theorem kX5_check_17 (z : XKT) : XOi z xInf Y_X5_check 17 (.inl (i_aload 0 18)) := ok_aload_n dX5_check_17 rfl
theorem kX5_check_18 (z : XKT) : XOi z xInf Y_X5_check 18 (.inl (i_geti [4] 50 21)) := ok_geti dX5_check_18 q2527 (List.forall_mem_cons.mpr ⟨⟨_, _, _, _, fd_50_4_0⟩, (fun _ h => absurd h List.not_mem_nil)⟩)
theorem kX5_check_21 (z : XKT) : XOi z xInf Y_X5_check 21 (.inl (i_puti z.1 [4] .int 53 24)) := ok_puti dX5_check_21 q2530 rfl (List.forall_mem_cons.mpr ⟨⟨_, _, _, _, tyX5, fd_53_4_0, ⟨tyX5_ok, nmX5, (Or.inl rfl)⟩, rfl⟩, (fun _ h => absurd h List.not_mem_nil)⟩)
theorem kX5_check_24 (z : XKT) : XOi z xInf Y_X5_check 24 (.inr (.inr (.inl r_v))) := show XOkR Y_X5_check 24 (r_v) from okr_v (q := Y_X5_check) rfl dX5_check_24
theorem o_X5_check (z : XKT) : XMi z xInf Y_X5_check := XMi.mk9 (T := T_X5_check z) rfl (⟨kX5_check_0 z, ⟨kX5_check_1 z, ⟨kX5_check_4 z, ⟨kX5_check_5 z, ⟨kX5_check_8 z, ⟨kX5_check_11 z, ⟨kX5_check_12 z, ⟨kX5_check_13 z, ⟨kX5_check_16 z, ⟨kX5_check_17 z, ⟨kX5_check_18 z, ⟨kX5_check_21 z, ⟨kX5_check_24 z, trivial⟩⟩⟩⟩⟩⟩⟩⟩⟩⟩⟩⟩⟩) (hd_X5_check z) rfl rfl (by decide +kernel)
theorem hd_X5_claim (z : XKT) : XHd z Y_X5_claim := xHd_none rfl (xhd0 rfl)
theorem kX5_claim_0 (z : XKT) : XOi z xInf Y_X5_claim 0 (.inl (i_aload 0 1)) := ok_aload_n dX5_claim_0 rfl
theorem kX5_claim_1 (z : XKT) : XOi z xInf Y_X5_claim 1 (.inl (i_iload 1 2)) := ok_iload_n dX5_claim_1 rfl
theorem kX5_claim_2 (z : XKT) : XOi z xInf Y_X5_claim 2 (.inr (.inl (5, g_stat 235 1))) := show XOkC z xInf Y_X5_claim 2 5 (g_stat 235 1) from okc_S (q := Y_X5_claim) (q1 := Y_X5_isOwner) Z_X5_isOwner rfl (by decide) dX5_claim_2 q2686 q2687 q153 q2688 hy_275
theorem kX5_claim_5 (z : XKT) : XOi z xInf Y_X5_claim 5 (.inr (.inl (8, g_virt [(4, 240)] 1))) := show XOkC z xInf Y_X5_claim 5 8 (g_virt [(4, 240)] 1) from okc_V (q := Y_X5_claim) (List.forall_mem_cons.mpr ⟨(show XOkV z xInf Y_X5_claim 5 8 1 (4, 240) from okv_V (q := Y_X5_claim) (q1 := Y_X5_lacks) Z_X5_lacks rfl (by decide) ⟨by decide, by decide, Or.inl ⟨_, _, (List.mem_of_getElem? (l := xCls) (i := 3) rfl)⟩⟩ dX5_claim_5 q2606 q2608 qs46 q153 q2609 hy_262), (fun _ h => absurd h List.not_mem_nil)⟩)
theorem kX5_claim_8 (z : XKT) : XOi z xInf Y_X5_claim 8 (.inl (i_if (fun x => x = 0) 13 11)) := ok_if_eq dX5_claim_8 rfl
theorem kX5_claim_11 (z : XKT) : XOi z xInf Y_X5_claim 11 (.inl (i_push (vI 0) 12)) := ok_iconst dX5_claim_11 rfl
theorem kX5_claim_12 (z : XKT) : XOi z xInf Y_X5_claim 12 (.inr (.inr (.inl (r_i .int)))) := show XOkR Y_X5_claim 12 ((r_i .int)) from okr_i (q := Y_X5_claim) (ty := .int) rfl rfl dX5_claim_12
theorem kX5_claim_13 (z : XKT) : XOi z xInf Y_X5_claim 13 (.inl (i_aload 0 14)) := ok_aload_n dX5_claim_13 rfl
theorem kX5_claim_14 (z : XKT) : XOi z xInf Y_X5_claim 14 (.inr (.inl (17, g_virt [(4, 238)] 0))) := show XOkC z xInf Y_X5_claim 14 17 (g_virt [(4, 238)] 0) from okc_V (q := Y_X5_claim) (List.forall_mem_cons.mpr ⟨(show XOkV z xInf Y_X5_claim 14 17 0 (4, 238) from okv_V (q := Y_X5_claim) (q1 := Y_X5_keep) Z_X5_keep rfl (by decide) ⟨by decide, by decide, Or.inl ⟨_, _, (List.mem_of_getElem? (l := xCls) (i := 3) rfl)⟩⟩ dX5_claim_14 q2878 q2880 qs79 q153 q2881 hy_276), (fun _ h => absurd h List.not_mem_nil)⟩)
theorem kX5_claim_17 (z : XKT) : XOi z xInf Y_X5_claim 17 (.inl (i_aload 0 18)) := ok_aload_n dX5_claim_17 rfl
theorem kX5_claim_18 (z : XKT) : XOi z xInf Y_X5_claim 18 (.inl (i_aload 0 19)) := ok_aload_n dX5_claim_18 rfl
theorem kX5_claim_19 (z : XKT) : XOi z xInf Y_X5_claim 19 (.inl (i_iload 1 20)) := ok_iload_n dX5_claim_19 rfl
theorem kX5_claim_20 (z : XKT) : XOi z xInf Y_X5_claim 20 (.inr (.inl (23, g_virt [(4, 198)] 1))) := show XOkC z xInf Y_X5_claim 20 23 (g_virt [(4, 198)] 1) from okc_V (q := Y_X5_claim) (List.forall_mem_cons.mpr ⟨(show XOkV z xInf Y_X5_claim 20 23 1 (4, 198) from okv_V (q := Y_X5_claim) (q1 := Y_X5_doClaim) Z_X5_doClaim rfl (by decide) ⟨by decide, by decide, Or.inl ⟨_, _, (List.mem_of_getElem? (l := xCls) (i := 3) rfl)⟩⟩ dX5_claim_20 q2954 q2956 qs92 q153 q2957 hy_277), (fun _ h => absurd h List.not_mem_nil)⟩)
theorem kX5_claim_23 (z : XKT) : XOi z xInf Y_X5_claim 23 (.inr (.inl (26, g_virt [(4, 275)] 1))) := show XOkC z xInf Y_X5_claim 23 26 (g_virt [(4, 275)] 1) from okc_V (q := Y_X5_claim) (List.forall_mem_cons.mpr ⟨(show XOkV z xInf Y_X5_claim 23 26 1 (4, 275) from okv_V (q := Y_X5_claim) (q1 := Y_X5_recorded) Z_X5_recorded rfl (by decide) ⟨by decide, by decide, Or.inl ⟨_, _, (List.mem_of_getElem? (l := xCls) (i := 3) rfl)⟩⟩ dX5_claim_23 q2902 q2904 qs84 q153 q2905 hy_278), (fun _ h => absurd h List.not_mem_nil)⟩)
theorem kX5_claim_26 (z : XKT) : XOi z xInf Y_X5_claim 26 (.inr (.inr (.inl (r_i .int)))) := show XOkR Y_X5_claim 26 ((r_i .int)) from okr_i (q := Y_X5_claim) (ty := .int) rfl rfl dX5_claim_26
theorem o_X5_claim (z : XKT) : XMi z xInf Y_X5_claim := XMi.mk9 (T := T_X5_claim z) rfl (⟨kX5_claim_0 z, ⟨kX5_claim_1 z, ⟨kX5_claim_2 z, ⟨kX5_claim_5 z, ⟨kX5_claim_8 z, ⟨kX5_claim_11 z, ⟨kX5_claim_12 z, ⟨kX5_claim_13 z, ⟨kX5_claim_14 z, ⟨kX5_claim_17 z, ⟨kX5_claim_18 z, ⟨kX5_claim_19 z, ⟨kX5_claim_20 z, ⟨kX5_claim_23 z, ⟨kX5_claim_26 z, trivial⟩⟩⟩⟩⟩⟩⟩⟩⟩⟩⟩⟩⟩⟩⟩) (hd_X5_claim z) rfl rfl (by decide +kernel)
theorem hd_X5_claimCosts (z : XKT) : XHd z Y_X5_claimCosts := xHd_none rfl (xhd0 rfl)
theorem kX5_claimCosts_0 (z : XKT) : XOi z xInf Y_X5_claimCosts 0 (.inl (i_aload 0 1)) := ok_aload_n dX5_claimCosts_0 rfl
theorem kX5_claimCosts_1 (z : XKT) : XOi z xInf Y_X5_claimCosts 1 (.inl (i_aload 0 2)) := ok_aload_n dX5_claimCosts_1 rfl
theorem kX5_claimCosts_2 (z : XKT) : XOi z xInf Y_X5_claimCosts 2 (.inl (i_iload 1 3)) := ok_iload_n dX5_claimCosts_2 rfl
theorem kX5_claimCosts_3 (z : XKT) : XOi z xInf Y_X5_claimCosts 3 (.inr (.inl (6, g_virt [(4, 232)] 1))) := show XOkC z xInf Y_X5_claimCosts 3 6 (g_virt [(4, 232)] 1) from okc_V (q := Y_X5_claimCosts) (List.forall_mem_cons.mpr ⟨(show XOkV z xInf Y_X5_claimCosts 3 6 1 (4, 232) from okv_V (q := Y_X5_claimCosts) (q1 := Y_X5_isGood) Z_X5_isGood rfl (by decide) ⟨by decide, by decide, Or.inl ⟨_, _, (List.mem_of_getElem? (l := xCls) (i := 3) rfl)⟩⟩ dX5_claimCosts_3 q2654 q2656 qs56 q153 q2657 hy_272), (fun _ h => absurd h List.not_mem_nil)⟩)
theorem kX5_claimCosts_6 (z : XKT) : XOi z xInf Y_X5_claimCosts 6 (.inr (.inl (9, g_virt [(4, 240)] 1))) := show XOkC z xInf Y_X5_claimCosts 6 9 (g_virt [(4, 240)] 1) from okc_V (q := Y_X5_claimCosts) (List.forall_mem_cons.mpr ⟨(show XOkV z xInf Y_X5_claimCosts 6 9 1 (4, 240) from okv_V (q := Y_X5_claimCosts) (q1 := Y_X5_lacks) Z_X5_lacks rfl (by decide) ⟨by decide, by decide, Or.inl ⟨_, _, (List.mem_of_getElem? (l := xCls) (i := 3) rfl)⟩⟩ dX5_claimCosts_6 q2606 q2608 qs46 q153 q2609 hy_262), (fun _ h => absurd h List.not_mem_nil)⟩)
theorem kX5_claimCosts_9 (z : XKT) : XOi z xInf Y_X5_claimCosts 9 (.inl (i_if (fun x => x = 0) 14 12)) := ok_if_eq dX5_claimCosts_9 rfl
theorem kX5_claimCosts_12 (z : XKT) : XOi z xInf Y_X5_claimCosts 12 (.inl (i_push (vI 0) 13)) := ok_iconst dX5_claimCosts_12 rfl
theorem kX5_claimCosts_13 (z : XKT) : XOi z xInf Y_X5_claimCosts 13 (.inr (.inr (.inl (r_i .int)))) := show XOkR Y_X5_claimCosts 13 ((r_i .int)) from okr_i (q := Y_X5_claimCosts) (ty := .int) rfl rfl dX5_claimCosts_13
theorem kX5_claimCosts_14 (z : XKT) : XOi z xInf Y_X5_claimCosts 14 (.inl (i_aload 0 15)) := ok_aload_n dX5_claimCosts_14 rfl
theorem kX5_claimCosts_15 (z : XKT) : XOi z xInf Y_X5_claimCosts 15 (.inl (i_iload 1 16)) := ok_iload_n dX5_claimCosts_15 rfl
theorem kX5_claimCosts_16 (z : XKT) : XOi z xInf Y_X5_claimCosts 16 (.inl (i_push (vI 5) 17)) := ok_iconst dX5_claimCosts_16 rfl
theorem kX5_claimCosts_17 (z : XKT) : XOi z xInf Y_X5_claimCosts 17 (.inr (.inl (20, g_virt [(4, 253)] 2))) := show XOkC z xInf Y_X5_claimCosts 17 20 (g_virt [(4, 253)] 2) from okc_V (q := Y_X5_claimCosts) (List.forall_mem_cons.mpr ⟨(show XOkV z xInf Y_X5_claimCosts 17 20 2 (4, 253) from okv_V (q := Y_X5_claimCosts) (q1 := Y_X5_of) Z_X5_of rfl (by decide) ⟨by decide, by decide, Or.inl ⟨_, _, (List.mem_of_getElem? (l := xCls) (i := 3) rfl)⟩⟩ dX5_claimCosts_17 q2622 q2624 qs50 q153 q2625 hy_265), (fun _ h => absurd h List.not_mem_nil)⟩)
theorem kX5_claimCosts_20 (z : XKT) : XOi z xInf Y_X5_claimCosts 20 (.inl (i_push (vI 1) 21)) := ok_iconst dX5_claimCosts_20 rfl
theorem kX5_claimCosts_21 (z : XKT) : XOi z xInf Y_X5_claimCosts 21 (.inl (i_icmp (fun x y => y < x) 47 24)) := ok_icmp_gt dX5_claimCosts_21 rfl
theorem kX5_claimCosts_24 (z : XKT) : XOi z xInf Y_X5_claimCosts 24 (.inl (i_aload 0 25)) := ok_aload_n dX5_claimCosts_24 rfl
theorem kX5_claimCosts_25 (z : XKT) : XOi z xInf Y_X5_claimCosts 25 (.inl (i_iload 1 26)) := ok_iload_n dX5_claimCosts_25 rfl
theorem kX5_claimCosts_26 (z : XKT) : XOi z xInf Y_X5_claimCosts 26 (.inl (i_push (vI 2) 27)) := ok_iconst dX5_claimCosts_26 rfl
theorem kX5_claimCosts_27 (z : XKT) : XOi z xInf Y_X5_claimCosts 27 (.inr (.inl (30, g_virt [(4, 253)] 2))) := show XOkC z xInf Y_X5_claimCosts 27 30 (g_virt [(4, 253)] 2) from okc_V (q := Y_X5_claimCosts) (List.forall_mem_cons.mpr ⟨(show XOkV z xInf Y_X5_claimCosts 27 30 2 (4, 253) from okv_V (q := Y_X5_claimCosts) (q1 := Y_X5_of) Z_X5_of rfl (by decide) ⟨by decide, by decide, Or.inl ⟨_, _, (List.mem_of_getElem? (l := xCls) (i := 3) rfl)⟩⟩ dX5_claimCosts_27 q2622 q2624 qs50 q153 q2625 hy_265), (fun _ h => absurd h List.not_mem_nil)⟩)
theorem kX5_claimCosts_30 (z : XKT) : XOi z xInf Y_X5_claimCosts 30 (.inl (i_if (fun x => x ≤ 0) 47 33)) := ok_if_le dX5_claimCosts_30 rfl
theorem kX5_claimCosts_33 (z : XKT) : XOi z xInf Y_X5_claimCosts 33 (.inl (i_aload 0 34)) := ok_aload_n dX5_claimCosts_33 rfl
theorem kX5_claimCosts_34 (z : XKT) : XOi z xInf Y_X5_claimCosts 34 (.inl (i_iload 1 35)) := ok_iload_n dX5_claimCosts_34 rfl
theorem kX5_claimCosts_35 (z : XKT) : XOi z xInf Y_X5_claimCosts 35 (.inl (i_push (vI 9) 37)) := ok_bipush dX5_claimCosts_35 rfl
theorem kX5_claimCosts_37 (z : XKT) : XOi z xInf Y_X5_claimCosts 37 (.inr (.inl (40, g_virt [(4, 253)] 2))) := show XOkC z xInf Y_X5_claimCosts 37 40 (g_virt [(4, 253)] 2) from okc_V (q := Y_X5_claimCosts) (List.forall_mem_cons.mpr ⟨(show XOkV z xInf Y_X5_claimCosts 37 40 2 (4, 253) from okv_V (q := Y_X5_claimCosts) (q1 := Y_X5_of) Z_X5_of rfl (by decide) ⟨by decide, by decide, Or.inl ⟨_, _, (List.mem_of_getElem? (l := xCls) (i := 3) rfl)⟩⟩ dX5_claimCosts_37 q2622 q2624 qs50 q153 q2625 hy_265), (fun _ h => absurd h List.not_mem_nil)⟩)
theorem kX5_claimCosts_40 (z : XKT) : XOi z xInf Y_X5_claimCosts 40 (.inl (i_if (fun x => x ≤ 0) 47 43)) := ok_if_le dX5_claimCosts_40 rfl
theorem kX5_claimCosts_43 (z : XKT) : XOi z xInf Y_X5_claimCosts 43 (.inl (i_push (vI 1) 44)) := ok_iconst dX5_claimCosts_43 rfl
theorem kX5_claimCosts_44 (z : XKT) : XOi z xInf Y_X5_claimCosts 44 (.inl (i_goto 48)) := ok_goto dX5_claimCosts_44 rfl
theorem kX5_claimCosts_47 (z : XKT) : XOi z xInf Y_X5_claimCosts 47 (.inl (i_push (vI 0) 48)) := ok_iconst dX5_claimCosts_47 rfl
theorem kX5_claimCosts_48 (z : XKT) : XOi z xInf Y_X5_claimCosts 48 (.inl (i_istore 2 49)) := ok_istore_n dX5_claimCosts_48 rfl
theorem kX5_claimCosts_49 (z : XKT) : XOi z xInf Y_X5_claimCosts 49 (.inl (i_iload 2 50)) := ok_iload_n dX5_claimCosts_49 rfl
theorem kX5_claimCosts_50 (z : XKT) : XOi z xInf Y_X5_claimCosts 50 (.inl (i_if (fun x => x = 0) 69 53)) := ok_if_eq dX5_claimCosts_50 rfl
theorem kX5_claimCosts_53 (z : XKT) : XOi z xInf Y_X5_claimCosts 53 (.inl (i_aload 0 54)) := ok_aload_n dX5_claimCosts_53 rfl
theorem kX5_claimCosts_54 (z : XKT) : XOi z xInf Y_X5_claimCosts 54 (.inl (i_iload 1 55)) := ok_iload_n dX5_claimCosts_54 rfl
theorem kX5_claimCosts_55 (z : XKT) : XOi z xInf Y_X5_claimCosts 55 (.inl (i_push (vI 0) 56)) := ok_iconst dX5_claimCosts_55 rfl
theorem kX5_claimCosts_56 (z : XKT) : XOi z xInf Y_X5_claimCosts 56 (.inr (.inl (59, g_virt [(4, 189)] 2))) := show XOkC z xInf Y_X5_claimCosts 56 59 (g_virt [(4, 189)] 2) from okc_V (q := Y_X5_claimCosts) (List.forall_mem_cons.mpr ⟨(show XOkV z xInf Y_X5_claimCosts 56 59 2 (4, 189) from okv_V (q := Y_X5_claimCosts) (q1 := Y_X5_crewOf) Z_X5_crewOf rfl (by decide) ⟨by decide, by decide, Or.inl ⟨_, _, (List.mem_of_getElem? (l := xCls) (i := 3) rfl)⟩⟩ dX5_claimCosts_56 q2729 q2731 qs67 q153 q2732 hy_279), (fun _ h => absurd h List.not_mem_nil)⟩)
theorem kX5_claimCosts_59 (z : XKT) : XOi z xInf Y_X5_claimCosts 59 (.inl (i_aload 0 60)) := ok_aload_n dX5_claimCosts_59 rfl
theorem kX5_claimCosts_60 (z : XKT) : XOi z xInf Y_X5_claimCosts 60 (.inl (i_iload 1 61)) := ok_iload_n dX5_claimCosts_60 rfl
theorem kX5_claimCosts_61 (z : XKT) : XOi z xInf Y_X5_claimCosts 61 (.inl (i_push (vI 1) 62)) := ok_iconst dX5_claimCosts_61 rfl
theorem kX5_claimCosts_62 (z : XKT) : XOi z xInf Y_X5_claimCosts 62 (.inr (.inl (65, g_virt [(4, 189)] 2))) := show XOkC z xInf Y_X5_claimCosts 62 65 (g_virt [(4, 189)] 2) from okc_V (q := Y_X5_claimCosts) (List.forall_mem_cons.mpr ⟨(show XOkV z xInf Y_X5_claimCosts 62 65 2 (4, 189) from okv_V (q := Y_X5_claimCosts) (q1 := Y_X5_crewOf) Z_X5_crewOf rfl (by decide) ⟨by decide, by decide, Or.inl ⟨_, _, (List.mem_of_getElem? (l := xCls) (i := 3) rfl)⟩⟩ dX5_claimCosts_62 q2729 q2731 qs67 q153 q2732 hy_279), (fun _ h => absurd h List.not_mem_nil)⟩)
theorem kX5_claimCosts_65 (z : XKT) : XOi z xInf Y_X5_claimCosts 65 (.inl (i_bin (fun x y => x - y) 66)) := ok_isub dX5_claimCosts_65
theorem kX5_claimCosts_66 (z : XKT) : XOi z xInf Y_X5_claimCosts 66 (.inl (i_goto 70)) := ok_goto dX5_claimCosts_66 rfl
theorem kX5_claimCosts_69 (z : XKT) : XOi z xInf Y_X5_claimCosts 69 (.inl (i_push (vI 0) 70)) := ok_iconst dX5_claimCosts_69 rfl
theorem kX5_claimCosts_70 (z : XKT) : XOi z xInf Y_X5_claimCosts 70 (.inr (.inr (.inl (r_i .int)))) := show XOkR Y_X5_claimCosts 70 ((r_i .int)) from okr_i (q := Y_X5_claimCosts) (ty := .int) rfl rfl dX5_claimCosts_70
theorem o_X5_claimCosts (z : XKT) : XMi z xInf Y_X5_claimCosts := XMi.mk9 (T := T_X5_claimCosts z) rfl (⟨kX5_claimCosts_0 z, ⟨kX5_claimCosts_1 z, ⟨kX5_claimCosts_2 z, ⟨kX5_claimCosts_3 z, ⟨kX5_claimCosts_6 z, ⟨kX5_claimCosts_9 z, ⟨kX5_claimCosts_12 z, ⟨kX5_claimCosts_13 z, ⟨kX5_claimCosts_14 z, ⟨kX5_claimCosts_15 z, ⟨kX5_claimCosts_16 z, ⟨kX5_claimCosts_17 z, ⟨kX5_claimCosts_20 z, ⟨kX5_claimCosts_21 z, ⟨kX5_claimCosts_24 z, ⟨kX5_claimCosts_25 z, ⟨kX5_claimCosts_26 z, ⟨kX5_claimCosts_27 z, ⟨kX5_claimCosts_30 z, ⟨kX5_claimCosts_33 z, ⟨kX5_claimCosts_34 z, ⟨kX5_claimCosts_35 z, ⟨kX5_claimCosts_37 z, ⟨kX5_claimCosts_40 z, ⟨kX5_claimCosts_43 z, ⟨kX5_claimCosts_44 z, ⟨kX5_claimCosts_47 z, ⟨kX5_claimCosts_48 z, ⟨kX5_claimCosts_49 z, ⟨kX5_claimCosts_50 z, ⟨kX5_claimCosts_53 z, ⟨kX5_claimCosts_54 z, ⟨kX5_claimCosts_55 z, ⟨kX5_claimCosts_56 z, ⟨kX5_claimCosts_59 z, ⟨kX5_claimCosts_60 z, ⟨kX5_claimCosts_61 z, ⟨kX5_claimCosts_62 z, ⟨kX5_claimCosts_65 z, ⟨kX5_claimCosts_66 z, ⟨kX5_claimCosts_69 z, ⟨kX5_claimCosts_70 z, trivial⟩⟩⟩⟩⟩⟩⟩⟩⟩⟩⟩⟩⟩⟩⟩⟩⟩⟩⟩⟩⟩⟩⟩⟩⟩⟩⟩⟩⟩⟩⟩⟩⟩⟩⟩⟩⟩⟩⟩⟩⟩⟩) (hd_X5_claimCosts z) rfl rfl (by decide +kernel)
theorem hd_X5_claimTime (z : XKT) : XHd z Y_X5_claimTime := xHd_none rfl (xhd0 rfl)
theorem kX5_claimTime_0 (z : XKT) : XOi z xInf Y_X5_claimTime 0 (.inl (i_aload 0 1)) := ok_aload_n dX5_claimTime_0 rfl
theorem kX5_claimTime_1 (z : XKT) : XOi z xInf Y_X5_claimTime 1 (.inl (i_aload 0 2)) := ok_aload_n dX5_claimTime_1 rfl
theorem kX5_claimTime_2 (z : XKT) : XOi z xInf Y_X5_claimTime 2 (.inl (i_iload 1 3)) := ok_iload_n dX5_claimTime_2 rfl
theorem kX5_claimTime_3 (z : XKT) : XOi z xInf Y_X5_claimTime 3 (.inr (.inl (6, g_virt [(4, 232)] 1))) := show XOkC z xInf Y_X5_claimTime 3 6 (g_virt [(4, 232)] 1) from okc_V (q := Y_X5_claimTime) (List.forall_mem_cons.mpr ⟨(show XOkV z xInf Y_X5_claimTime 3 6 1 (4, 232) from okv_V (q := Y_X5_claimTime) (q1 := Y_X5_isGood) Z_X5_isGood rfl (by decide) ⟨by decide, by decide, Or.inl ⟨_, _, (List.mem_of_getElem? (l := xCls) (i := 3) rfl)⟩⟩ dX5_claimTime_3 q2654 q2656 qs56 q153 q2657 hy_272), (fun _ h => absurd h List.not_mem_nil)⟩)
theorem kX5_claimTime_6 (z : XKT) : XOi z xInf Y_X5_claimTime 6 (.inr (.inl (9, g_virt [(4, 240)] 1))) := show XOkC z xInf Y_X5_claimTime 6 9 (g_virt [(4, 240)] 1) from okc_V (q := Y_X5_claimTime) (List.forall_mem_cons.mpr ⟨(show XOkV z xInf Y_X5_claimTime 6 9 1 (4, 240) from okv_V (q := Y_X5_claimTime) (q1 := Y_X5_lacks) Z_X5_lacks rfl (by decide) ⟨by decide, by decide, Or.inl ⟨_, _, (List.mem_of_getElem? (l := xCls) (i := 3) rfl)⟩⟩ dX5_claimTime_6 q2606 q2608 qs46 q153 q2609 hy_262), (fun _ h => absurd h List.not_mem_nil)⟩)
theorem kX5_claimTime_9 (z : XKT) : XOi z xInf Y_X5_claimTime 9 (.inl (i_if (fun x => x = 0) 14 12)) := ok_if_eq dX5_claimTime_9 rfl
theorem kX5_claimTime_12 (z : XKT) : XOi z xInf Y_X5_claimTime 12 (.inl (i_push (vI 0) 13)) := ok_iconst dX5_claimTime_12 rfl
theorem kX5_claimTime_13 (z : XKT) : XOi z xInf Y_X5_claimTime 13 (.inr (.inr (.inl (r_i .int)))) := show XOkR Y_X5_claimTime 13 ((r_i .int)) from okr_i (q := Y_X5_claimTime) (ty := .int) rfl rfl dX5_claimTime_13
theorem kX5_claimTime_14 (z : XKT) : XOi z xInf Y_X5_claimTime 14 (.inl (i_aload 0 15)) := ok_aload_n dX5_claimTime_14 rfl
theorem kX5_claimTime_15 (z : XKT) : XOi z xInf Y_X5_claimTime 15 (.inl (i_iload 1 16)) := ok_iload_n dX5_claimTime_15 rfl
theorem kX5_claimTime_16 (z : XKT) : XOi z xInf Y_X5_claimTime 16 (.inl (i_push (vI 1) 17)) := ok_iconst dX5_claimTime_16 rfl
theorem kX5_claimTime_17 (z : XKT) : XOi z xInf Y_X5_claimTime 17 (.inr (.inl (20, g_virt [(4, 233)] 2))) := show XOkC z xInf Y_X5_claimTime 17 20 (g_virt [(4, 233)] 2) from okc_V (q := Y_X5_claimTime) (List.forall_mem_cons.mpr ⟨(show XOkV z xInf Y_X5_claimTime 17 20 2 (4, 233) from okv_V (q := Y_X5_claimTime) (q1 := Y_X5_isIn) Z_X5_isIn rfl (by decide) ⟨by decide, by decide, Or.inl ⟨_, _, (List.mem_of_getElem? (l := xCls) (i := 3) rfl)⟩⟩ dX5_claimTime_17 q2618 q2620 qs49 q153 q2621 hy_270), (fun _ h => absurd h List.not_mem_nil)⟩)
theorem kX5_claimTime_20 (z : XKT) : XOi z xInf Y_X5_claimTime 20 (.inl (i_if (fun x => x = 0) 44 23)) := ok_if_eq dX5_claimTime_20 rfl
theorem kX5_claimTime_23 (z : XKT) : XOi z xInf Y_X5_claimTime 23 (.inl (i_aload 0 24)) := ok_aload_n dX5_claimTime_23 rfl
theorem kX5_claimTime_24 (z : XKT) : XOi z xInf Y_X5_claimTime 24 (.inl (i_iload 1 25)) := ok_iload_n dX5_claimTime_24 rfl
theorem kX5_claimTime_25 (z : XKT) : XOi z xInf Y_X5_claimTime 25 (.inl (i_push (vI 2) 26)) := ok_iconst dX5_claimTime_25 rfl
theorem kX5_claimTime_26 (z : XKT) : XOi z xInf Y_X5_claimTime 26 (.inr (.inl (29, g_virt [(4, 253)] 2))) := show XOkC z xInf Y_X5_claimTime 26 29 (g_virt [(4, 253)] 2) from okc_V (q := Y_X5_claimTime) (List.forall_mem_cons.mpr ⟨(show XOkV z xInf Y_X5_claimTime 26 29 2 (4, 253) from okv_V (q := Y_X5_claimTime) (q1 := Y_X5_of) Z_X5_of rfl (by decide) ⟨by decide, by decide, Or.inl ⟨_, _, (List.mem_of_getElem? (l := xCls) (i := 3) rfl)⟩⟩ dX5_claimTime_26 q2622 q2624 qs50 q153 q2625 hy_265), (fun _ h => absurd h List.not_mem_nil)⟩)
theorem kX5_claimTime_29 (z : XKT) : XOi z xInf Y_X5_claimTime 29 (.inl (i_if (fun x => x ≤ 0) 44 32)) := ok_if_le dX5_claimTime_29 rfl
theorem kX5_claimTime_32 (z : XKT) : XOi z xInf Y_X5_claimTime 32 (.inl (i_aload 0 33)) := ok_aload_n dX5_claimTime_32 rfl
theorem kX5_claimTime_33 (z : XKT) : XOi z xInf Y_X5_claimTime 33 (.inl (i_iload 1 34)) := ok_iload_n dX5_claimTime_33 rfl
theorem kX5_claimTime_34 (z : XKT) : XOi z xInf Y_X5_claimTime 34 (.inr (.inl (37, g_virt [(4, 228)] 1))) := show XOkC z xInf Y_X5_claimTime 34 37 (g_virt [(4, 228)] 1) from okc_V (q := Y_X5_claimTime) (List.forall_mem_cons.mpr ⟨(show XOkV z xInf Y_X5_claimTime 34 37 1 (4, 228) from okv_V (q := Y_X5_claimTime) (q1 := Y_X5_isClaimed) Z_X5_isClaimed rfl (by decide) ⟨by decide, by decide, Or.inl ⟨_, _, (List.mem_of_getElem? (l := xCls) (i := 3) rfl)⟩⟩ dX5_claimTime_34 q2725 q2727 qs66 q153 q2728 hy_280), (fun _ h => absurd h List.not_mem_nil)⟩)
theorem kX5_claimTime_37 (z : XKT) : XOi z xInf Y_X5_claimTime 37 (.inl (i_if (fun x => ¬ x = 0) 44 40)) := ok_if_ne dX5_claimTime_37 rfl
theorem kX5_claimTime_40 (z : XKT) : XOi z xInf Y_X5_claimTime 40 (.inl (i_push (vI 1) 41)) := ok_iconst dX5_claimTime_40 rfl
theorem kX5_claimTime_41 (z : XKT) : XOi z xInf Y_X5_claimTime 41 (.inl (i_goto 45)) := ok_goto dX5_claimTime_41 rfl
theorem kX5_claimTime_44 (z : XKT) : XOi z xInf Y_X5_claimTime 44 (.inl (i_push (vI 0) 45)) := ok_iconst dX5_claimTime_44 rfl
theorem kX5_claimTime_45 (z : XKT) : XOi z xInf Y_X5_claimTime 45 (.inl (i_istore 2 46)) := ok_istore_n dX5_claimTime_45 rfl
theorem kX5_claimTime_46 (z : XKT) : XOi z xInf Y_X5_claimTime 46 (.inl (i_iload 2 47)) := ok_iload_n dX5_claimTime_46 rfl
theorem kX5_claimTime_47 (z : XKT) : XOi z xInf Y_X5_claimTime 47 (.inl (i_if (fun x => x = 0) 83 50)) := ok_if_eq dX5_claimTime_47 rfl
theorem kX5_claimTime_50 (z : XKT) : XOi z xInf Y_X5_claimTime 50 (.inl (i_aload 0 51)) := ok_aload_n dX5_claimTime_50 rfl
theorem kX5_claimTime_51 (z : XKT) : XOi z xInf Y_X5_claimTime 51 (.inl (i_getr [4] 40 54)) := ok_getr dX5_claimTime_51 q2517 (List.forall_mem_cons.mpr ⟨⟨_, _, _, _, fd_40_4_0⟩, (fun _ h => absurd h List.not_mem_nil)⟩)
theorem kX5_claimTime_54 (z : XKT) : XOi z xInf Y_X5_claimTime 54 (.inl (i_push (vI 0) 55)) := ok_iconst dX5_claimTime_54 rfl
theorem kX5_claimTime_55 (z : XKT) : XOi z xInf Y_X5_claimTime 55 (.inl (i_ald 1000 56)) := ok_iald dX5_claimTime_55
theorem kX5_claimTime_56 (z : XKT) : XOi z xInf Y_X5_claimTime 56 (.inl (i_aload 0 57)) := ok_aload_n dX5_claimTime_56 rfl
theorem kX5_claimTime_57 (z : XKT) : XOi z xInf Y_X5_claimTime 57 (.inl (i_iload 1 58)) := ok_iload_n dX5_claimTime_57 rfl
theorem kX5_claimTime_58 (z : XKT) : XOi z xInf Y_X5_claimTime 58 (.inl (i_push (vI 7) 60)) := ok_bipush dX5_claimTime_58 rfl
theorem kX5_claimTime_60 (z : XKT) : XOi z xInf Y_X5_claimTime 60 (.inr (.inl (63, g_virt [(4, 253)] 2))) := show XOkC z xInf Y_X5_claimTime 60 63 (g_virt [(4, 253)] 2) from okc_V (q := Y_X5_claimTime) (List.forall_mem_cons.mpr ⟨(show XOkV z xInf Y_X5_claimTime 60 63 2 (4, 253) from okv_V (q := Y_X5_claimTime) (q1 := Y_X5_of) Z_X5_of rfl (by decide) ⟨by decide, by decide, Or.inl ⟨_, _, (List.mem_of_getElem? (l := xCls) (i := 3) rfl)⟩⟩ dX5_claimTime_60 q2622 q2624 qs50 q153 q2625 hy_265), (fun _ h => absurd h List.not_mem_nil)⟩)
theorem kX5_claimTime_63 (z : XKT) : XOi z xInf Y_X5_claimTime 63 (.inl (i_icmp (fun x y => y < x) 83 66)) := ok_icmp_gt dX5_claimTime_63 rfl
theorem kX5_claimTime_66 (z : XKT) : XOi z xInf Y_X5_claimTime 66 (.inl (i_aload 0 67)) := ok_aload_n dX5_claimTime_66 rfl
theorem kX5_claimTime_67 (z : XKT) : XOi z xInf Y_X5_claimTime 67 (.inl (i_iload 1 68)) := ok_iload_n dX5_claimTime_67 rfl
theorem kX5_claimTime_68 (z : XKT) : XOi z xInf Y_X5_claimTime 68 (.inl (i_push (vI 7) 70)) := ok_bipush dX5_claimTime_68 rfl
theorem kX5_claimTime_70 (z : XKT) : XOi z xInf Y_X5_claimTime 70 (.inr (.inl (73, g_virt [(4, 253)] 2))) := show XOkC z xInf Y_X5_claimTime 70 73 (g_virt [(4, 253)] 2) from okc_V (q := Y_X5_claimTime) (List.forall_mem_cons.mpr ⟨(show XOkV z xInf Y_X5_claimTime 70 73 2 (4, 253) from okv_V (q := Y_X5_claimTime) (q1 := Y_X5_of) Z_X5_of rfl (by decide) ⟨by decide, by decide, Or.inl ⟨_, _, (List.mem_of_getElem? (l := xCls) (i := 3) rfl)⟩⟩ dX5_claimTime_70 q2622 q2624 qs50 q153 q2625 hy_265), (fun _ h => absurd h List.not_mem_nil)⟩)
theorem kX5_claimTime_73 (z : XKT) : XOi z xInf Y_X5_claimTime 73 (.inl (i_aload 0 74)) := ok_aload_n dX5_claimTime_73 rfl
theorem kX5_claimTime_74 (z : XKT) : XOi z xInf Y_X5_claimTime 74 (.inl (i_getr [4] 40 77)) := ok_getr dX5_claimTime_74 q2517 (List.forall_mem_cons.mpr ⟨⟨_, _, _, _, fd_40_4_0⟩, (fun _ h => absurd h List.not_mem_nil)⟩)
theorem kX5_claimTime_77 (z : XKT) : XOi z xInf Y_X5_claimTime 77 (.inl (i_push (vI 0) 78)) := ok_iconst dX5_claimTime_77 rfl
theorem kX5_claimTime_78 (z : XKT) : XOi z xInf Y_X5_claimTime 78 (.inl (i_ald 1000 79)) := ok_iald dX5_claimTime_78
theorem kX5_claimTime_79 (z : XKT) : XOi z xInf Y_X5_claimTime 79 (.inl (i_bin (fun x y => x - y) 80)) := ok_isub dX5_claimTime_79
theorem kX5_claimTime_80 (z : XKT) : XOi z xInf Y_X5_claimTime 80 (.inl (i_goto 84)) := ok_goto dX5_claimTime_80 rfl
theorem kX5_claimTime_83 (z : XKT) : XOi z xInf Y_X5_claimTime 83 (.inl (i_push (vI (-1)) 84)) := ok_iconst dX5_claimTime_83 rfl
theorem kX5_claimTime_84 (z : XKT) : XOi z xInf Y_X5_claimTime 84 (.inr (.inr (.inl (r_i .int)))) := show XOkR Y_X5_claimTime 84 ((r_i .int)) from okr_i (q := Y_X5_claimTime) (ty := .int) rfl rfl dX5_claimTime_84
theorem o_X5_claimTime (z : XKT) : XMi z xInf Y_X5_claimTime := XMi.mk9 (T := T_X5_claimTime z) rfl (⟨kX5_claimTime_0 z, ⟨kX5_claimTime_1 z, ⟨kX5_claimTime_2 z, ⟨kX5_claimTime_3 z, ⟨kX5_claimTime_6 z, ⟨kX5_claimTime_9 z, ⟨kX5_claimTime_12 z, ⟨kX5_claimTime_13 z, ⟨kX5_claimTime_14 z, ⟨kX5_claimTime_15 z, ⟨kX5_claimTime_16 z, ⟨kX5_claimTime_17 z, ⟨kX5_claimTime_20 z, ⟨kX5_claimTime_23 z, ⟨kX5_claimTime_24 z, ⟨kX5_claimTime_25 z, ⟨kX5_claimTime_26 z, ⟨kX5_claimTime_29 z, ⟨kX5_claimTime_32 z, ⟨kX5_claimTime_33 z, ⟨kX5_claimTime_34 z, ⟨kX5_claimTime_37 z, ⟨kX5_claimTime_40 z, ⟨kX5_claimTime_41 z, ⟨kX5_claimTime_44 z, ⟨kX5_claimTime_45 z, ⟨kX5_claimTime_46 z, ⟨kX5_claimTime_47 z, ⟨kX5_claimTime_50 z, ⟨kX5_claimTime_51 z, ⟨kX5_claimTime_54 z, ⟨kX5_claimTime_55 z, ⟨kX5_claimTime_56 z, ⟨kX5_claimTime_57 z, ⟨kX5_claimTime_58 z, ⟨kX5_claimTime_60 z, ⟨kX5_claimTime_63 z, ⟨kX5_claimTime_66 z, ⟨kX5_claimTime_67 z, ⟨kX5_claimTime_68 z, ⟨kX5_claimTime_70 z, ⟨kX5_claimTime_73 z, ⟨kX5_claimTime_74 z, ⟨kX5_claimTime_77 z, ⟨kX5_claimTime_78 z, ⟨kX5_claimTime_79 z, ⟨kX5_claimTime_80 z, ⟨kX5_claimTime_83 z, ⟨kX5_claimTime_84 z, trivial⟩⟩⟩⟩⟩⟩⟩⟩⟩⟩⟩⟩⟩⟩⟩⟩⟩⟩⟩⟩⟩⟩⟩⟩⟩⟩⟩⟩⟩⟩⟩⟩⟩⟩⟩⟩⟩⟩⟩⟩⟩⟩⟩⟩⟩⟩⟩⟩⟩) (hd_X5_claimTime z) rfl rfl (by decide +kernel)
theorem hd_X5_claimable (z : XKT) : XHd z Y_X5_claimable := xHd_none rfl (xhd0 rfl)
theorem kX5_claimable_0 (z : XKT) : XOi z xInf Y_X5_claimable 0 (.inl (i_push (vI 0) 1)) := ok_iconst dX5_claimable_0 rfl
theorem kX5_claimable_1 (z : XKT) : XOi z xInf Y_X5_claimable 1 (.inl (i_istore 2 2)) := ok_istore_n dX5_claimable_1 rfl
theorem kX5_claimable_2 (z : XKT) : XOi z xInf Y_X5_claimable 2 (.inl (i_push (vI 0) 3)) := ok_iconst dX5_claimable_2 rfl
theorem kX5_claimable_3 (z : XKT) : XOi z xInf Y_X5_claimable 3 (.inl (i_istore 3 4)) := ok_istore_n dX5_claimable_3 rfl
theorem kX5_claimable_4 (z : XKT) : XOi z xInf Y_X5_claimable 4 (.inl (i_iload 3 5)) := ok_iload_n dX5_claimable_4 rfl
theorem kX5_claimable_5 (z : XKT) : XOi z xInf Y_X5_claimable 5 (.inl (i_aload 0 6)) := ok_aload_n dX5_claimable_5 rfl
theorem kX5_claimable_6 (z : XKT) : XOi z xInf Y_X5_claimable 6 (.inl (i_getr [4] 40 9)) := ok_getr dX5_claimable_6 q2517 (List.forall_mem_cons.mpr ⟨⟨_, _, _, _, fd_40_4_0⟩, (fun _ h => absurd h List.not_mem_nil)⟩)
theorem kX5_claimable_9 (z : XKT) : XOi z xInf Y_X5_claimable 9 (.inl (i_push (vI 5) 10)) := ok_iconst dX5_claimable_9 rfl
theorem kX5_claimable_10 (z : XKT) : XOi z xInf Y_X5_claimable 10 (.inl (i_ald 1000 11)) := ok_iald dX5_claimable_10
theorem kX5_claimable_11 (z : XKT) : XOi z xInf Y_X5_claimable 11 (.inl (i_icmp (fun x y => y ≤ x) 88 14)) := ok_icmp_ge dX5_claimable_11 rfl
theorem kX5_claimable_14 (z : XKT) : XOi z xInf Y_X5_claimable 14 (.inl (i_aload 0 15)) := ok_aload_n dX5_claimable_14 rfl
theorem kX5_claimable_15 (z : XKT) : XOi z xInf Y_X5_claimable 15 (.inl (i_iload 3 16)) := ok_iload_n dX5_claimable_15 rfl
theorem kX5_claimable_16 (z : XKT) : XOi z xInf Y_X5_claimable 16 (.inl (i_push (vI 1) 17)) := ok_iconst dX5_claimable_16 rfl
theorem kX5_claimable_17 (z : XKT) : XOi z xInf Y_X5_claimable 17 (.inr (.inl (20, g_virt [(4, 233)] 2))) := show XOkC z xInf Y_X5_claimable 17 20 (g_virt [(4, 233)] 2) from okc_V (q := Y_X5_claimable) (List.forall_mem_cons.mpr ⟨(show XOkV z xInf Y_X5_claimable 17 20 2 (4, 233) from okv_V (q := Y_X5_claimable) (q1 := Y_X5_isIn) Z_X5_isIn rfl (by decide) ⟨by decide, by decide, Or.inl ⟨_, _, (List.mem_of_getElem? (l := xCls) (i := 3) rfl)⟩⟩ dX5_claimable_17 q2618 q2620 qs49 q153 q2621 hy_270), (fun _ h => absurd h List.not_mem_nil)⟩)
theorem kX5_claimable_20 (z : XKT) : XOi z xInf Y_X5_claimable 20 (.inl (i_if (fun x => x = 0) 61 23)) := ok_if_eq dX5_claimable_20 rfl
theorem kX5_claimable_23 (z : XKT) : XOi z xInf Y_X5_claimable 23 (.inl (i_aload 0 24)) := ok_aload_n dX5_claimable_23 rfl
theorem kX5_claimable_24 (z : XKT) : XOi z xInf Y_X5_claimable 24 (.inl (i_iload 3 25)) := ok_iload_n dX5_claimable_24 rfl
theorem kX5_claimable_25 (z : XKT) : XOi z xInf Y_X5_claimable 25 (.inl (i_push (vI 2) 26)) := ok_iconst dX5_claimable_25 rfl
theorem kX5_claimable_26 (z : XKT) : XOi z xInf Y_X5_claimable 26 (.inr (.inl (29, g_virt [(4, 253)] 2))) := show XOkC z xInf Y_X5_claimable 26 29 (g_virt [(4, 253)] 2) from okc_V (q := Y_X5_claimable) (List.forall_mem_cons.mpr ⟨(show XOkV z xInf Y_X5_claimable 26 29 2 (4, 253) from okv_V (q := Y_X5_claimable) (q1 := Y_X5_of) Z_X5_of rfl (by decide) ⟨by decide, by decide, Or.inl ⟨_, _, (List.mem_of_getElem? (l := xCls) (i := 3) rfl)⟩⟩ dX5_claimable_26 q2622 q2624 qs50 q153 q2625 hy_265), (fun _ h => absurd h List.not_mem_nil)⟩)
theorem kX5_claimable_29 (z : XKT) : XOi z xInf Y_X5_claimable 29 (.inl (i_iload 1 30)) := ok_iload_n dX5_claimable_29 rfl
theorem kX5_claimable_30 (z : XKT) : XOi z xInf Y_X5_claimable 30 (.inl (i_icmp (fun x y => ¬ x = y) 61 33)) := ok_icmp_ne dX5_claimable_30 rfl
theorem kX5_claimable_33 (z : XKT) : XOi z xInf Y_X5_claimable 33 (.inl (i_aload 0 34)) := ok_aload_n dX5_claimable_33 rfl
theorem kX5_claimable_34 (z : XKT) : XOi z xInf Y_X5_claimable 34 (.inl (i_iload 3 35)) := ok_iload_n dX5_claimable_34 rfl
theorem kX5_claimable_35 (z : XKT) : XOi z xInf Y_X5_claimable 35 (.inr (.inl (38, g_virt [(4, 228)] 1))) := show XOkC z xInf Y_X5_claimable 35 38 (g_virt [(4, 228)] 1) from okc_V (q := Y_X5_claimable) (List.forall_mem_cons.mpr ⟨(show XOkV z xInf Y_X5_claimable 35 38 1 (4, 228) from okv_V (q := Y_X5_claimable) (q1 := Y_X5_isClaimed) Z_X5_isClaimed rfl (by decide) ⟨by decide, by decide, Or.inl ⟨_, _, (List.mem_of_getElem? (l := xCls) (i := 3) rfl)⟩⟩ dX5_claimable_35 q2725 q2727 qs66 q153 q2728 hy_280), (fun _ h => absurd h List.not_mem_nil)⟩)
theorem kX5_claimable_38 (z : XKT) : XOi z xInf Y_X5_claimable 38 (.inl (i_if (fun x => ¬ x = 0) 61 41)) := ok_if_ne dX5_claimable_38 rfl
theorem kX5_claimable_41 (z : XKT) : XOi z xInf Y_X5_claimable 41 (.inl (i_aload 0 42)) := ok_aload_n dX5_claimable_41 rfl
theorem kX5_claimable_42 (z : XKT) : XOi z xInf Y_X5_claimable 42 (.inl (i_getr [4] 40 45)) := ok_getr dX5_claimable_42 q2517 (List.forall_mem_cons.mpr ⟨⟨_, _, _, _, fd_40_4_0⟩, (fun _ h => absurd h List.not_mem_nil)⟩)
theorem kX5_claimable_45 (z : XKT) : XOi z xInf Y_X5_claimable 45 (.inl (i_push (vI 0) 46)) := ok_iconst dX5_claimable_45 rfl
theorem kX5_claimable_46 (z : XKT) : XOi z xInf Y_X5_claimable 46 (.inl (i_ald 1000 47)) := ok_iald dX5_claimable_46
theorem kX5_claimable_47 (z : XKT) : XOi z xInf Y_X5_claimable 47 (.inl (i_aload 0 48)) := ok_aload_n dX5_claimable_47 rfl
theorem kX5_claimable_48 (z : XKT) : XOi z xInf Y_X5_claimable 48 (.inl (i_iload 3 49)) := ok_iload_n dX5_claimable_48 rfl
theorem kX5_claimable_49 (z : XKT) : XOi z xInf Y_X5_claimable 49 (.inl (i_push (vI 7) 51)) := ok_bipush dX5_claimable_49 rfl
theorem kX5_claimable_51 (z : XKT) : XOi z xInf Y_X5_claimable 51 (.inr (.inl (54, g_virt [(4, 253)] 2))) := show XOkC z xInf Y_X5_claimable 51 54 (g_virt [(4, 253)] 2) from okc_V (q := Y_X5_claimable) (List.forall_mem_cons.mpr ⟨(show XOkV z xInf Y_X5_claimable 51 54 2 (4, 253) from okv_V (q := Y_X5_claimable) (q1 := Y_X5_of) Z_X5_of rfl (by decide) ⟨by decide, by decide, Or.inl ⟨_, _, (List.mem_of_getElem? (l := xCls) (i := 3) rfl)⟩⟩ dX5_claimable_51 q2622 q2624 qs50 q153 q2625 hy_265), (fun _ h => absurd h List.not_mem_nil)⟩)
theorem kX5_claimable_54 (z : XKT) : XOi z xInf Y_X5_claimable 54 (.inl (i_icmp (fun x y => y < x) 61 57)) := ok_icmp_gt dX5_claimable_54 rfl
theorem kX5_claimable_57 (z : XKT) : XOi z xInf Y_X5_claimable 57 (.inl (i_push (vI 1) 58)) := ok_iconst dX5_claimable_57 rfl
theorem kX5_claimable_58 (z : XKT) : XOi z xInf Y_X5_claimable 58 (.inl (i_goto 62)) := ok_goto dX5_claimable_58 rfl
theorem kX5_claimable_61 (z : XKT) : XOi z xInf Y_X5_claimable 61 (.inl (i_push (vI 0) 62)) := ok_iconst dX5_claimable_61 rfl
theorem kX5_claimable_62 (z : XKT) : XOi z xInf Y_X5_claimable 62 (.inl (i_istore 4 64)) := ok_istore dX5_claimable_62
theorem kX5_claimable_64 (z : XKT) : XOi z xInf Y_X5_claimable 64 (.inl (i_iload 2 65)) := ok_iload_n dX5_claimable_64 rfl
theorem kX5_claimable_65 (z : XKT) : XOi z xInf Y_X5_claimable 65 (.inl (i_iload 4 67)) := ok_iload dX5_claimable_65
theorem kX5_claimable_67 (z : XKT) : XOi z xInf Y_X5_claimable 67 (.inl (i_if (fun x => x = 0) 79 70)) := ok_if_eq dX5_claimable_67 rfl
theorem kX5_claimable_70 (z : XKT) : XOi z xInf Y_X5_claimable 70 (.inl (i_aload 0 71)) := ok_aload_n dX5_claimable_70 rfl
theorem kX5_claimable_71 (z : XKT) : XOi z xInf Y_X5_claimable 71 (.inl (i_iload 3 72)) := ok_iload_n dX5_claimable_71 rfl
theorem kX5_claimable_72 (z : XKT) : XOi z xInf Y_X5_claimable 72 (.inl (i_push (vI 1) 73)) := ok_iconst dX5_claimable_72 rfl
theorem kX5_claimable_73 (z : XKT) : XOi z xInf Y_X5_claimable 73 (.inr (.inl (76, g_virt [(4, 253)] 2))) := show XOkC z xInf Y_X5_claimable 73 76 (g_virt [(4, 253)] 2) from okc_V (q := Y_X5_claimable) (List.forall_mem_cons.mpr ⟨(show XOkV z xInf Y_X5_claimable 73 76 2 (4, 253) from okv_V (q := Y_X5_claimable) (q1 := Y_X5_of) Z_X5_of rfl (by decide) ⟨by decide, by decide, Or.inl ⟨_, _, (List.mem_of_getElem? (l := xCls) (i := 3) rfl)⟩⟩ dX5_claimable_73 q2622 q2624 qs50 q153 q2625 hy_265), (fun _ h => absurd h List.not_mem_nil)⟩)
theorem kX5_claimable_76 (z : XKT) : XOi z xInf Y_X5_claimable 76 (.inl (i_goto 80)) := ok_goto dX5_claimable_76 rfl
theorem kX5_claimable_79 (z : XKT) : XOi z xInf Y_X5_claimable 79 (.inl (i_push (vI 0) 80)) := ok_iconst dX5_claimable_79 rfl
theorem kX5_claimable_80 (z : XKT) : XOi z xInf Y_X5_claimable 80 (.inl (i_bin (fun x y => x + y) 81)) := ok_iadd dX5_claimable_80
theorem kX5_claimable_81 (z : XKT) : XOi z xInf Y_X5_claimable 81 (.inl (i_istore 2 82)) := ok_istore_n dX5_claimable_81 rfl
theorem kX5_claimable_82 (z : XKT) : XOi z xInf Y_X5_claimable 82 (.inl (i_iinc 3 1 85)) := ok_iinc dX5_claimable_82 rfl
theorem kX5_claimable_85 (z : XKT) : XOi z xInf Y_X5_claimable 85 (.inl (i_goto 4)) := ok_goto dX5_claimable_85 rfl
theorem kX5_claimable_88 (z : XKT) : XOi z xInf Y_X5_claimable 88 (.inl (i_iload 2 89)) := ok_iload_n dX5_claimable_88 rfl
theorem kX5_claimable_89 (z : XKT) : XOi z xInf Y_X5_claimable 89 (.inr (.inr (.inl (r_i .int)))) := show XOkR Y_X5_claimable 89 ((r_i .int)) from okr_i (q := Y_X5_claimable) (ty := .int) rfl rfl dX5_claimable_89
theorem o_X5_claimable (z : XKT) : XMi z xInf Y_X5_claimable := XMi.mk9 (T := T_X5_claimable z) rfl (⟨kX5_claimable_0 z, ⟨kX5_claimable_1 z, ⟨kX5_claimable_2 z, ⟨kX5_claimable_3 z, ⟨kX5_claimable_4 z, ⟨kX5_claimable_5 z, ⟨kX5_claimable_6 z, ⟨kX5_claimable_9 z, ⟨kX5_claimable_10 z, ⟨kX5_claimable_11 z, ⟨kX5_claimable_14 z, ⟨kX5_claimable_15 z, ⟨kX5_claimable_16 z, ⟨kX5_claimable_17 z, ⟨kX5_claimable_20 z, ⟨kX5_claimable_23 z, ⟨kX5_claimable_24 z, ⟨kX5_claimable_25 z, ⟨kX5_claimable_26 z, ⟨kX5_claimable_29 z, ⟨kX5_claimable_30 z, ⟨kX5_claimable_33 z, ⟨kX5_claimable_34 z, ⟨kX5_claimable_35 z, ⟨kX5_claimable_38 z, ⟨kX5_claimable_41 z, ⟨kX5_claimable_42 z, ⟨kX5_claimable_45 z, ⟨kX5_claimable_46 z, ⟨kX5_claimable_47 z, ⟨kX5_claimable_48 z, ⟨kX5_claimable_49 z, ⟨kX5_claimable_51 z, ⟨kX5_claimable_54 z, ⟨kX5_claimable_57 z, ⟨kX5_claimable_58 z, ⟨kX5_claimable_61 z, ⟨kX5_claimable_62 z, ⟨kX5_claimable_64 z, ⟨kX5_claimable_65 z, ⟨kX5_claimable_67 z, ⟨kX5_claimable_70 z, ⟨kX5_claimable_71 z, ⟨kX5_claimable_72 z, ⟨kX5_claimable_73 z, ⟨kX5_claimable_76 z, ⟨kX5_claimable_79 z, ⟨kX5_claimable_80 z, ⟨kX5_claimable_81 z, ⟨kX5_claimable_82 z, ⟨kX5_claimable_85 z, ⟨kX5_claimable_88 z, ⟨kX5_claimable_89 z, trivial⟩⟩⟩⟩⟩⟩⟩⟩⟩⟩⟩⟩⟩⟩⟩⟩⟩⟩⟩⟩⟩⟩⟩⟩⟩⟩⟩⟩⟩⟩⟩⟩⟩⟩⟩⟩⟩⟩⟩⟩⟩⟩⟩⟩⟩⟩⟩⟩⟩⟩⟩⟩⟩) (hd_X5_claimable z) rfl rfl (by decide +kernel)
theorem hd_X5_copy (z : XKT) : XHd z Y_X5_copy := xHd_none rfl (xhd0 rfl)
theorem kX5_copy_0 (z : XKT) : XOi z xInf Y_X5_copy 0 (.inl (i_aload 0 1)) := ok_aload_n dX5_copy_0 rfl
theorem kX5_copy_1 (z : XKT) : XOi z xInf Y_X5_copy 1 (.inl (i_push (vI 468) 4)) := ok_sipush dX5_copy_1 rfl
theorem kX5_copy_4 (z : XKT) : XOi z xInf Y_X5_copy 4 (.inl (i_iload 1 5)) := ok_iload_n dX5_copy_4 rfl
theorem kX5_copy_5 (z : XKT) : XOi z xInf Y_X5_copy 5 (.inl (i_bin (fun x y => x * y) 6)) := ok_imul dX5_copy_5
theorem kX5_copy_6 (z : XKT) : XOi z xInf Y_X5_copy 6 (.inl (i_aload 2 7)) := ok_aload_n dX5_copy_6 rfl
theorem kX5_copy_7 (z : XKT) : XOi z xInf Y_X5_copy 7 (.inl (i_push (vI 468) 10)) := ok_sipush dX5_copy_7 rfl
theorem kX5_copy_10 (z : XKT) : XOi z xInf Y_X5_copy 10 (.inl (i_iload 3 11)) := ok_iload_n dX5_copy_10 rfl
theorem kX5_copy_11 (z : XKT) : XOi z xInf Y_X5_copy 11 (.inl (i_bin (fun x y => x * y) 12)) := ok_imul dX5_copy_11
theorem kX5_copy_12 (z : XKT) : XOi z xInf Y_X5_copy 12 (.inl (i_push (vI 468) 15)) := ok_sipush dX5_copy_12 rfl
theorem kX5_copy_15 (z : XKT) : XOi z xInf Y_X5_copy 15 (.inl (i_acopy z.1 1000 18)) := ok_acopy (ty := .int) dX5_copy_15 q2885 q330 q329 q141 (List.mem_of_getElem? (l := xArs) (i := 0) rfl) (Or.inl rfl) (by decide) (by decide) (by decide)
theorem kX5_copy_18 (z : XKT) : XOi z xInf Y_X5_copy 18 (.inr (.inr (.inl r_v))) := show XOkR Y_X5_copy 18 (r_v) from okr_v (q := Y_X5_copy) rfl dX5_copy_18
theorem o_X5_copy (z : XKT) : XMi z xInf Y_X5_copy := XMi.mk9 (T := T_X5_copy z) rfl (⟨kX5_copy_0 z, ⟨kX5_copy_1 z, ⟨kX5_copy_4 z, ⟨kX5_copy_5 z, ⟨kX5_copy_6 z, ⟨kX5_copy_7 z, ⟨kX5_copy_10 z, ⟨kX5_copy_11 z, ⟨kX5_copy_12 z, ⟨kX5_copy_15 z, ⟨kX5_copy_18 z, trivial⟩⟩⟩⟩⟩⟩⟩⟩⟩⟩⟩) (hd_X5_copy z) rfl rfl (by decide +kernel)
theorem hd_X5_count (z : XKT) : XHd z Y_X5_count := xHd_none rfl (xhd0 rfl)
theorem kX5_count_0 (z : XKT) : XOi z xInf Y_X5_count 0 (.inl (i_aload 0 1)) := ok_aload_n dX5_count_0 rfl
theorem kX5_count_1 (z : XKT) : XOi z xInf Y_X5_count 1 (.inl (i_iload 1 2)) := ok_iload_n dX5_count_1 rfl
theorem kX5_count_2 (z : XKT) : XOi z xInf Y_X5_count 2 (.inl (i_push (vI 0) 3)) := ok_iconst dX5_count_2 rfl
theorem kX5_count_3 (z : XKT) : XOi z xInf Y_X5_count 3 (.inl (i_push (vI 3) 4)) := ok_iconst dX5_count_3 rfl
theorem kX5_count_4 (z : XKT) : XOi z xInf Y_X5_count 4 (.inr (.inl (7, g_stat 226 3))) := show XOkC z xInf Y_X5_count 4 7 (g_stat 226 3) from okc_S (q := Y_X5_count) (q1 := Y_X5_inRange) Z_X5_inRange rfl (by decide) dX5_count_4 q2603 q2604 q153 q2605 hy_261
theorem kX5_count_7 (z : XKT) : XOi z xInf Y_X5_count 7 (.inl (i_if (fun x => x = 0) 23 10)) := ok_if_eq dX5_count_7 rfl
theorem kX5_count_10 (z : XKT) : XOi z xInf Y_X5_count 10 (.inl (i_iload 2 11)) := ok_iload_n dX5_count_10 rfl
theorem kX5_count_11 (z : XKT) : XOi z xInf Y_X5_count 11 (.inl (i_push (vI 0) 12)) := ok_iconst dX5_count_11 rfl
theorem kX5_count_12 (z : XKT) : XOi z xInf Y_X5_count 12 (.inl (i_push (vI 3) 13)) := ok_iconst dX5_count_12 rfl
theorem kX5_count_13 (z : XKT) : XOi z xInf Y_X5_count 13 (.inr (.inl (16, g_stat 226 3))) := show XOkC z xInf Y_X5_count 13 16 (g_stat 226 3) from okc_S (q := Y_X5_count) (q1 := Y_X5_inRange) Z_X5_inRange rfl (by decide) dX5_count_13 q2603 q2604 q153 q2605 hy_261
theorem kX5_count_16 (z : XKT) : XOi z xInf Y_X5_count 16 (.inl (i_if (fun x => x = 0) 23 19)) := ok_if_eq dX5_count_16 rfl
theorem kX5_count_19 (z : XKT) : XOi z xInf Y_X5_count 19 (.inl (i_push (vI 1) 20)) := ok_iconst dX5_count_19 rfl
theorem kX5_count_20 (z : XKT) : XOi z xInf Y_X5_count 20 (.inl (i_goto 24)) := ok_goto dX5_count_20 rfl
theorem kX5_count_23 (z : XKT) : XOi z xInf Y_X5_count 23 (.inl (i_push (vI 0) 24)) := ok_iconst dX5_count_23 rfl
theorem kX5_count_24 (z : XKT) : XOi z xInf Y_X5_count 24 (.inr (.inl (27, g_virt [(4, 240)] 1))) := show XOkC z xInf Y_X5_count 24 27 (g_virt [(4, 240)] 1) from okc_V (q := Y_X5_count) (List.forall_mem_cons.mpr ⟨(show XOkV z xInf Y_X5_count 24 27 1 (4, 240) from okv_V (q := Y_X5_count) (q1 := Y_X5_lacks) Z_X5_lacks rfl (by decide) ⟨by decide, by decide, Or.inl ⟨_, _, (List.mem_of_getElem? (l := xCls) (i := 3) rfl)⟩⟩ dX5_count_24 q2606 q2608 qs46 q153 q2609 hy_262), (fun _ h => absurd h List.not_mem_nil)⟩)
theorem kX5_count_27 (z : XKT) : XOi z xInf Y_X5_count 27 (.inl (i_if (fun x => x = 0) 32 30)) := ok_if_eq dX5_count_27 rfl
theorem kX5_count_30 (z : XKT) : XOi z xInf Y_X5_count 30 (.inl (i_push (vI 0) 31)) := ok_iconst dX5_count_30 rfl
theorem kX5_count_31 (z : XKT) : XOi z xInf Y_X5_count 31 (.inr (.inr (.inl (r_i .int)))) := show XOkR Y_X5_count 31 ((r_i .int)) from okr_i (q := Y_X5_count) (ty := .int) rfl rfl dX5_count_31
theorem kX5_count_32 (z : XKT) : XOi z xInf Y_X5_count 32 (.inl (i_push (vI 0) 33)) := ok_iconst dX5_count_32 rfl
theorem kX5_count_33 (z : XKT) : XOi z xInf Y_X5_count 33 (.inl (i_istore 3 34)) := ok_istore_n dX5_count_33 rfl
theorem kX5_count_34 (z : XKT) : XOi z xInf Y_X5_count 34 (.inl (i_push (vI 0) 35)) := ok_iconst dX5_count_34 rfl
theorem kX5_count_35 (z : XKT) : XOi z xInf Y_X5_count 35 (.inl (i_istore 4 37)) := ok_istore dX5_count_35
theorem kX5_count_37 (z : XKT) : XOi z xInf Y_X5_count 37 (.inl (i_iload 4 39)) := ok_iload dX5_count_37
theorem kX5_count_39 (z : XKT) : XOi z xInf Y_X5_count 39 (.inl (i_aload 0 40)) := ok_aload_n dX5_count_39 rfl
theorem kX5_count_40 (z : XKT) : XOi z xInf Y_X5_count 40 (.inl (i_getr [4] 40 43)) := ok_getr dX5_count_40 q2517 (List.forall_mem_cons.mpr ⟨⟨_, _, _, _, fd_40_4_0⟩, (fun _ h => absurd h List.not_mem_nil)⟩)
theorem kX5_count_43 (z : XKT) : XOi z xInf Y_X5_count 43 (.inl (i_push (vI 5) 44)) := ok_iconst dX5_count_43 rfl
theorem kX5_count_44 (z : XKT) : XOi z xInf Y_X5_count 44 (.inl (i_ald 1000 45)) := ok_iald dX5_count_44
theorem kX5_count_45 (z : XKT) : XOi z xInf Y_X5_count 45 (.inl (i_icmp (fun x y => y ≤ x) 83 48)) := ok_icmp_ge dX5_count_45 rfl
theorem kX5_count_48 (z : XKT) : XOi z xInf Y_X5_count 48 (.inl (i_iload 3 49)) := ok_iload_n dX5_count_48 rfl
theorem kX5_count_49 (z : XKT) : XOi z xInf Y_X5_count 49 (.inl (i_aload 0 50)) := ok_aload_n dX5_count_49 rfl
theorem kX5_count_50 (z : XKT) : XOi z xInf Y_X5_count 50 (.inl (i_iload 4 52)) := ok_iload dX5_count_50
theorem kX5_count_52 (z : XKT) : XOi z xInf Y_X5_count 52 (.inl (i_push (vI 0) 53)) := ok_iconst dX5_count_52 rfl
theorem kX5_count_53 (z : XKT) : XOi z xInf Y_X5_count 53 (.inr (.inl (56, g_virt [(4, 253)] 2))) := show XOkC z xInf Y_X5_count 53 56 (g_virt [(4, 253)] 2) from okc_V (q := Y_X5_count) (List.forall_mem_cons.mpr ⟨(show XOkV z xInf Y_X5_count 53 56 2 (4, 253) from okv_V (q := Y_X5_count) (q1 := Y_X5_of) Z_X5_of rfl (by decide) ⟨by decide, by decide, Or.inl ⟨_, _, (List.mem_of_getElem? (l := xCls) (i := 3) rfl)⟩⟩ dX5_count_53 q2622 q2624 qs50 q153 q2625 hy_265), (fun _ h => absurd h List.not_mem_nil)⟩)
theorem kX5_count_56 (z : XKT) : XOi z xInf Y_X5_count 56 (.inl (i_iload 1 57)) := ok_iload_n dX5_count_56 rfl
theorem kX5_count_57 (z : XKT) : XOi z xInf Y_X5_count 57 (.inl (i_icmp (fun x y => ¬ x = y) 74 60)) := ok_icmp_ne dX5_count_57 rfl
theorem kX5_count_60 (z : XKT) : XOi z xInf Y_X5_count 60 (.inl (i_aload 0 61)) := ok_aload_n dX5_count_60 rfl
theorem kX5_count_61 (z : XKT) : XOi z xInf Y_X5_count 61 (.inl (i_iload 4 63)) := ok_iload dX5_count_61
theorem kX5_count_63 (z : XKT) : XOi z xInf Y_X5_count 63 (.inl (i_iload 2 64)) := ok_iload_n dX5_count_63 rfl
theorem kX5_count_64 (z : XKT) : XOi z xInf Y_X5_count 64 (.inr (.inl (67, g_virt [(4, 233)] 2))) := show XOkC z xInf Y_X5_count 64 67 (g_virt [(4, 233)] 2) from okc_V (q := Y_X5_count) (List.forall_mem_cons.mpr ⟨(show XOkV z xInf Y_X5_count 64 67 2 (4, 233) from okv_V (q := Y_X5_count) (q1 := Y_X5_isIn) Z_X5_isIn rfl (by decide) ⟨by decide, by decide, Or.inl ⟨_, _, (List.mem_of_getElem? (l := xCls) (i := 3) rfl)⟩⟩ dX5_count_64 q2618 q2620 qs49 q153 q2621 hy_270), (fun _ h => absurd h List.not_mem_nil)⟩)
theorem kX5_count_67 (z : XKT) : XOi z xInf Y_X5_count 67 (.inl (i_if (fun x => x = 0) 74 70)) := ok_if_eq dX5_count_67 rfl
theorem kX5_count_70 (z : XKT) : XOi z xInf Y_X5_count 70 (.inl (i_push (vI 1) 71)) := ok_iconst dX5_count_70 rfl
theorem kX5_count_71 (z : XKT) : XOi z xInf Y_X5_count 71 (.inl (i_goto 75)) := ok_goto dX5_count_71 rfl
theorem kX5_count_74 (z : XKT) : XOi z xInf Y_X5_count 74 (.inl (i_push (vI 0) 75)) := ok_iconst dX5_count_74 rfl
theorem kX5_count_75 (z : XKT) : XOi z xInf Y_X5_count 75 (.inl (i_bin (fun x y => x + y) 76)) := ok_iadd dX5_count_75
theorem kX5_count_76 (z : XKT) : XOi z xInf Y_X5_count 76 (.inl (i_istore 3 77)) := ok_istore_n dX5_count_76 rfl
theorem kX5_count_77 (z : XKT) : XOi z xInf Y_X5_count 77 (.inl (i_iinc 4 1 80)) := ok_iinc dX5_count_77 rfl
theorem kX5_count_80 (z : XKT) : XOi z xInf Y_X5_count 80 (.inl (i_goto 37)) := ok_goto dX5_count_80 rfl
theorem kX5_count_83 (z : XKT) : XOi z xInf Y_X5_count 83 (.inl (i_iload 3 84)) := ok_iload_n dX5_count_83 rfl
theorem kX5_count_84 (z : XKT) : XOi z xInf Y_X5_count 84 (.inr (.inr (.inl (r_i .int)))) := show XOkR Y_X5_count 84 ((r_i .int)) from okr_i (q := Y_X5_count) (ty := .int) rfl rfl dX5_count_84
theorem o_X5_count (z : XKT) : XMi z xInf Y_X5_count := XMi.mk9 (T := T_X5_count z) rfl (⟨kX5_count_0 z, ⟨kX5_count_1 z, ⟨kX5_count_2 z, ⟨kX5_count_3 z, ⟨kX5_count_4 z, ⟨kX5_count_7 z, ⟨kX5_count_10 z, ⟨kX5_count_11 z, ⟨kX5_count_12 z, ⟨kX5_count_13 z, ⟨kX5_count_16 z, ⟨kX5_count_19 z, ⟨kX5_count_20 z, ⟨kX5_count_23 z, ⟨kX5_count_24 z, ⟨kX5_count_27 z, ⟨kX5_count_30 z, ⟨kX5_count_31 z, ⟨kX5_count_32 z, ⟨kX5_count_33 z, ⟨kX5_count_34 z, ⟨kX5_count_35 z, ⟨kX5_count_37 z, ⟨kX5_count_39 z, ⟨kX5_count_40 z, ⟨kX5_count_43 z, ⟨kX5_count_44 z, ⟨kX5_count_45 z, ⟨kX5_count_48 z, ⟨kX5_count_49 z, ⟨kX5_count_50 z, ⟨kX5_count_52 z, ⟨kX5_count_53 z, ⟨kX5_count_56 z, ⟨kX5_count_57 z, ⟨kX5_count_60 z, ⟨kX5_count_61 z, ⟨kX5_count_63 z, ⟨kX5_count_64 z, ⟨kX5_count_67 z, ⟨kX5_count_70 z, ⟨kX5_count_71 z, ⟨kX5_count_74 z, ⟨kX5_count_75 z, ⟨kX5_count_76 z, ⟨kX5_count_77 z, ⟨kX5_count_80 z, ⟨kX5_count_83 z, ⟨kX5_count_84 z, trivial⟩⟩⟩⟩⟩⟩⟩⟩⟩⟩⟩⟩⟩⟩⟩⟩⟩⟩⟩⟩⟩⟩⟩⟩⟩⟩⟩⟩⟩⟩⟩⟩⟩⟩⟩⟩⟩⟩⟩⟩⟩⟩⟩⟩⟩⟩⟩⟩⟩) (hd_X5_count z) rfl rfl (by decide +kernel)
theorem hd_X5_countDry (z : XKT) : XHd z Y_X5_countDry := xHd_none rfl (xhd0 rfl)
theorem kX5_countDry_0 (z : XKT) : XOi z xInf Y_X5_countDry 0 (.inl (i_push (vI 0) 1)) := ok_iconst dX5_countDry_0 rfl
theorem kX5_countDry_1 (z : XKT) : XOi z xInf Y_X5_countDry 1 (.inl (i_istore 2 2)) := ok_istore_n dX5_countDry_1 rfl
theorem kX5_countDry_2 (z : XKT) : XOi z xInf Y_X5_countDry 2 (.inl (i_push (vI 1) 3)) := ok_iconst dX5_countDry_2 rfl
theorem kX5_countDry_3 (z : XKT) : XOi z xInf Y_X5_countDry 3 (.inl (i_istore 3 4)) := ok_istore_n dX5_countDry_3 rfl
theorem kX5_countDry_4 (z : XKT) : XOi z xInf Y_X5_countDry 4 (.inl (i_iload 3 5)) := ok_iload_n dX5_countDry_4 rfl
theorem kX5_countDry_5 (z : XKT) : XOi z xInf Y_X5_countDry 5 (.inl (i_aload 0 6)) := ok_aload_n dX5_countDry_5 rfl
theorem kX5_countDry_6 (z : XKT) : XOi z xInf Y_X5_countDry 6 (.inl (i_getr [4] 40 9)) := ok_getr dX5_countDry_6 q2517 (List.forall_mem_cons.mpr ⟨⟨_, _, _, _, fd_40_4_0⟩, (fun _ h => absurd h List.not_mem_nil)⟩)
theorem kX5_countDry_9 (z : XKT) : XOi z xInf Y_X5_countDry 9 (.inl (i_push (vI 1) 10)) := ok_iconst dX5_countDry_9 rfl
theorem kX5_countDry_10 (z : XKT) : XOi z xInf Y_X5_countDry 10 (.inl (i_ald 1000 11)) := ok_iald dX5_countDry_10
theorem kX5_countDry_11 (z : XKT) : XOi z xInf Y_X5_countDry 11 (.inl (i_icmp (fun x y => y < x) 44 14)) := ok_icmp_gt dX5_countDry_11 rfl
theorem kX5_countDry_14 (z : XKT) : XOi z xInf Y_X5_countDry 14 (.inl (i_iload 2 15)) := ok_iload_n dX5_countDry_14 rfl
theorem kX5_countDry_15 (z : XKT) : XOi z xInf Y_X5_countDry 15 (.inl (i_aload 0 16)) := ok_aload_n dX5_countDry_15 rfl
theorem kX5_countDry_16 (z : XKT) : XOi z xInf Y_X5_countDry 16 (.inl (i_iload 1 17)) := ok_iload_n dX5_countDry_16 rfl
theorem kX5_countDry_17 (z : XKT) : XOi z xInf Y_X5_countDry 17 (.inl (i_aload 0 18)) := ok_aload_n dX5_countDry_17 rfl
theorem kX5_countDry_18 (z : XKT) : XOi z xInf Y_X5_countDry 18 (.inl (i_getr [4] 40 21)) := ok_getr dX5_countDry_18 q2517 (List.forall_mem_cons.mpr ⟨⟨_, _, _, _, fd_40_4_0⟩, (fun _ h => absurd h List.not_mem_nil)⟩)
theorem kX5_countDry_21 (z : XKT) : XOi z xInf Y_X5_countDry 21 (.inl (i_push (vI 0) 22)) := ok_iconst dX5_countDry_21 rfl
theorem kX5_countDry_22 (z : XKT) : XOi z xInf Y_X5_countDry 22 (.inl (i_ald 1000 23)) := ok_iald dX5_countDry_22
theorem kX5_countDry_23 (z : XKT) : XOi z xInf Y_X5_countDry 23 (.inl (i_iload 3 24)) := ok_iload_n dX5_countDry_23 rfl
theorem kX5_countDry_24 (z : XKT) : XOi z xInf Y_X5_countDry 24 (.inl (i_bin (fun x y => x + y) 25)) := ok_iadd dX5_countDry_24
theorem kX5_countDry_25 (z : XKT) : XOi z xInf Y_X5_countDry 25 (.inr (.inl (28, g_virt [(4, 230)] 2))) := show XOkC z xInf Y_X5_countDry 25 28 (g_virt [(4, 230)] 2) from okc_V (q := Y_X5_countDry) (List.forall_mem_cons.mpr ⟨(show XOkV z xInf Y_X5_countDry 25 28 2 (4, 230) from okv_V (q := Y_X5_countDry) (q1 := Y_X5_isDry) Z_X5_isDry rfl (by decide) ⟨by decide, by decide, Or.inl ⟨_, _, (List.mem_of_getElem? (l := xCls) (i := 3) rfl)⟩⟩ dX5_countDry_25 q2638 q2640 qs54 q153 q2641 hy_271), (fun _ h => absurd h List.not_mem_nil)⟩)
theorem kX5_countDry_28 (z : XKT) : XOi z xInf Y_X5_countDry 28 (.inl (i_if (fun x => x = 0) 35 31)) := ok_if_eq dX5_countDry_28 rfl
theorem kX5_countDry_31 (z : XKT) : XOi z xInf Y_X5_countDry 31 (.inl (i_push (vI 1) 32)) := ok_iconst dX5_countDry_31 rfl
theorem kX5_countDry_32 (z : XKT) : XOi z xInf Y_X5_countDry 32 (.inl (i_goto 36)) := ok_goto dX5_countDry_32 rfl
theorem kX5_countDry_35 (z : XKT) : XOi z xInf Y_X5_countDry 35 (.inl (i_push (vI 0) 36)) := ok_iconst dX5_countDry_35 rfl
theorem kX5_countDry_36 (z : XKT) : XOi z xInf Y_X5_countDry 36 (.inl (i_bin (fun x y => x + y) 37)) := ok_iadd dX5_countDry_36
theorem kX5_countDry_37 (z : XKT) : XOi z xInf Y_X5_countDry 37 (.inl (i_istore 2 38)) := ok_istore_n dX5_countDry_37 rfl
theorem kX5_countDry_38 (z : XKT) : XOi z xInf Y_X5_countDry 38 (.inl (i_iinc 3 1 41)) := ok_iinc dX5_countDry_38 rfl
theorem kX5_countDry_41 (z : XKT) : XOi z xInf Y_X5_countDry 41 (.inl (i_goto 4)) := ok_goto dX5_countDry_41 rfl
theorem kX5_countDry_44 (z : XKT) : XOi z xInf Y_X5_countDry 44 (.inl (i_iload 2 45)) := ok_iload_n dX5_countDry_44 rfl
theorem kX5_countDry_45 (z : XKT) : XOi z xInf Y_X5_countDry 45 (.inr (.inr (.inl (r_i .int)))) := show XOkR Y_X5_countDry 45 ((r_i .int)) from okr_i (q := Y_X5_countDry) (ty := .int) rfl rfl dX5_countDry_45
theorem o_X5_countDry (z : XKT) : XMi z xInf Y_X5_countDry := XMi.mk9 (T := T_X5_countDry z) rfl (⟨kX5_countDry_0 z, ⟨kX5_countDry_1 z, ⟨kX5_countDry_2 z, ⟨kX5_countDry_3 z, ⟨kX5_countDry_4 z, ⟨kX5_countDry_5 z, ⟨kX5_countDry_6 z, ⟨kX5_countDry_9 z, ⟨kX5_countDry_10 z, ⟨kX5_countDry_11 z, ⟨kX5_countDry_14 z, ⟨kX5_countDry_15 z, ⟨kX5_countDry_16 z, ⟨kX5_countDry_17 z, ⟨kX5_countDry_18 z, ⟨kX5_countDry_21 z, ⟨kX5_countDry_22 z, ⟨kX5_countDry_23 z, ⟨kX5_countDry_24 z, ⟨kX5_countDry_25 z, ⟨kX5_countDry_28 z, ⟨kX5_countDry_31 z, ⟨kX5_countDry_32 z, ⟨kX5_countDry_35 z, ⟨kX5_countDry_36 z, ⟨kX5_countDry_37 z, ⟨kX5_countDry_38 z, ⟨kX5_countDry_41 z, ⟨kX5_countDry_44 z, ⟨kX5_countDry_45 z, trivial⟩⟩⟩⟩⟩⟩⟩⟩⟩⟩⟩⟩⟩⟩⟩⟩⟩⟩⟩⟩⟩⟩⟩⟩⟩⟩⟩⟩⟩⟩) (hd_X5_countDry z) rfl rfl (by decide +kernel)
theorem hd_X5_countDryNow (z : XKT) : XHd z Y_X5_countDryNow := xHd_none rfl (xhd0 rfl)
theorem kX5_countDryNow_0 (z : XKT) : XOi z xInf Y_X5_countDryNow 0 (.inl (i_push (vI 0) 1)) := ok_iconst dX5_countDryNow_0 rfl
theorem kX5_countDryNow_1 (z : XKT) : XOi z xInf Y_X5_countDryNow 1 (.inl (i_istore 1 2)) := ok_istore_n dX5_countDryNow_1 rfl
theorem kX5_countDryNow_2 (z : XKT) : XOi z xInf Y_X5_countDryNow 2 (.inl (i_push (vI 0) 3)) := ok_iconst dX5_countDryNow_2 rfl
theorem kX5_countDryNow_3 (z : XKT) : XOi z xInf Y_X5_countDryNow 3 (.inl (i_istore 2 4)) := ok_istore_n dX5_countDryNow_3 rfl
theorem kX5_countDryNow_4 (z : XKT) : XOi z xInf Y_X5_countDryNow 4 (.inl (i_iload 2 5)) := ok_iload_n dX5_countDryNow_4 rfl
theorem kX5_countDryNow_5 (z : XKT) : XOi z xInf Y_X5_countDryNow 5 (.inl (i_aload 0 6)) := ok_aload_n dX5_countDryNow_5 rfl
theorem kX5_countDryNow_6 (z : XKT) : XOi z xInf Y_X5_countDryNow 6 (.inl (i_getr [4] 40 9)) := ok_getr dX5_countDryNow_6 q2517 (List.forall_mem_cons.mpr ⟨⟨_, _, _, _, fd_40_4_0⟩, (fun _ h => absurd h List.not_mem_nil)⟩)
theorem kX5_countDryNow_9 (z : XKT) : XOi z xInf Y_X5_countDryNow 9 (.inl (i_push (vI 5) 10)) := ok_iconst dX5_countDryNow_9 rfl
theorem kX5_countDryNow_10 (z : XKT) : XOi z xInf Y_X5_countDryNow 10 (.inl (i_ald 1000 11)) := ok_iald dX5_countDryNow_10
theorem kX5_countDryNow_11 (z : XKT) : XOi z xInf Y_X5_countDryNow 11 (.inl (i_icmp (fun x y => y ≤ x) 51 14)) := ok_icmp_ge dX5_countDryNow_11 rfl
theorem kX5_countDryNow_14 (z : XKT) : XOi z xInf Y_X5_countDryNow 14 (.inl (i_iload 1 15)) := ok_iload_n dX5_countDryNow_14 rfl
theorem kX5_countDryNow_15 (z : XKT) : XOi z xInf Y_X5_countDryNow 15 (.inl (i_aload 0 16)) := ok_aload_n dX5_countDryNow_15 rfl
theorem kX5_countDryNow_16 (z : XKT) : XOi z xInf Y_X5_countDryNow 16 (.inl (i_iload 2 17)) := ok_iload_n dX5_countDryNow_16 rfl
theorem kX5_countDryNow_17 (z : XKT) : XOi z xInf Y_X5_countDryNow 17 (.inl (i_push (vI 0) 18)) := ok_iconst dX5_countDryNow_17 rfl
theorem kX5_countDryNow_18 (z : XKT) : XOi z xInf Y_X5_countDryNow 18 (.inr (.inl (21, g_virt [(4, 233)] 2))) := show XOkC z xInf Y_X5_countDryNow 18 21 (g_virt [(4, 233)] 2) from okc_V (q := Y_X5_countDryNow) (List.forall_mem_cons.mpr ⟨(show XOkV z xInf Y_X5_countDryNow 18 21 2 (4, 233) from okv_V (q := Y_X5_countDryNow) (q1 := Y_X5_isIn) Z_X5_isIn rfl (by decide) ⟨by decide, by decide, Or.inl ⟨_, _, (List.mem_of_getElem? (l := xCls) (i := 3) rfl)⟩⟩ dX5_countDryNow_18 q2618 q2620 qs49 q153 q2621 hy_270), (fun _ h => absurd h List.not_mem_nil)⟩)
theorem kX5_countDryNow_21 (z : XKT) : XOi z xInf Y_X5_countDryNow 21 (.inl (i_if (fun x => x = 0) 42 24)) := ok_if_eq dX5_countDryNow_21 rfl
theorem kX5_countDryNow_24 (z : XKT) : XOi z xInf Y_X5_countDryNow 24 (.inl (i_aload 0 25)) := ok_aload_n dX5_countDryNow_24 rfl
theorem kX5_countDryNow_25 (z : XKT) : XOi z xInf Y_X5_countDryNow 25 (.inl (i_iload 2 26)) := ok_iload_n dX5_countDryNow_25 rfl
theorem kX5_countDryNow_26 (z : XKT) : XOi z xInf Y_X5_countDryNow 26 (.inl (i_aload 0 27)) := ok_aload_n dX5_countDryNow_26 rfl
theorem kX5_countDryNow_27 (z : XKT) : XOi z xInf Y_X5_countDryNow 27 (.inl (i_getr [4] 40 30)) := ok_getr dX5_countDryNow_27 q2517 (List.forall_mem_cons.mpr ⟨⟨_, _, _, _, fd_40_4_0⟩, (fun _ h => absurd h List.not_mem_nil)⟩)
theorem kX5_countDryNow_30 (z : XKT) : XOi z xInf Y_X5_countDryNow 30 (.inl (i_push (vI 0) 31)) := ok_iconst dX5_countDryNow_30 rfl
theorem kX5_countDryNow_31 (z : XKT) : XOi z xInf Y_X5_countDryNow 31 (.inl (i_ald 1000 32)) := ok_iald dX5_countDryNow_31
theorem kX5_countDryNow_32 (z : XKT) : XOi z xInf Y_X5_countDryNow 32 (.inr (.inl (35, g_virt [(4, 230)] 2))) := show XOkC z xInf Y_X5_countDryNow 32 35 (g_virt [(4, 230)] 2) from okc_V (q := Y_X5_countDryNow) (List.forall_mem_cons.mpr ⟨(show XOkV z xInf Y_X5_countDryNow 32 35 2 (4, 230) from okv_V (q := Y_X5_countDryNow) (q1 := Y_X5_isDry) Z_X5_isDry rfl (by decide) ⟨by decide, by decide, Or.inl ⟨_, _, (List.mem_of_getElem? (l := xCls) (i := 3) rfl)⟩⟩ dX5_countDryNow_32 q2638 q2640 qs54 q153 q2641 hy_271), (fun _ h => absurd h List.not_mem_nil)⟩)
theorem kX5_countDryNow_35 (z : XKT) : XOi z xInf Y_X5_countDryNow 35 (.inl (i_if (fun x => x = 0) 42 38)) := ok_if_eq dX5_countDryNow_35 rfl
theorem kX5_countDryNow_38 (z : XKT) : XOi z xInf Y_X5_countDryNow 38 (.inl (i_push (vI 1) 39)) := ok_iconst dX5_countDryNow_38 rfl
theorem kX5_countDryNow_39 (z : XKT) : XOi z xInf Y_X5_countDryNow 39 (.inl (i_goto 43)) := ok_goto dX5_countDryNow_39 rfl
theorem kX5_countDryNow_42 (z : XKT) : XOi z xInf Y_X5_countDryNow 42 (.inl (i_push (vI 0) 43)) := ok_iconst dX5_countDryNow_42 rfl
theorem kX5_countDryNow_43 (z : XKT) : XOi z xInf Y_X5_countDryNow 43 (.inl (i_bin (fun x y => x + y) 44)) := ok_iadd dX5_countDryNow_43
theorem kX5_countDryNow_44 (z : XKT) : XOi z xInf Y_X5_countDryNow 44 (.inl (i_istore 1 45)) := ok_istore_n dX5_countDryNow_44 rfl
theorem kX5_countDryNow_45 (z : XKT) : XOi z xInf Y_X5_countDryNow 45 (.inl (i_iinc 2 1 48)) := ok_iinc dX5_countDryNow_45 rfl
theorem kX5_countDryNow_48 (z : XKT) : XOi z xInf Y_X5_countDryNow 48 (.inl (i_goto 4)) := ok_goto dX5_countDryNow_48 rfl
theorem kX5_countDryNow_51 (z : XKT) : XOi z xInf Y_X5_countDryNow 51 (.inl (i_iload 1 52)) := ok_iload_n dX5_countDryNow_51 rfl
theorem kX5_countDryNow_52 (z : XKT) : XOi z xInf Y_X5_countDryNow 52 (.inr (.inr (.inl (r_i .int)))) := show XOkR Y_X5_countDryNow 52 ((r_i .int)) from okr_i (q := Y_X5_countDryNow) (ty := .int) rfl rfl dX5_countDryNow_52
theorem o_X5_countDryNow (z : XKT) : XMi z xInf Y_X5_countDryNow := XMi.mk9 (T := T_X5_countDryNow z) rfl (⟨kX5_countDryNow_0 z, ⟨kX5_countDryNow_1 z, ⟨kX5_countDryNow_2 z, ⟨kX5_countDryNow_3 z, ⟨kX5_countDryNow_4 z, ⟨kX5_countDryNow_5 z, ⟨kX5_countDryNow_6 z, ⟨kX5_countDryNow_9 z, ⟨kX5_countDryNow_10 z, ⟨kX5_countDryNow_11 z, ⟨kX5_countDryNow_14 z, ⟨kX5_countDryNow_15 z, ⟨kX5_countDryNow_16 z, ⟨kX5_countDryNow_17 z, ⟨kX5_countDryNow_18 z, ⟨kX5_countDryNow_21 z, ⟨kX5_countDryNow_24 z, ⟨kX5_countDryNow_25 z, ⟨kX5_countDryNow_26 z, ⟨kX5_countDryNow_27 z, ⟨kX5_countDryNow_30 z, ⟨kX5_countDryNow_31 z, ⟨kX5_countDryNow_32 z, ⟨kX5_countDryNow_35 z, ⟨kX5_countDryNow_38 z, ⟨kX5_countDryNow_39 z, ⟨kX5_countDryNow_42 z, ⟨kX5_countDryNow_43 z, ⟨kX5_countDryNow_44 z, ⟨kX5_countDryNow_45 z, ⟨kX5_countDryNow_48 z, ⟨kX5_countDryNow_51 z, ⟨kX5_countDryNow_52 z, trivial⟩⟩⟩⟩⟩⟩⟩⟩⟩⟩⟩⟩⟩⟩⟩⟩⟩⟩⟩⟩⟩⟩⟩⟩⟩⟩⟩⟩⟩⟩⟩⟩⟩) (hd_X5_countDryNow z) rfl rfl (by decide +kernel)
theorem hd_X5_countFree (z : XKT) : XHd z Y_X5_countFree := xHd_none rfl (xhd0 rfl)
theorem kX5_countFree_0 (z : XKT) : XOi z xInf Y_X5_countFree 0 (.inl (i_push (vI 0) 1)) := ok_iconst dX5_countFree_0 rfl
theorem kX5_countFree_1 (z : XKT) : XOi z xInf Y_X5_countFree 1 (.inl (i_istore 1 2)) := ok_istore_n dX5_countFree_1 rfl
theorem kX5_countFree_2 (z : XKT) : XOi z xInf Y_X5_countFree 2 (.inl (i_push (vI 0) 3)) := ok_iconst dX5_countFree_2 rfl
theorem kX5_countFree_3 (z : XKT) : XOi z xInf Y_X5_countFree 3 (.inl (i_istore 2 4)) := ok_istore_n dX5_countFree_3 rfl
theorem kX5_countFree_4 (z : XKT) : XOi z xInf Y_X5_countFree 4 (.inl (i_iload 2 5)) := ok_iload_n dX5_countFree_4 rfl
theorem kX5_countFree_5 (z : XKT) : XOi z xInf Y_X5_countFree 5 (.inl (i_aload 0 6)) := ok_aload_n dX5_countFree_5 rfl
theorem kX5_countFree_6 (z : XKT) : XOi z xInf Y_X5_countFree 6 (.inl (i_getr [4] 40 9)) := ok_getr dX5_countFree_6 q2517 (List.forall_mem_cons.mpr ⟨⟨_, _, _, _, fd_40_4_0⟩, (fun _ h => absurd h List.not_mem_nil)⟩)
theorem kX5_countFree_9 (z : XKT) : XOi z xInf Y_X5_countFree 9 (.inl (i_push (vI 4) 10)) := ok_iconst dX5_countFree_9 rfl
theorem kX5_countFree_10 (z : XKT) : XOi z xInf Y_X5_countFree 10 (.inl (i_ald 1000 11)) := ok_iald dX5_countFree_10
theorem kX5_countFree_11 (z : XKT) : XOi z xInf Y_X5_countFree 11 (.inl (i_icmp (fun x y => y ≤ x) 38 14)) := ok_icmp_ge dX5_countFree_11 rfl
theorem kX5_countFree_14 (z : XKT) : XOi z xInf Y_X5_countFree 14 (.inl (i_iload 1 15)) := ok_iload_n dX5_countFree_14 rfl
theorem kX5_countFree_15 (z : XKT) : XOi z xInf Y_X5_countFree 15 (.inl (i_aload 0 16)) := ok_aload_n dX5_countFree_15 rfl
theorem kX5_countFree_16 (z : XKT) : XOi z xInf Y_X5_countFree 16 (.inl (i_iload 2 17)) := ok_iload_n dX5_countFree_16 rfl
theorem kX5_countFree_17 (z : XKT) : XOi z xInf Y_X5_countFree 17 (.inl (i_push (vI 1) 18)) := ok_iconst dX5_countFree_17 rfl
theorem kX5_countFree_18 (z : XKT) : XOi z xInf Y_X5_countFree 18 (.inr (.inl (21, g_virt [(4, 254)] 2))) := show XOkC z xInf Y_X5_countFree 18 21 (g_virt [(4, 254)] 2) from okc_V (q := Y_X5_countFree) (List.forall_mem_cons.mpr ⟨(show XOkV z xInf Y_X5_countFree 18 21 2 (4, 254) from okv_V (q := Y_X5_countFree) (q1 := Y_X5_ofFinder) Z_X5_ofFinder rfl (by decide) ⟨by decide, by decide, Or.inl ⟨_, _, (List.mem_of_getElem? (l := xCls) (i := 3) rfl)⟩⟩ dX5_countFree_18 q2630 q2632 qs52 q153 q2633 hy_267), (fun _ h => absurd h List.not_mem_nil)⟩)
theorem kX5_countFree_21 (z : XKT) : XOi z xInf Y_X5_countFree 21 (.inl (i_push (vI (-1)) 22)) := ok_iconst dX5_countFree_21 rfl
theorem kX5_countFree_22 (z : XKT) : XOi z xInf Y_X5_countFree 22 (.inl (i_icmp (fun x y => ¬ x = y) 29 25)) := ok_icmp_ne dX5_countFree_22 rfl
theorem kX5_countFree_25 (z : XKT) : XOi z xInf Y_X5_countFree 25 (.inl (i_push (vI 1) 26)) := ok_iconst dX5_countFree_25 rfl
theorem kX5_countFree_26 (z : XKT) : XOi z xInf Y_X5_countFree 26 (.inl (i_goto 30)) := ok_goto dX5_countFree_26 rfl
theorem kX5_countFree_29 (z : XKT) : XOi z xInf Y_X5_countFree 29 (.inl (i_push (vI 0) 30)) := ok_iconst dX5_countFree_29 rfl
theorem kX5_countFree_30 (z : XKT) : XOi z xInf Y_X5_countFree 30 (.inl (i_bin (fun x y => x + y) 31)) := ok_iadd dX5_countFree_30
theorem kX5_countFree_31 (z : XKT) : XOi z xInf Y_X5_countFree 31 (.inl (i_istore 1 32)) := ok_istore_n dX5_countFree_31 rfl
theorem kX5_countFree_32 (z : XKT) : XOi z xInf Y_X5_countFree 32 (.inl (i_iinc 2 1 35)) := ok_iinc dX5_countFree_32 rfl
theorem kX5_countFree_35 (z : XKT) : XOi z xInf Y_X5_countFree 35 (.inl (i_goto 4)) := ok_goto dX5_countFree_35 rfl
theorem kX5_countFree_38 (z : XKT) : XOi z xInf Y_X5_countFree 38 (.inl (i_iload 1 39)) := ok_iload_n dX5_countFree_38 rfl
theorem kX5_countFree_39 (z : XKT) : XOi z xInf Y_X5_countFree 39 (.inr (.inr (.inl (r_i .int)))) := show XOkR Y_X5_countFree 39 ((r_i .int)) from okr_i (q := Y_X5_countFree) (ty := .int) rfl rfl dX5_countFree_39
theorem o_X5_countFree (z : XKT) : XMi z xInf Y_X5_countFree := XMi.mk9 (T := T_X5_countFree z) rfl (⟨kX5_countFree_0 z, ⟨kX5_countFree_1 z, ⟨kX5_countFree_2 z, ⟨kX5_countFree_3 z, ⟨kX5_countFree_4 z, ⟨kX5_countFree_5 z, ⟨kX5_countFree_6 z, ⟨kX5_countFree_9 z, ⟨kX5_countFree_10 z, ⟨kX5_countFree_11 z, ⟨kX5_countFree_14 z, ⟨kX5_countFree_15 z, ⟨kX5_countFree_16 z, ⟨kX5_countFree_17 z, ⟨kX5_countFree_18 z, ⟨kX5_countFree_21 z, ⟨kX5_countFree_22 z, ⟨kX5_countFree_25 z, ⟨kX5_countFree_26 z, ⟨kX5_countFree_29 z, ⟨kX5_countFree_30 z, ⟨kX5_countFree_31 z, ⟨kX5_countFree_32 z, ⟨kX5_countFree_35 z, ⟨kX5_countFree_38 z, ⟨kX5_countFree_39 z, trivial⟩⟩⟩⟩⟩⟩⟩⟩⟩⟩⟩⟩⟩⟩⟩⟩⟩⟩⟩⟩⟩⟩⟩⟩⟩⟩) (hd_X5_countFree z) rfl rfl (by decide +kernel)
theorem hd_X5_countState (z : XKT) : XHd z Y_X5_countState := xHd_none rfl (xhd0 rfl)
theorem kX5_countState_0 (z : XKT) : XOi z xInf Y_X5_countState 0 (.inl (i_push (vI 0) 1)) := ok_iconst dX5_countState_0 rfl
theorem kX5_countState_1 (z : XKT) : XOi z xInf Y_X5_countState 1 (.inl (i_istore 2 2)) := ok_istore_n dX5_countState_1 rfl
theorem kX5_countState_2 (z : XKT) : XOi z xInf Y_X5_countState 2 (.inl (i_push (vI 0) 3)) := ok_iconst dX5_countState_2 rfl
theorem kX5_countState_3 (z : XKT) : XOi z xInf Y_X5_countState 3 (.inl (i_istore 3 4)) := ok_istore_n dX5_countState_3 rfl
theorem kX5_countState_4 (z : XKT) : XOi z xInf Y_X5_countState 4 (.inl (i_iload 3 5)) := ok_iload_n dX5_countState_4 rfl
theorem kX5_countState_5 (z : XKT) : XOi z xInf Y_X5_countState 5 (.inl (i_aload 0 6)) := ok_aload_n dX5_countState_5 rfl
theorem kX5_countState_6 (z : XKT) : XOi z xInf Y_X5_countState 6 (.inl (i_getr [4] 40 9)) := ok_getr dX5_countState_6 q2517 (List.forall_mem_cons.mpr ⟨⟨_, _, _, _, fd_40_4_0⟩, (fun _ h => absurd h List.not_mem_nil)⟩)
theorem kX5_countState_9 (z : XKT) : XOi z xInf Y_X5_countState 9 (.inl (i_push (vI 5) 10)) := ok_iconst dX5_countState_9 rfl
theorem kX5_countState_10 (z : XKT) : XOi z xInf Y_X5_countState 10 (.inl (i_ald 1000 11)) := ok_iald dX5_countState_10
theorem kX5_countState_11 (z : XKT) : XOi z xInf Y_X5_countState 11 (.inl (i_icmp (fun x y => y ≤ x) 37 14)) := ok_icmp_ge dX5_countState_11 rfl
theorem kX5_countState_14 (z : XKT) : XOi z xInf Y_X5_countState 14 (.inl (i_iload 2 15)) := ok_iload_n dX5_countState_14 rfl
theorem kX5_countState_15 (z : XKT) : XOi z xInf Y_X5_countState 15 (.inl (i_aload 0 16)) := ok_aload_n dX5_countState_15 rfl
theorem kX5_countState_16 (z : XKT) : XOi z xInf Y_X5_countState 16 (.inl (i_iload 3 17)) := ok_iload_n dX5_countState_16 rfl
theorem kX5_countState_17 (z : XKT) : XOi z xInf Y_X5_countState 17 (.inl (i_iload 1 18)) := ok_iload_n dX5_countState_17 rfl
theorem kX5_countState_18 (z : XKT) : XOi z xInf Y_X5_countState 18 (.inr (.inl (21, g_virt [(4, 233)] 2))) := show XOkC z xInf Y_X5_countState 18 21 (g_virt [(4, 233)] 2) from okc_V (q := Y_X5_countState) (List.forall_mem_cons.mpr ⟨(show XOkV z xInf Y_X5_countState 18 21 2 (4, 233) from okv_V (q := Y_X5_countState) (q1 := Y_X5_isIn) Z_X5_isIn rfl (by decide) ⟨by decide, by decide, Or.inl ⟨_, _, (List.mem_of_getElem? (l := xCls) (i := 3) rfl)⟩⟩ dX5_countState_18 q2618 q2620 qs49 q153 q2621 hy_270), (fun _ h => absurd h List.not_mem_nil)⟩)
theorem kX5_countState_21 (z : XKT) : XOi z xInf Y_X5_countState 21 (.inl (i_if (fun x => x = 0) 28 24)) := ok_if_eq dX5_countState_21 rfl
theorem kX5_countState_24 (z : XKT) : XOi z xInf Y_X5_countState 24 (.inl (i_push (vI 1) 25)) := ok_iconst dX5_countState_24 rfl
theorem kX5_countState_25 (z : XKT) : XOi z xInf Y_X5_countState 25 (.inl (i_goto 29)) := ok_goto dX5_countState_25 rfl
theorem kX5_countState_28 (z : XKT) : XOi z xInf Y_X5_countState 28 (.inl (i_push (vI 0) 29)) := ok_iconst dX5_countState_28 rfl
theorem kX5_countState_29 (z : XKT) : XOi z xInf Y_X5_countState 29 (.inl (i_bin (fun x y => x + y) 30)) := ok_iadd dX5_countState_29
theorem kX5_countState_30 (z : XKT) : XOi z xInf Y_X5_countState 30 (.inl (i_istore 2 31)) := ok_istore_n dX5_countState_30 rfl
theorem kX5_countState_31 (z : XKT) : XOi z xInf Y_X5_countState 31 (.inl (i_iinc 3 1 34)) := ok_iinc dX5_countState_31 rfl
theorem kX5_countState_34 (z : XKT) : XOi z xInf Y_X5_countState 34 (.inl (i_goto 4)) := ok_goto dX5_countState_34 rfl
theorem kX5_countState_37 (z : XKT) : XOi z xInf Y_X5_countState 37 (.inl (i_iload 2 38)) := ok_iload_n dX5_countState_37 rfl
theorem kX5_countState_38 (z : XKT) : XOi z xInf Y_X5_countState 38 (.inr (.inr (.inl (r_i .int)))) := show XOkR Y_X5_countState 38 ((r_i .int)) from okr_i (q := Y_X5_countState) (ty := .int) rfl rfl dX5_countState_38
theorem o_X5_countState (z : XKT) : XMi z xInf Y_X5_countState := XMi.mk9 (T := T_X5_countState z) rfl (⟨kX5_countState_0 z, ⟨kX5_countState_1 z, ⟨kX5_countState_2 z, ⟨kX5_countState_3 z, ⟨kX5_countState_4 z, ⟨kX5_countState_5 z, ⟨kX5_countState_6 z, ⟨kX5_countState_9 z, ⟨kX5_countState_10 z, ⟨kX5_countState_11 z, ⟨kX5_countState_14 z, ⟨kX5_countState_15 z, ⟨kX5_countState_16 z, ⟨kX5_countState_17 z, ⟨kX5_countState_18 z, ⟨kX5_countState_21 z, ⟨kX5_countState_24 z, ⟨kX5_countState_25 z, ⟨kX5_countState_28 z, ⟨kX5_countState_29 z, ⟨kX5_countState_30 z, ⟨kX5_countState_31 z, ⟨kX5_countState_34 z, ⟨kX5_countState_37 z, ⟨kX5_countState_38 z, trivial⟩⟩⟩⟩⟩⟩⟩⟩⟩⟩⟩⟩⟩⟩⟩⟩⟩⟩⟩⟩⟩⟩⟩⟩⟩) (hd_X5_countState z) rfl rfl (by decide +kernel)
theorem hd_X5_crewOf (z : XKT) : XHd z Y_X5_crewOf := xHd_none rfl (xhd0 rfl)
theorem kX5_crewOf_0 (z : XKT) : XOi z xInf Y_X5_crewOf 0 (.inl (i_aload 0 1)) := ok_aload_n dX5_crewOf_0 rfl
theorem kX5_crewOf_1 (z : XKT) : XOi z xInf Y_X5_crewOf 1 (.inl (i_iload 1 2)) := ok_iload_n dX5_crewOf_1 rfl
theorem kX5_crewOf_2 (z : XKT) : XOi z xInf Y_X5_crewOf 2 (.inl (i_push (vI 1) 3)) := ok_iconst dX5_crewOf_2 rfl
theorem kX5_crewOf_3 (z : XKT) : XOi z xInf Y_X5_crewOf 3 (.inr (.inl (6, g_virt [(4, 253)] 2))) := show XOkC z xInf Y_X5_crewOf 3 6 (g_virt [(4, 253)] 2) from okc_V (q := Y_X5_crewOf) (List.forall_mem_cons.mpr ⟨(show XOkV z xInf Y_X5_crewOf 3 6 2 (4, 253) from okv_V (q := Y_X5_crewOf) (q1 := Y_X5_of) Z_X5_of rfl (by decide) ⟨by decide, by decide, Or.inl ⟨_, _, (List.mem_of_getElem? (l := xCls) (i := 3) rfl)⟩⟩ dX5_crewOf_3 q2622 q2624 qs50 q153 q2625 hy_265), (fun _ h => absurd h List.not_mem_nil)⟩)
theorem kX5_crewOf_6 (z : XKT) : XOi z xInf Y_X5_crewOf 6 (.inl (i_aload 0 7)) := ok_aload_n dX5_crewOf_6 rfl
theorem kX5_crewOf_7 (z : XKT) : XOi z xInf Y_X5_crewOf 7 (.inl (i_iload 1 8)) := ok_iload_n dX5_crewOf_7 rfl
theorem kX5_crewOf_8 (z : XKT) : XOi z xInf Y_X5_crewOf 8 (.inl (i_iload 2 9)) := ok_iload_n dX5_crewOf_8 rfl
theorem kX5_crewOf_9 (z : XKT) : XOi z xInf Y_X5_crewOf 9 (.inr (.inl (12, g_virt [(4, 259)] 2))) := show XOkC z xInf Y_X5_crewOf 9 12 (g_virt [(4, 259)] 2) from okc_V (q := Y_X5_crewOf) (List.forall_mem_cons.mpr ⟨(show XOkV z xInf Y_X5_crewOf 9 12 2 (4, 259) from okv_V (q := Y_X5_crewOf) (q1 := Y_X5_ownerOf) Z_X5_ownerOf rfl (by decide) ⟨by decide, by decide, Or.inl ⟨_, _, (List.mem_of_getElem? (l := xCls) (i := 3) rfl)⟩⟩ dX5_crewOf_9 q2733 q2735 qs68 q153 q2736 hy_281), (fun _ h => absurd h List.not_mem_nil)⟩)
theorem kX5_crewOf_12 (z : XKT) : XOi z xInf Y_X5_crewOf 12 (.inl (i_bin (fun x y => x - y) 13)) := ok_isub dX5_crewOf_12
theorem kX5_crewOf_13 (z : XKT) : XOi z xInf Y_X5_crewOf 13 (.inl (i_aload 0 14)) := ok_aload_n dX5_crewOf_13 rfl
theorem kX5_crewOf_14 (z : XKT) : XOi z xInf Y_X5_crewOf 14 (.inl (i_iload 1 15)) := ok_iload_n dX5_crewOf_14 rfl
theorem kX5_crewOf_15 (z : XKT) : XOi z xInf Y_X5_crewOf 15 (.inl (i_iload 2 16)) := ok_iload_n dX5_crewOf_15 rfl
theorem kX5_crewOf_16 (z : XKT) : XOi z xInf Y_X5_crewOf 16 (.inr (.inl (19, g_virt [(4, 191)] 2))) := show XOkC z xInf Y_X5_crewOf 16 19 (g_virt [(4, 191)] 2) from okc_V (q := Y_X5_crewOf) (List.forall_mem_cons.mpr ⟨(show XOkV z xInf Y_X5_crewOf 16 19 2 (4, 191) from okv_V (q := Y_X5_crewOf) (q1 := Y_X5_crownOf) Z_X5_crownOf rfl (by decide) ⟨by decide, by decide, Or.inl ⟨_, _, (List.mem_of_getElem? (l := xCls) (i := 3) rfl)⟩⟩ dX5_crewOf_16 q2741 q2743 qs70 q153 q2744 hy_282), (fun _ h => absurd h List.not_mem_nil)⟩)
theorem kX5_crewOf_19 (z : XKT) : XOi z xInf Y_X5_crewOf 19 (.inl (i_bin (fun x y => x - y) 20)) := ok_isub dX5_crewOf_19
theorem kX5_crewOf_20 (z : XKT) : XOi z xInf Y_X5_crewOf 20 (.inr (.inr (.inl (r_i .int)))) := show XOkR Y_X5_crewOf 20 ((r_i .int)) from okr_i (q := Y_X5_crewOf) (ty := .int) rfl rfl dX5_crewOf_20
theorem o_X5_crewOf (z : XKT) : XMi z xInf Y_X5_crewOf := XMi.mk9 (T := T_X5_crewOf z) rfl (⟨kX5_crewOf_0 z, ⟨kX5_crewOf_1 z, ⟨kX5_crewOf_2 z, ⟨kX5_crewOf_3 z, ⟨kX5_crewOf_6 z, ⟨kX5_crewOf_7 z, ⟨kX5_crewOf_8 z, ⟨kX5_crewOf_9 z, ⟨kX5_crewOf_12 z, ⟨kX5_crewOf_13 z, ⟨kX5_crewOf_14 z, ⟨kX5_crewOf_15 z, ⟨kX5_crewOf_16 z, ⟨kX5_crewOf_19 z, ⟨kX5_crewOf_20 z, trivial⟩⟩⟩⟩⟩⟩⟩⟩⟩⟩⟩⟩⟩⟩⟩) (hd_X5_crewOf z) rfl rfl (by decide +kernel)
theorem hd_X5_crewsWith (z : XKT) : XHd z Y_X5_crewsWith := xHd_none rfl (xhd0 rfl)
theorem kX5_crewsWith_0 (z : XKT) : XOi z xInf Y_X5_crewsWith 0 (.inl (i_push (vI 0) 1)) := ok_iconst dX5_crewsWith_0 rfl
theorem kX5_crewsWith_1 (z : XKT) : XOi z xInf Y_X5_crewsWith 1 (.inl (i_istore 2 2)) := ok_istore_n dX5_crewsWith_1 rfl
theorem kX5_crewsWith_2 (z : XKT) : XOi z xInf Y_X5_crewsWith 2 (.inl (i_push (vI 0) 3)) := ok_iconst dX5_crewsWith_2 rfl
theorem kX5_crewsWith_3 (z : XKT) : XOi z xInf Y_X5_crewsWith 3 (.inl (i_istore 3 4)) := ok_istore_n dX5_crewsWith_3 rfl
theorem kX5_crewsWith_4 (z : XKT) : XOi z xInf Y_X5_crewsWith 4 (.inl (i_iload 3 5)) := ok_iload_n dX5_crewsWith_4 rfl
theorem kX5_crewsWith_5 (z : XKT) : XOi z xInf Y_X5_crewsWith 5 (.inl (i_aload 0 6)) := ok_aload_n dX5_crewsWith_5 rfl
theorem kX5_crewsWith_6 (z : XKT) : XOi z xInf Y_X5_crewsWith 6 (.inl (i_getr [4] 40 9)) := ok_getr dX5_crewsWith_6 q2517 (List.forall_mem_cons.mpr ⟨⟨_, _, _, _, fd_40_4_0⟩, (fun _ h => absurd h List.not_mem_nil)⟩)
theorem kX5_crewsWith_9 (z : XKT) : XOi z xInf Y_X5_crewsWith 9 (.inl (i_push (vI 5) 10)) := ok_iconst dX5_crewsWith_9 rfl
theorem kX5_crewsWith_10 (z : XKT) : XOi z xInf Y_X5_crewsWith 10 (.inl (i_ald 1000 11)) := ok_iald dX5_crewsWith_10
theorem kX5_crewsWith_11 (z : XKT) : XOi z xInf Y_X5_crewsWith 11 (.inl (i_icmp (fun x y => y ≤ x) 47 14)) := ok_icmp_ge dX5_crewsWith_11 rfl
theorem kX5_crewsWith_14 (z : XKT) : XOi z xInf Y_X5_crewsWith 14 (.inl (i_iload 2 15)) := ok_iload_n dX5_crewsWith_14 rfl
theorem kX5_crewsWith_15 (z : XKT) : XOi z xInf Y_X5_crewsWith 15 (.inl (i_aload 0 16)) := ok_aload_n dX5_crewsWith_15 rfl
theorem kX5_crewsWith_16 (z : XKT) : XOi z xInf Y_X5_crewsWith 16 (.inl (i_iload 3 17)) := ok_iload_n dX5_crewsWith_16 rfl
theorem kX5_crewsWith_17 (z : XKT) : XOi z xInf Y_X5_crewsWith 17 (.inl (i_push (vI 0) 18)) := ok_iconst dX5_crewsWith_17 rfl
theorem kX5_crewsWith_18 (z : XKT) : XOi z xInf Y_X5_crewsWith 18 (.inr (.inl (21, g_virt [(4, 233)] 2))) := show XOkC z xInf Y_X5_crewsWith 18 21 (g_virt [(4, 233)] 2) from okc_V (q := Y_X5_crewsWith) (List.forall_mem_cons.mpr ⟨(show XOkV z xInf Y_X5_crewsWith 18 21 2 (4, 233) from okv_V (q := Y_X5_crewsWith) (q1 := Y_X5_isIn) Z_X5_isIn rfl (by decide) ⟨by decide, by decide, Or.inl ⟨_, _, (List.mem_of_getElem? (l := xCls) (i := 3) rfl)⟩⟩ dX5_crewsWith_18 q2618 q2620 qs49 q153 q2621 hy_270), (fun _ h => absurd h List.not_mem_nil)⟩)
theorem kX5_crewsWith_21 (z : XKT) : XOi z xInf Y_X5_crewsWith 21 (.inl (i_if (fun x => ¬ x = 0) 38 24)) := ok_if_ne dX5_crewsWith_21 rfl
theorem kX5_crewsWith_24 (z : XKT) : XOi z xInf Y_X5_crewsWith 24 (.inl (i_aload 0 25)) := ok_aload_n dX5_crewsWith_24 rfl
theorem kX5_crewsWith_25 (z : XKT) : XOi z xInf Y_X5_crewsWith 25 (.inl (i_iload 3 26)) := ok_iload_n dX5_crewsWith_25 rfl
theorem kX5_crewsWith_26 (z : XKT) : XOi z xInf Y_X5_crewsWith 26 (.inl (i_iload 1 27)) := ok_iload_n dX5_crewsWith_26 rfl
theorem kX5_crewsWith_27 (z : XKT) : XOi z xInf Y_X5_crewsWith 27 (.inr (.inl (30, g_virt [(4, 263)] 2))) := show XOkC z xInf Y_X5_crewsWith 27 30 (g_virt [(4, 263)] 2) from okc_V (q := Y_X5_crewsWith) (List.forall_mem_cons.mpr ⟨(show XOkV z xInf Y_X5_crewsWith 27 30 2 (4, 263) from okv_V (q := Y_X5_crewsWith) (q1 := Y_X5_placeOf) Z_X5_placeOf rfl (by decide) ⟨by decide, by decide, Or.inl ⟨_, _, (List.mem_of_getElem? (l := xCls) (i := 3) rfl)⟩⟩ dX5_crewsWith_27 q2670 q2672 qs59 q153 q2673 hy_283), (fun _ h => absurd h List.not_mem_nil)⟩)
theorem kX5_crewsWith_30 (z : XKT) : XOi z xInf Y_X5_crewsWith 30 (.inl (i_push (vI (-1)) 31)) := ok_iconst dX5_crewsWith_30 rfl
theorem kX5_crewsWith_31 (z : XKT) : XOi z xInf Y_X5_crewsWith 31 (.inl (i_icmp (fun x y => x = y) 38 34)) := ok_icmp_eq dX5_crewsWith_31 rfl
theorem kX5_crewsWith_34 (z : XKT) : XOi z xInf Y_X5_crewsWith 34 (.inl (i_push (vI 1) 35)) := ok_iconst dX5_crewsWith_34 rfl
theorem kX5_crewsWith_35 (z : XKT) : XOi z xInf Y_X5_crewsWith 35 (.inl (i_goto 39)) := ok_goto dX5_crewsWith_35 rfl
theorem kX5_crewsWith_38 (z : XKT) : XOi z xInf Y_X5_crewsWith 38 (.inl (i_push (vI 0) 39)) := ok_iconst dX5_crewsWith_38 rfl
theorem kX5_crewsWith_39 (z : XKT) : XOi z xInf Y_X5_crewsWith 39 (.inl (i_bin (fun x y => x + y) 40)) := ok_iadd dX5_crewsWith_39
theorem kX5_crewsWith_40 (z : XKT) : XOi z xInf Y_X5_crewsWith 40 (.inl (i_istore 2 41)) := ok_istore_n dX5_crewsWith_40 rfl
theorem kX5_crewsWith_41 (z : XKT) : XOi z xInf Y_X5_crewsWith 41 (.inl (i_iinc 3 1 44)) := ok_iinc dX5_crewsWith_41 rfl
theorem kX5_crewsWith_44 (z : XKT) : XOi z xInf Y_X5_crewsWith 44 (.inl (i_goto 4)) := ok_goto dX5_crewsWith_44 rfl
theorem kX5_crewsWith_47 (z : XKT) : XOi z xInf Y_X5_crewsWith 47 (.inl (i_iload 2 48)) := ok_iload_n dX5_crewsWith_47 rfl
theorem kX5_crewsWith_48 (z : XKT) : XOi z xInf Y_X5_crewsWith 48 (.inr (.inr (.inl (r_i .int)))) := show XOkR Y_X5_crewsWith 48 ((r_i .int)) from okr_i (q := Y_X5_crewsWith) (ty := .int) rfl rfl dX5_crewsWith_48
theorem o_X5_crewsWith (z : XKT) : XMi z xInf Y_X5_crewsWith := XMi.mk9 (T := T_X5_crewsWith z) rfl (⟨kX5_crewsWith_0 z, ⟨kX5_crewsWith_1 z, ⟨kX5_crewsWith_2 z, ⟨kX5_crewsWith_3 z, ⟨kX5_crewsWith_4 z, ⟨kX5_crewsWith_5 z, ⟨kX5_crewsWith_6 z, ⟨kX5_crewsWith_9 z, ⟨kX5_crewsWith_10 z, ⟨kX5_crewsWith_11 z, ⟨kX5_crewsWith_14 z, ⟨kX5_crewsWith_15 z, ⟨kX5_crewsWith_16 z, ⟨kX5_crewsWith_17 z, ⟨kX5_crewsWith_18 z, ⟨kX5_crewsWith_21 z, ⟨kX5_crewsWith_24 z, ⟨kX5_crewsWith_25 z, ⟨kX5_crewsWith_26 z, ⟨kX5_crewsWith_27 z, ⟨kX5_crewsWith_30 z, ⟨kX5_crewsWith_31 z, ⟨kX5_crewsWith_34 z, ⟨kX5_crewsWith_35 z, ⟨kX5_crewsWith_38 z, ⟨kX5_crewsWith_39 z, ⟨kX5_crewsWith_40 z, ⟨kX5_crewsWith_41 z, ⟨kX5_crewsWith_44 z, ⟨kX5_crewsWith_47 z, ⟨kX5_crewsWith_48 z, trivial⟩⟩⟩⟩⟩⟩⟩⟩⟩⟩⟩⟩⟩⟩⟩⟩⟩⟩⟩⟩⟩⟩⟩⟩⟩⟩⟩⟩⟩⟩⟩) (hd_X5_crewsWith z) rfl rfl (by decide +kernel)
theorem hd_X5_crownOf (z : XKT) : XHd z Y_X5_crownOf := xHd_none rfl (xhd0 rfl)
theorem kX5_crownOf_0 (z : XKT) : XOi z xInf Y_X5_crownOf 0 (.inl (i_iload 2 1)) := ok_iload_n dX5_crownOf_0 rfl
theorem kX5_crownOf_1 (z : XKT) : XOi z xInf Y_X5_crownOf 1 (.inl (i_if (fun x => x = 0) 15 4)) := ok_if_eq dX5_crownOf_1 rfl
theorem kX5_crownOf_4 (z : XKT) : XOi z xInf Y_X5_crownOf 4 (.inl (i_aload 0 5)) := ok_aload_n dX5_crownOf_4 rfl
theorem kX5_crownOf_5 (z : XKT) : XOi z xInf Y_X5_crownOf 5 (.inl (i_iload 1 6)) := ok_iload_n dX5_crownOf_5 rfl
theorem kX5_crownOf_6 (z : XKT) : XOi z xInf Y_X5_crownOf 6 (.inr (.inl (9, g_virt [(4, 281)] 1))) := show XOkC z xInf Y_X5_crownOf 6 9 (g_virt [(4, 281)] 1) from okc_V (q := Y_X5_crownOf) (List.forall_mem_cons.mpr ⟨(show XOkV z xInf Y_X5_crownOf 6 9 1 (4, 281) from okv_V (q := Y_X5_crownOf) (q1 := Y_X5_salvageOf) Z_X5_salvageOf rfl (by decide) ⟨by decide, by decide, Or.inl ⟨_, _, (List.mem_of_getElem? (l := xCls) (i := 3) rfl)⟩⟩ dX5_crownOf_6 q2737 q2739 qs69 q153 q2740 hy_284), (fun _ h => absurd h List.not_mem_nil)⟩)
theorem kX5_crownOf_9 (z : XKT) : XOi z xInf Y_X5_crownOf 9 (.inl (i_push (vI 10) 11)) := ok_bipush dX5_crownOf_9 rfl
theorem kX5_crownOf_11 (z : XKT) : XOi z xInf Y_X5_crownOf 11 (.inl (i_quo (fun x y => x / y) 12)) := ok_idiv dX5_crownOf_11
theorem kX5_crownOf_12 (z : XKT) : XOi z xInf Y_X5_crownOf 12 (.inl (i_goto 27)) := ok_goto dX5_crownOf_12 rfl
theorem kX5_crownOf_15 (z : XKT) : XOi z xInf Y_X5_crownOf 15 (.inl (i_aload 0 16)) := ok_aload_n dX5_crownOf_15 rfl
theorem kX5_crownOf_16 (z : XKT) : XOi z xInf Y_X5_crownOf 16 (.inl (i_iload 1 17)) := ok_iload_n dX5_crownOf_16 rfl
theorem kX5_crownOf_17 (z : XKT) : XOi z xInf Y_X5_crownOf 17 (.inl (i_push (vI 1) 18)) := ok_iconst dX5_crownOf_17 rfl
theorem kX5_crownOf_18 (z : XKT) : XOi z xInf Y_X5_crownOf 18 (.inr (.inl (21, g_virt [(4, 253)] 2))) := show XOkC z xInf Y_X5_crownOf 18 21 (g_virt [(4, 253)] 2) from okc_V (q := Y_X5_crownOf) (List.forall_mem_cons.mpr ⟨(show XOkV z xInf Y_X5_crownOf 18 21 2 (4, 253) from okv_V (q := Y_X5_crownOf) (q1 := Y_X5_of) Z_X5_of rfl (by decide) ⟨by decide, by decide, Or.inl ⟨_, _, (List.mem_of_getElem? (l := xCls) (i := 3) rfl)⟩⟩ dX5_crownOf_18 q2622 q2624 qs50 q153 q2625 hy_265), (fun _ h => absurd h List.not_mem_nil)⟩)
theorem kX5_crownOf_21 (z : XKT) : XOi z xInf Y_X5_crownOf 21 (.inl (i_push (vI 9) 23)) := ok_bipush dX5_crownOf_21 rfl
theorem kX5_crownOf_23 (z : XKT) : XOi z xInf Y_X5_crownOf 23 (.inl (i_bin (fun x y => x + y) 24)) := ok_iadd dX5_crownOf_23
theorem kX5_crownOf_24 (z : XKT) : XOi z xInf Y_X5_crownOf 24 (.inl (i_push (vI 10) 26)) := ok_bipush dX5_crownOf_24 rfl
theorem kX5_crownOf_26 (z : XKT) : XOi z xInf Y_X5_crownOf 26 (.inl (i_quo (fun x y => x / y) 27)) := ok_idiv dX5_crownOf_26
theorem kX5_crownOf_27 (z : XKT) : XOi z xInf Y_X5_crownOf 27 (.inr (.inr (.inl (r_i .int)))) := show XOkR Y_X5_crownOf 27 ((r_i .int)) from okr_i (q := Y_X5_crownOf) (ty := .int) rfl rfl dX5_crownOf_27
theorem o_X5_crownOf (z : XKT) : XMi z xInf Y_X5_crownOf := XMi.mk9 (T := T_X5_crownOf z) rfl (⟨kX5_crownOf_0 z, ⟨kX5_crownOf_1 z, ⟨kX5_crownOf_4 z, ⟨kX5_crownOf_5 z, ⟨kX5_crownOf_6 z, ⟨kX5_crownOf_9 z, ⟨kX5_crownOf_11 z, ⟨kX5_crownOf_12 z, ⟨kX5_crownOf_15 z, ⟨kX5_crownOf_16 z, ⟨kX5_crownOf_17 z, ⟨kX5_crownOf_18 z, ⟨kX5_crownOf_21 z, ⟨kX5_crownOf_23 z, ⟨kX5_crownOf_24 z, ⟨kX5_crownOf_26 z, ⟨kX5_crownOf_27 z, trivial⟩⟩⟩⟩⟩⟩⟩⟩⟩⟩⟩⟩⟩⟩⟩⟩⟩) (hd_X5_crownOf z) rfl rfl (by decide +kernel)
theorem hd_X5_crownPart (z : XKT) : XHd z Y_X5_crownPart := xHd_none rfl (xhd0 rfl)
theorem kX5_crownPart_0 (z : XKT) : XOi z xInf Y_X5_crownPart 0 (.inl (i_aload 0 1)) := ok_aload_n dX5_crownPart_0 rfl
theorem kX5_crownPart_1 (z : XKT) : XOi z xInf Y_X5_crownPart 1 (.inl (i_push (vI 0) 2)) := ok_iconst dX5_crownPart_1 rfl
theorem kX5_crownPart_2 (z : XKT) : XOi z xInf Y_X5_crownPart 2 (.inl (i_puti z.1 [4] .int 42 5)) := ok_puti dX5_crownPart_2 q2519 rfl (List.forall_mem_cons.mpr ⟨⟨_, _, _, _, tyX5, fd_42_4_0, ⟨tyX5_ok, nmX5, (Or.inl rfl)⟩, rfl⟩, (fun _ h => absurd h List.not_mem_nil)⟩)
theorem kX5_crownPart_5 (z : XKT) : XOi z xInf Y_X5_crownPart 5 (.inl (i_aload 0 6)) := ok_aload_n dX5_crownPart_5 rfl
theorem kX5_crownPart_6 (z : XKT) : XOi z xInf Y_X5_crownPart 6 (.inl (i_push (vI 6) 8)) := ok_bipush dX5_crownPart_6 rfl
theorem kX5_crownPart_8 (z : XKT) : XOi z xInf Y_X5_crownPart 8 (.inr (.inl (11, g_virt [(4, 290)] 1))) := show XOkC z xInf Y_X5_crownPart 8 11 (g_virt [(4, 290)] 1) from okc_V (q := Y_X5_crownPart) (List.forall_mem_cons.mpr ⟨(show XOkV z xInf Y_X5_crownPart 8 11 1 (4, 290) from okv_V (q := Y_X5_crownPart) (q1 := Y_X5_tallied) Z_X5_tallied rfl (by decide) ⟨by decide, by decide, Or.inl ⟨_, _, (List.mem_of_getElem? (l := xCls) (i := 3) rfl)⟩⟩ dX5_crownPart_8 q2646 q2648 qs55 q153 q2649 hy_263), (fun _ h => absurd h List.not_mem_nil)⟩)
theorem kX5_crownPart_11 (z : XKT) : XOi z xInf Y_X5_crownPart 11 (.inl (i_istore 1 12)) := ok_istore_n dX5_crownPart_11 rfl
theorem kX5_crownPart_12 (z : XKT) : XOi z xInf Y_X5_crownPart 12 (.inl (i_iload 1 13)) := ok_iload_n dX5_crownPart_12 rfl
theorem kX5_crownPart_13 (z : XKT) : XOi z xInf Y_X5_crownPart 13 (.inl (i_if (fun x => ¬ x = 0) 20 16)) := ok_if_ne dX5_crownPart_13 rfl
theorem kX5_crownPart_16 (z : XKT) : XOi z xInf Y_X5_crownPart 16 (.inl (i_push (vD 0) 17)) := ok_dconst dX5_crownPart_16
theorem kX5_crownPart_17 (z : XKT) : XOi z xInf Y_X5_crownPart 17 (.inl (i_goto 31)) := ok_goto dX5_crownPart_17 rfl
theorem kX5_crownPart_20 (z : XKT) : XOi z xInf Y_X5_crownPart 20 (.inl (i_aload 0 21)) := ok_aload_n dX5_crownPart_20 rfl
theorem kX5_crownPart_21 (z : XKT) : XOi z xInf Y_X5_crownPart 21 (.inl (i_getr [4] 40 24)) := ok_getr dX5_crownPart_21 q2517 (List.forall_mem_cons.mpr ⟨⟨_, _, _, _, fd_40_4_0⟩, (fun _ h => absurd h List.not_mem_nil)⟩)
theorem kX5_crownPart_24 (z : XKT) : XOi z xInf Y_X5_crownPart 24 (.inl (i_push (vI 6) 26)) := ok_bipush dX5_crownPart_24 rfl
theorem kX5_crownPart_26 (z : XKT) : XOi z xInf Y_X5_crownPart 26 (.inl (i_ald 1000 27)) := ok_iald dX5_crownPart_26
theorem kX5_crownPart_27 (z : XKT) : XOi z xInf Y_X5_crownPart 27 (.inl (i_i2d 28)) := ok_i2d dX5_crownPart_27
theorem kX5_crownPart_28 (z : XKT) : XOi z xInf Y_X5_crownPart 28 (.inl (i_iload 1 29)) := ok_iload_n dX5_crownPart_28 rfl
theorem kX5_crownPart_29 (z : XKT) : XOi z xInf Y_X5_crownPart 29 (.inl (i_i2d 30)) := ok_i2d dX5_crownPart_29
theorem kX5_crownPart_30 (z : XKT) : XOi z xInf Y_X5_crownPart 30 (.inl (i_ddiv 31)) := ok_ddiv dX5_crownPart_30
theorem kX5_crownPart_31 (z : XKT) : XOi z xInf Y_X5_crownPart 31 (.inr (.inr (.inl r_d))) := show XOkR Y_X5_crownPart 31 (r_d) from okr_d (q := Y_X5_crownPart) rfl dX5_crownPart_31
theorem o_X5_crownPart (z : XKT) : XMi z xInf Y_X5_crownPart := XMi.mk9 (T := T_X5_crownPart z) rfl (⟨kX5_crownPart_0 z, ⟨kX5_crownPart_1 z, ⟨kX5_crownPart_2 z, ⟨kX5_crownPart_5 z, ⟨kX5_crownPart_6 z, ⟨kX5_crownPart_8 z, ⟨kX5_crownPart_11 z, ⟨kX5_crownPart_12 z, ⟨kX5_crownPart_13 z, ⟨kX5_crownPart_16 z, ⟨kX5_crownPart_17 z, ⟨kX5_crownPart_20 z, ⟨kX5_crownPart_21 z, ⟨kX5_crownPart_24 z, ⟨kX5_crownPart_26 z, ⟨kX5_crownPart_27 z, ⟨kX5_crownPart_28 z, ⟨kX5_crownPart_29 z, ⟨kX5_crownPart_30 z, ⟨kX5_crownPart_31 z, trivial⟩⟩⟩⟩⟩⟩⟩⟩⟩⟩⟩⟩⟩⟩⟩⟩⟩⟩⟩⟩) (hd_X5_crownPart z) rfl rfl (by decide +kernel)
theorem hd_X5_crownShare (z : XKT) : XHd z Y_X5_crownShare := xHd_none rfl (xhd0 rfl)
theorem kX5_crownShare_0 (z : XKT) : XOi z xInf Y_X5_crownShare 0 (.inl (i_aload 0 1)) := ok_aload_n dX5_crownShare_0 rfl
theorem kX5_crownShare_1 (z : XKT) : XOi z xInf Y_X5_crownShare 1 (.inl (i_aload 0 2)) := ok_aload_n dX5_crownShare_1 rfl
theorem kX5_crownShare_2 (z : XKT) : XOi z xInf Y_X5_crownShare 2 (.inl (i_iload 1 3)) := ok_iload_n dX5_crownShare_2 rfl
theorem kX5_crownShare_3 (z : XKT) : XOi z xInf Y_X5_crownShare 3 (.inr (.inl (6, g_virt [(4, 232)] 1))) := show XOkC z xInf Y_X5_crownShare 3 6 (g_virt [(4, 232)] 1) from okc_V (q := Y_X5_crownShare) (List.forall_mem_cons.mpr ⟨(show XOkV z xInf Y_X5_crownShare 3 6 1 (4, 232) from okv_V (q := Y_X5_crownShare) (q1 := Y_X5_isGood) Z_X5_isGood rfl (by decide) ⟨by decide, by decide, Or.inl ⟨_, _, (List.mem_of_getElem? (l := xCls) (i := 3) rfl)⟩⟩ dX5_crownShare_3 q2654 q2656 qs56 q153 q2657 hy_272), (fun _ h => absurd h List.not_mem_nil)⟩)
theorem kX5_crownShare_6 (z : XKT) : XOi z xInf Y_X5_crownShare 6 (.inr (.inl (9, g_virt [(4, 240)] 1))) := show XOkC z xInf Y_X5_crownShare 6 9 (g_virt [(4, 240)] 1) from okc_V (q := Y_X5_crownShare) (List.forall_mem_cons.mpr ⟨(show XOkV z xInf Y_X5_crownShare 6 9 1 (4, 240) from okv_V (q := Y_X5_crownShare) (q1 := Y_X5_lacks) Z_X5_lacks rfl (by decide) ⟨by decide, by decide, Or.inl ⟨_, _, (List.mem_of_getElem? (l := xCls) (i := 3) rfl)⟩⟩ dX5_crownShare_6 q2606 q2608 qs46 q153 q2609 hy_262), (fun _ h => absurd h List.not_mem_nil)⟩)
theorem kX5_crownShare_9 (z : XKT) : XOi z xInf Y_X5_crownShare 9 (.inl (i_if (fun x => x = 0) 14 12)) := ok_if_eq dX5_crownShare_9 rfl
theorem kX5_crownShare_12 (z : XKT) : XOi z xInf Y_X5_crownShare 12 (.inl (i_push (vI 0) 13)) := ok_iconst dX5_crownShare_12 rfl
theorem kX5_crownShare_13 (z : XKT) : XOi z xInf Y_X5_crownShare 13 (.inr (.inr (.inl (r_i .int)))) := show XOkR Y_X5_crownShare 13 ((r_i .int)) from okr_i (q := Y_X5_crownShare) (ty := .int) rfl rfl dX5_crownShare_13
theorem kX5_crownShare_14 (z : XKT) : XOi z xInf Y_X5_crownShare 14 (.inl (i_aload 0 15)) := ok_aload_n dX5_crownShare_14 rfl
theorem kX5_crownShare_15 (z : XKT) : XOi z xInf Y_X5_crownShare 15 (.inl (i_iload 1 16)) := ok_iload_n dX5_crownShare_15 rfl
theorem kX5_crownShare_16 (z : XKT) : XOi z xInf Y_X5_crownShare 16 (.inl (i_push (vI 3) 17)) := ok_iconst dX5_crownShare_16 rfl
theorem kX5_crownShare_17 (z : XKT) : XOi z xInf Y_X5_crownShare 17 (.inr (.inl (20, g_virt [(4, 233)] 2))) := show XOkC z xInf Y_X5_crownShare 17 20 (g_virt [(4, 233)] 2) from okc_V (q := Y_X5_crownShare) (List.forall_mem_cons.mpr ⟨(show XOkV z xInf Y_X5_crownShare 17 20 2 (4, 233) from okv_V (q := Y_X5_crownShare) (q1 := Y_X5_isIn) Z_X5_isIn rfl (by decide) ⟨by decide, by decide, Or.inl ⟨_, _, (List.mem_of_getElem? (l := xCls) (i := 3) rfl)⟩⟩ dX5_crownShare_17 q2618 q2620 qs49 q153 q2621 hy_270), (fun _ h => absurd h List.not_mem_nil)⟩)
theorem kX5_crownShare_20 (z : XKT) : XOi z xInf Y_X5_crownShare 20 (.inl (i_if (fun x => x = 0) 27 23)) := ok_if_eq dX5_crownShare_20 rfl
theorem kX5_crownShare_23 (z : XKT) : XOi z xInf Y_X5_crownShare 23 (.inl (i_push (vI 0) 24)) := ok_iconst dX5_crownShare_23 rfl
theorem kX5_crownShare_24 (z : XKT) : XOi z xInf Y_X5_crownShare 24 (.inl (i_goto 37)) := ok_goto dX5_crownShare_24 rfl
theorem kX5_crownShare_27 (z : XKT) : XOi z xInf Y_X5_crownShare 27 (.inl (i_aload 0 28)) := ok_aload_n dX5_crownShare_27 rfl
theorem kX5_crownShare_28 (z : XKT) : XOi z xInf Y_X5_crownShare 28 (.inl (i_iload 1 29)) := ok_iload_n dX5_crownShare_28 rfl
theorem kX5_crownShare_29 (z : XKT) : XOi z xInf Y_X5_crownShare 29 (.inl (i_aload 0 30)) := ok_aload_n dX5_crownShare_29 rfl
theorem kX5_crownShare_30 (z : XKT) : XOi z xInf Y_X5_crownShare 30 (.inl (i_iload 1 31)) := ok_iload_n dX5_crownShare_30 rfl
theorem kX5_crownShare_31 (z : XKT) : XOi z xInf Y_X5_crownShare 31 (.inr (.inl (34, g_virt [(4, 228)] 1))) := show XOkC z xInf Y_X5_crownShare 31 34 (g_virt [(4, 228)] 1) from okc_V (q := Y_X5_crownShare) (List.forall_mem_cons.mpr ⟨(show XOkV z xInf Y_X5_crownShare 31 34 1 (4, 228) from okv_V (q := Y_X5_crownShare) (q1 := Y_X5_isClaimed) Z_X5_isClaimed rfl (by decide) ⟨by decide, by decide, Or.inl ⟨_, _, (List.mem_of_getElem? (l := xCls) (i := 3) rfl)⟩⟩ dX5_crownShare_31 q2725 q2727 qs66 q153 q2728 hy_280), (fun _ h => absurd h List.not_mem_nil)⟩)
theorem kX5_crownShare_34 (z : XKT) : XOi z xInf Y_X5_crownShare 34 (.inr (.inl (37, g_virt [(4, 191)] 2))) := show XOkC z xInf Y_X5_crownShare 34 37 (g_virt [(4, 191)] 2) from okc_V (q := Y_X5_crownShare) (List.forall_mem_cons.mpr ⟨(show XOkV z xInf Y_X5_crownShare 34 37 2 (4, 191) from okv_V (q := Y_X5_crownShare) (q1 := Y_X5_crownOf) Z_X5_crownOf rfl (by decide) ⟨by decide, by decide, Or.inl ⟨_, _, (List.mem_of_getElem? (l := xCls) (i := 3) rfl)⟩⟩ dX5_crownShare_34 q2741 q2743 qs70 q153 q2744 hy_282), (fun _ h => absurd h List.not_mem_nil)⟩)
theorem kX5_crownShare_37 (z : XKT) : XOi z xInf Y_X5_crownShare 37 (.inr (.inr (.inl (r_i .int)))) := show XOkR Y_X5_crownShare 37 ((r_i .int)) from okr_i (q := Y_X5_crownShare) (ty := .int) rfl rfl dX5_crownShare_37
theorem o_X5_crownShare (z : XKT) : XMi z xInf Y_X5_crownShare := XMi.mk9 (T := T_X5_crownShare z) rfl (⟨kX5_crownShare_0 z, ⟨kX5_crownShare_1 z, ⟨kX5_crownShare_2 z, ⟨kX5_crownShare_3 z, ⟨kX5_crownShare_6 z, ⟨kX5_crownShare_9 z, ⟨kX5_crownShare_12 z, ⟨kX5_crownShare_13 z, ⟨kX5_crownShare_14 z, ⟨kX5_crownShare_15 z, ⟨kX5_crownShare_16 z, ⟨kX5_crownShare_17 z, ⟨kX5_crownShare_20 z, ⟨kX5_crownShare_23 z, ⟨kX5_crownShare_24 z, ⟨kX5_crownShare_27 z, ⟨kX5_crownShare_28 z, ⟨kX5_crownShare_29 z, ⟨kX5_crownShare_30 z, ⟨kX5_crownShare_31 z, ⟨kX5_crownShare_34 z, ⟨kX5_crownShare_37 z, trivial⟩⟩⟩⟩⟩⟩⟩⟩⟩⟩⟩⟩⟩⟩⟩⟩⟩⟩⟩⟩⟩⟩) (hd_X5_crownShare z) rfl rfl (by decide +kernel)
theorem hd_X5_divide (z : XKT) : XHd z Y_X5_divide := xHd_none rfl (xhd0 rfl)
theorem kX5_divide_0 (z : XKT) : XOi z xInf Y_X5_divide 0 (.inl (i_aload 0 1)) := ok_aload_n dX5_divide_0 rfl
theorem kX5_divide_1 (z : XKT) : XOi z xInf Y_X5_divide 1 (.inl (i_aload 0 2)) := ok_aload_n dX5_divide_1 rfl
theorem kX5_divide_2 (z : XKT) : XOi z xInf Y_X5_divide 2 (.inl (i_iload 1 3)) := ok_iload_n dX5_divide_2 rfl
theorem kX5_divide_3 (z : XKT) : XOi z xInf Y_X5_divide 3 (.inr (.inl (6, g_virt [(4, 232)] 1))) := show XOkC z xInf Y_X5_divide 3 6 (g_virt [(4, 232)] 1) from okc_V (q := Y_X5_divide) (List.forall_mem_cons.mpr ⟨(show XOkV z xInf Y_X5_divide 3 6 1 (4, 232) from okv_V (q := Y_X5_divide) (q1 := Y_X5_isGood) Z_X5_isGood rfl (by decide) ⟨by decide, by decide, Or.inl ⟨_, _, (List.mem_of_getElem? (l := xCls) (i := 3) rfl)⟩⟩ dX5_divide_3 q2654 q2656 qs56 q153 q2657 hy_272), (fun _ h => absurd h List.not_mem_nil)⟩)
theorem kX5_divide_6 (z : XKT) : XOi z xInf Y_X5_divide 6 (.inr (.inl (9, g_virt [(4, 240)] 1))) := show XOkC z xInf Y_X5_divide 6 9 (g_virt [(4, 240)] 1) from okc_V (q := Y_X5_divide) (List.forall_mem_cons.mpr ⟨(show XOkV z xInf Y_X5_divide 6 9 1 (4, 240) from okv_V (q := Y_X5_divide) (q1 := Y_X5_lacks) Z_X5_lacks rfl (by decide) ⟨by decide, by decide, Or.inl ⟨_, _, (List.mem_of_getElem? (l := xCls) (i := 3) rfl)⟩⟩ dX5_divide_6 q2606 q2608 qs46 q153 q2609 hy_262), (fun _ h => absurd h List.not_mem_nil)⟩)
theorem kX5_divide_9 (z : XKT) : XOi z xInf Y_X5_divide 9 (.inl (i_if (fun x => x = 0) 14 12)) := ok_if_eq dX5_divide_9 rfl
theorem kX5_divide_12 (z : XKT) : XOi z xInf Y_X5_divide 12 (.inl (i_push (vI 0) 13)) := ok_iconst dX5_divide_12 rfl
theorem kX5_divide_13 (z : XKT) : XOi z xInf Y_X5_divide 13 (.inr (.inr (.inl (r_i .int)))) := show XOkR Y_X5_divide 13 ((r_i .int)) from okr_i (q := Y_X5_divide) (ty := .int) rfl rfl dX5_divide_13
theorem kX5_divide_14 (z : XKT) : XOi z xInf Y_X5_divide 14 (.inl (i_aload 0 15)) := ok_aload_n dX5_divide_14 rfl
theorem kX5_divide_15 (z : XKT) : XOi z xInf Y_X5_divide 15 (.inr (.inl (18, g_virt [(4, 238)] 0))) := show XOkC z xInf Y_X5_divide 15 18 (g_virt [(4, 238)] 0) from okc_V (q := Y_X5_divide) (List.forall_mem_cons.mpr ⟨(show XOkV z xInf Y_X5_divide 15 18 0 (4, 238) from okv_V (q := Y_X5_divide) (q1 := Y_X5_keep) Z_X5_keep rfl (by decide) ⟨by decide, by decide, Or.inl ⟨_, _, (List.mem_of_getElem? (l := xCls) (i := 3) rfl)⟩⟩ dX5_divide_15 q2878 q2880 qs79 q153 q2881 hy_276), (fun _ h => absurd h List.not_mem_nil)⟩)
theorem kX5_divide_18 (z : XKT) : XOi z xInf Y_X5_divide 18 (.inl (i_aload 0 19)) := ok_aload_n dX5_divide_18 rfl
theorem kX5_divide_19 (z : XKT) : XOi z xInf Y_X5_divide 19 (.inl (i_aload 0 20)) := ok_aload_n dX5_divide_19 rfl
theorem kX5_divide_20 (z : XKT) : XOi z xInf Y_X5_divide 20 (.inl (i_iload 1 21)) := ok_iload_n dX5_divide_20 rfl
theorem kX5_divide_21 (z : XKT) : XOi z xInf Y_X5_divide 21 (.inr (.inl (24, g_virt [(4, 199)] 1))) := show XOkC z xInf Y_X5_divide 21 24 (g_virt [(4, 199)] 1) from okc_V (q := Y_X5_divide) (List.forall_mem_cons.mpr ⟨(show XOkV z xInf Y_X5_divide 21 24 1 (4, 199) from okv_V (q := Y_X5_divide) (q1 := Y_X5_doDivide) Z_X5_doDivide rfl (by decide) ⟨by decide, by decide, Or.inl ⟨_, _, (List.mem_of_getElem? (l := xCls) (i := 3) rfl)⟩⟩ dX5_divide_21 q2962 q2964 qs93 q153 q2965 hy_285), (fun _ h => absurd h List.not_mem_nil)⟩)
theorem kX5_divide_24 (z : XKT) : XOi z xInf Y_X5_divide 24 (.inr (.inl (27, g_virt [(4, 275)] 1))) := show XOkC z xInf Y_X5_divide 24 27 (g_virt [(4, 275)] 1) from okc_V (q := Y_X5_divide) (List.forall_mem_cons.mpr ⟨(show XOkV z xInf Y_X5_divide 24 27 1 (4, 275) from okv_V (q := Y_X5_divide) (q1 := Y_X5_recorded) Z_X5_recorded rfl (by decide) ⟨by decide, by decide, Or.inl ⟨_, _, (List.mem_of_getElem? (l := xCls) (i := 3) rfl)⟩⟩ dX5_divide_24 q2902 q2904 qs84 q153 q2905 hy_278), (fun _ h => absurd h List.not_mem_nil)⟩)
theorem kX5_divide_27 (z : XKT) : XOi z xInf Y_X5_divide 27 (.inr (.inr (.inl (r_i .int)))) := show XOkR Y_X5_divide 27 ((r_i .int)) from okr_i (q := Y_X5_divide) (ty := .int) rfl rfl dX5_divide_27
theorem o_X5_divide (z : XKT) : XMi z xInf Y_X5_divide := XMi.mk9 (T := T_X5_divide z) rfl (⟨kX5_divide_0 z, ⟨kX5_divide_1 z, ⟨kX5_divide_2 z, ⟨kX5_divide_3 z, ⟨kX5_divide_6 z, ⟨kX5_divide_9 z, ⟨kX5_divide_12 z, ⟨kX5_divide_13 z, ⟨kX5_divide_14 z, ⟨kX5_divide_15 z, ⟨kX5_divide_18 z, ⟨kX5_divide_19 z, ⟨kX5_divide_20 z, ⟨kX5_divide_21 z, ⟨kX5_divide_24 z, ⟨kX5_divide_27 z, trivial⟩⟩⟩⟩⟩⟩⟩⟩⟩⟩⟩⟩⟩⟩⟩⟩) (hd_X5_divide z) rfl rfl (by decide +kernel)
theorem hd_X5_divideAll (z : XKT) : XHd z Y_X5_divideAll := xHd_none rfl (xhd0 rfl)
theorem kX5_divideAll_0 (z : XKT) : XOi z xInf Y_X5_divideAll 0 (.inl (i_aload 0 1)) := ok_aload_n dX5_divideAll_0 rfl
theorem kX5_divideAll_1 (z : XKT) : XOi z xInf Y_X5_divideAll 1 (.inl (i_push (vI 0) 2)) := ok_iconst dX5_divideAll_1 rfl
theorem kX5_divideAll_2 (z : XKT) : XOi z xInf Y_X5_divideAll 2 (.inl (i_puti z.1 [4] .int 42 5)) := ok_puti dX5_divideAll_2 q2519 rfl (List.forall_mem_cons.mpr ⟨⟨_, _, _, _, tyX5, fd_42_4_0, ⟨tyX5_ok, nmX5, (Or.inl rfl)⟩, rfl⟩, (fun _ h => absurd h List.not_mem_nil)⟩)
theorem kX5_divideAll_5 (z : XKT) : XOi z xInf Y_X5_divideAll 5 (.inl (i_aload 0 6)) := ok_aload_n dX5_divideAll_5 rfl
theorem kX5_divideAll_6 (z : XKT) : XOi z xInf Y_X5_divideAll 6 (.inr (.inl (9, g_virt [(4, 238)] 0))) := show XOkC z xInf Y_X5_divideAll 6 9 (g_virt [(4, 238)] 0) from okc_V (q := Y_X5_divideAll) (List.forall_mem_cons.mpr ⟨(show XOkV z xInf Y_X5_divideAll 6 9 0 (4, 238) from okv_V (q := Y_X5_divideAll) (q1 := Y_X5_keep) Z_X5_keep rfl (by decide) ⟨by decide, by decide, Or.inl ⟨_, _, (List.mem_of_getElem? (l := xCls) (i := 3) rfl)⟩⟩ dX5_divideAll_6 q2878 q2880 qs79 q153 q2881 hy_276), (fun _ h => absurd h List.not_mem_nil)⟩)
theorem kX5_divideAll_9 (z : XKT) : XOi z xInf Y_X5_divideAll 9 (.inl (i_aload 0 10)) := ok_aload_n dX5_divideAll_9 rfl
theorem kX5_divideAll_10 (z : XKT) : XOi z xInf Y_X5_divideAll 10 (.inl (i_aload 0 11)) := ok_aload_n dX5_divideAll_10 rfl
theorem kX5_divideAll_11 (z : XKT) : XOi z xInf Y_X5_divideAll 11 (.inr (.inl (14, g_virt [(4, 200)] 0))) := show XOkC z xInf Y_X5_divideAll 11 14 (g_virt [(4, 200)] 0) from okc_V (q := Y_X5_divideAll) (List.forall_mem_cons.mpr ⟨(show XOkV z xInf Y_X5_divideAll 11 14 0 (4, 200) from okv_V (q := Y_X5_divideAll) (q1 := Y_X5_doDivideAll) Z_X5_doDivideAll rfl (by decide) ⟨by decide, by decide, Or.inl ⟨_, _, (List.mem_of_getElem? (l := xCls) (i := 3) rfl)⟩⟩ dX5_divideAll_11 q2974 q2976 qs95 q153 q2977 hy_286), (fun _ h => absurd h List.not_mem_nil)⟩)
theorem kX5_divideAll_14 (z : XKT) : XOi z xInf Y_X5_divideAll 14 (.inr (.inl (17, g_virt [(4, 275)] 1))) := show XOkC z xInf Y_X5_divideAll 14 17 (g_virt [(4, 275)] 1) from okc_V (q := Y_X5_divideAll) (List.forall_mem_cons.mpr ⟨(show XOkV z xInf Y_X5_divideAll 14 17 1 (4, 275) from okv_V (q := Y_X5_divideAll) (q1 := Y_X5_recorded) Z_X5_recorded rfl (by decide) ⟨by decide, by decide, Or.inl ⟨_, _, (List.mem_of_getElem? (l := xCls) (i := 3) rfl)⟩⟩ dX5_divideAll_14 q2902 q2904 qs84 q153 q2905 hy_278), (fun _ h => absurd h List.not_mem_nil)⟩)
theorem kX5_divideAll_17 (z : XKT) : XOi z xInf Y_X5_divideAll 17 (.inr (.inr (.inl (r_i .int)))) := show XOkR Y_X5_divideAll 17 ((r_i .int)) from okr_i (q := Y_X5_divideAll) (ty := .int) rfl rfl dX5_divideAll_17
theorem o_X5_divideAll (z : XKT) : XMi z xInf Y_X5_divideAll := XMi.mk9 (T := T_X5_divideAll z) rfl (⟨kX5_divideAll_0 z, ⟨kX5_divideAll_1 z, ⟨kX5_divideAll_2 z, ⟨kX5_divideAll_5 z, ⟨kX5_divideAll_6 z, ⟨kX5_divideAll_9 z, ⟨kX5_divideAll_10 z, ⟨kX5_divideAll_11 z, ⟨kX5_divideAll_14 z, ⟨kX5_divideAll_17 z, trivial⟩⟩⟩⟩⟩⟩⟩⟩⟩⟩) (hd_X5_divideAll z) rfl rfl (by decide +kernel)
theorem hd_X5_divideNow (z : XKT) : XHd z Y_X5_divideNow := xHd_none rfl (xhd0 rfl)
theorem kX5_divideNow_0 (z : XKT) : XOi z xInf Y_X5_divideNow 0 (.inl (i_push (vI 0) 1)) := ok_iconst dX5_divideNow_0 rfl
theorem kX5_divideNow_1 (z : XKT) : XOi z xInf Y_X5_divideNow 1 (.inl (i_istore 2 2)) := ok_istore_n dX5_divideNow_1 rfl
theorem kX5_divideNow_2 (z : XKT) : XOi z xInf Y_X5_divideNow 2 (.inl (i_iload 2 3)) := ok_iload_n dX5_divideNow_2 rfl
theorem kX5_divideNow_3 (z : XKT) : XOi z xInf Y_X5_divideNow 3 (.inl (i_aload 0 4)) := ok_aload_n dX5_divideNow_3 rfl
theorem kX5_divideNow_4 (z : XKT) : XOi z xInf Y_X5_divideNow 4 (.inl (i_iload 1 5)) := ok_iload_n dX5_divideNow_4 rfl
theorem kX5_divideNow_5 (z : XKT) : XOi z xInf Y_X5_divideNow 5 (.inl (i_push (vI 9) 7)) := ok_bipush dX5_divideNow_5 rfl
theorem kX5_divideNow_7 (z : XKT) : XOi z xInf Y_X5_divideNow 7 (.inr (.inl (10, g_virt [(4, 253)] 2))) := show XOkC z xInf Y_X5_divideNow 7 10 (g_virt [(4, 253)] 2) from okc_V (q := Y_X5_divideNow) (List.forall_mem_cons.mpr ⟨(show XOkV z xInf Y_X5_divideNow 7 10 2 (4, 253) from okv_V (q := Y_X5_divideNow) (q1 := Y_X5_of) Z_X5_of rfl (by decide) ⟨by decide, by decide, Or.inl ⟨_, _, (List.mem_of_getElem? (l := xCls) (i := 3) rfl)⟩⟩ dX5_divideNow_7 q2622 q2624 qs50 q153 q2625 hy_265), (fun _ h => absurd h List.not_mem_nil)⟩)
theorem kX5_divideNow_10 (z : XKT) : XOi z xInf Y_X5_divideNow 10 (.inl (i_icmp (fun x y => y ≤ x) 45 13)) := ok_icmp_ge dX5_divideNow_10 rfl
theorem kX5_divideNow_13 (z : XKT) : XOi z xInf Y_X5_divideNow 13 (.inl (i_aload 0 14)) := ok_aload_n dX5_divideNow_13 rfl
theorem kX5_divideNow_14 (z : XKT) : XOi z xInf Y_X5_divideNow 14 (.inl (i_iload 1 15)) := ok_iload_n dX5_divideNow_14 rfl
theorem kX5_divideNow_15 (z : XKT) : XOi z xInf Y_X5_divideNow 15 (.inl (i_iload 2 16)) := ok_iload_n dX5_divideNow_15 rfl
theorem kX5_divideNow_16 (z : XKT) : XOi z xInf Y_X5_divideNow 16 (.inr (.inl (19, g_virt [(4, 223)] 2))) := show XOkC z xInf Y_X5_divideNow 16 19 (g_virt [(4, 223)] 2) from okc_V (q := Y_X5_divideNow) (List.forall_mem_cons.mpr ⟨(show XOkV z xInf Y_X5_divideNow 16 19 2 (4, 223) from okv_V (q := Y_X5_divideNow) (q1 := Y_X5_handOf) Z_X5_handOf rfl (by decide) ⟨by decide, by decide, Or.inl ⟨_, _, (List.mem_of_getElem? (l := xCls) (i := 3) rfl)⟩⟩ dX5_divideNow_16 q2674 q2676 qs60 q153 q2677 hy_287), (fun _ h => absurd h List.not_mem_nil)⟩)
theorem kX5_divideNow_19 (z : XKT) : XOi z xInf Y_X5_divideNow 19 (.inl (i_istore 3 20)) := ok_istore_n dX5_divideNow_19 rfl
theorem kX5_divideNow_20 (z : XKT) : XOi z xInf Y_X5_divideNow 20 (.inl (i_aload 0 21)) := ok_aload_n dX5_divideNow_20 rfl
theorem kX5_divideNow_21 (z : XKT) : XOi z xInf Y_X5_divideNow 21 (.inl (i_iload 3 22)) := ok_iload_n dX5_divideNow_21 rfl
theorem kX5_divideNow_22 (z : XKT) : XOi z xInf Y_X5_divideNow 22 (.inl (i_push (vI 0) 23)) := ok_iconst dX5_divideNow_22 rfl
theorem kX5_divideNow_23 (z : XKT) : XOi z xInf Y_X5_divideNow 23 (.inl (i_aload 0 24)) := ok_aload_n dX5_divideNow_23 rfl
theorem kX5_divideNow_24 (z : XKT) : XOi z xInf Y_X5_divideNow 24 (.inl (i_iload 3 25)) := ok_iload_n dX5_divideNow_24 rfl
theorem kX5_divideNow_25 (z : XKT) : XOi z xInf Y_X5_divideNow 25 (.inl (i_push (vI 0) 26)) := ok_iconst dX5_divideNow_25 rfl
theorem kX5_divideNow_26 (z : XKT) : XOi z xInf Y_X5_divideNow 26 (.inr (.inl (29, g_virt [(4, 254)] 2))) := show XOkC z xInf Y_X5_divideNow 26 29 (g_virt [(4, 254)] 2) from okc_V (q := Y_X5_divideNow) (List.forall_mem_cons.mpr ⟨(show XOkV z xInf Y_X5_divideNow 26 29 2 (4, 254) from okv_V (q := Y_X5_divideNow) (q1 := Y_X5_ofFinder) Z_X5_ofFinder rfl (by decide) ⟨by decide, by decide, Or.inl ⟨_, _, (List.mem_of_getElem? (l := xCls) (i := 3) rfl)⟩⟩ dX5_divideNow_26 q2630 q2632 qs52 q153 q2633 hy_267), (fun _ h => absurd h List.not_mem_nil)⟩)
theorem kX5_divideNow_29 (z : XKT) : XOi z xInf Y_X5_divideNow 29 (.inl (i_aload 0 30)) := ok_aload_n dX5_divideNow_29 rfl
theorem kX5_divideNow_30 (z : XKT) : XOi z xInf Y_X5_divideNow 30 (.inl (i_iload 1 31)) := ok_iload_n dX5_divideNow_30 rfl
theorem kX5_divideNow_31 (z : XKT) : XOi z xInf Y_X5_divideNow 31 (.inl (i_iload 2 32)) := ok_iload_n dX5_divideNow_31 rfl
theorem kX5_divideNow_32 (z : XKT) : XOi z xInf Y_X5_divideNow 32 (.inr (.inl (35, g_virt [(4, 286)] 2))) := show XOkC z xInf Y_X5_divideNow 32 35 (g_virt [(4, 286)] 2) from okc_V (q := Y_X5_divideNow) (List.forall_mem_cons.mpr ⟨(show XOkV z xInf Y_X5_divideNow 32 35 2 (4, 286) from okv_V (q := Y_X5_divideNow) (q1 := Y_X5_shareAt) Z_X5_shareAt rfl (by decide) ⟨by decide, by decide, Or.inl ⟨_, _, (List.mem_of_getElem? (l := xCls) (i := 3) rfl)⟩⟩ dX5_divideNow_32 q2717 q2719 qs64 q153 q2720 hy_288), (fun _ h => absurd h List.not_mem_nil)⟩)
theorem kX5_divideNow_35 (z : XKT) : XOi z xInf Y_X5_divideNow 35 (.inl (i_bin (fun x y => x + y) 36)) := ok_iadd dX5_divideNow_35
theorem kX5_divideNow_36 (z : XKT) : XOi z xInf Y_X5_divideNow 36 (.inr (.inl (39, g_virt [(4, 242)] 3))) := show XOkC z xInf Y_X5_divideNow 36 39 (g_virt [(4, 242)] 3) from okc_V (q := Y_X5_divideNow) (List.forall_mem_cons.mpr ⟨(show XOkV z xInf Y_X5_divideNow 36 39 3 (4, 242) from okv_V (q := Y_X5_divideNow) (q1 := Y_X5_layFinder) Z_X5_layFinder rfl (by decide) ⟨by decide, by decide, Or.inl ⟨_, _, (List.mem_of_getElem? (l := xCls) (i := 3) rfl)⟩⟩ dX5_divideNow_36 q2495 q2497 qs43 q153 q2498 hy_266), (fun _ h => absurd h List.not_mem_nil)⟩)
theorem kX5_divideNow_39 (z : XKT) : XOi z xInf Y_X5_divideNow 39 (.inl (i_iinc 2 1 42)) := ok_iinc dX5_divideNow_39 rfl
theorem kX5_divideNow_42 (z : XKT) : XOi z xInf Y_X5_divideNow 42 (.inl (i_goto 2)) := ok_goto dX5_divideNow_42 rfl
theorem kX5_divideNow_45 (z : XKT) : XOi z xInf Y_X5_divideNow 45 (.inl (i_aload 0 46)) := ok_aload_n dX5_divideNow_45 rfl
theorem kX5_divideNow_46 (z : XKT) : XOi z xInf Y_X5_divideNow 46 (.inl (i_iload 1 47)) := ok_iload_n dX5_divideNow_46 rfl
theorem kX5_divideNow_47 (z : XKT) : XOi z xInf Y_X5_divideNow 47 (.inr (.inl (50, g_virt [(4, 228)] 1))) := show XOkC z xInf Y_X5_divideNow 47 50 (g_virt [(4, 228)] 1) from okc_V (q := Y_X5_divideNow) (List.forall_mem_cons.mpr ⟨(show XOkV z xInf Y_X5_divideNow 47 50 1 (4, 228) from okv_V (q := Y_X5_divideNow) (q1 := Y_X5_isClaimed) Z_X5_isClaimed rfl (by decide) ⟨by decide, by decide, Or.inl ⟨_, _, (List.mem_of_getElem? (l := xCls) (i := 3) rfl)⟩⟩ dX5_divideNow_47 q2725 q2727 qs66 q153 q2728 hy_280), (fun _ h => absurd h List.not_mem_nil)⟩)
theorem kX5_divideNow_50 (z : XKT) : XOi z xInf Y_X5_divideNow 50 (.inl (i_istore 2 51)) := ok_istore_n dX5_divideNow_50 rfl
theorem kX5_divideNow_51 (z : XKT) : XOi z xInf Y_X5_divideNow 51 (.inl (i_aload 0 52)) := ok_aload_n dX5_divideNow_51 rfl
theorem kX5_divideNow_52 (z : XKT) : XOi z xInf Y_X5_divideNow 52 (.inl (i_getr [4] 40 55)) := ok_getr dX5_divideNow_52 q2517 (List.forall_mem_cons.mpr ⟨⟨_, _, _, _, fd_40_4_0⟩, (fun _ h => absurd h List.not_mem_nil)⟩)
theorem kX5_divideNow_55 (z : XKT) : XOi z xInf Y_X5_divideNow 55 (.inl (i_push (vI 6) 57)) := ok_bipush dX5_divideNow_55 rfl
theorem kX5_divideNow_57 (z : XKT) : XOi z xInf Y_X5_divideNow 57 (.inl (i_dup2 58)) := ok_dup2 dX5_divideNow_57
theorem kX5_divideNow_58 (z : XKT) : XOi z xInf Y_X5_divideNow 58 (.inl (i_ald 1000 59)) := ok_iald dX5_divideNow_58
theorem kX5_divideNow_59 (z : XKT) : XOi z xInf Y_X5_divideNow 59 (.inl (i_aload 0 60)) := ok_aload_n dX5_divideNow_59 rfl
theorem kX5_divideNow_60 (z : XKT) : XOi z xInf Y_X5_divideNow 60 (.inl (i_iload 1 61)) := ok_iload_n dX5_divideNow_60 rfl
theorem kX5_divideNow_61 (z : XKT) : XOi z xInf Y_X5_divideNow 61 (.inl (i_iload 2 62)) := ok_iload_n dX5_divideNow_61 rfl
theorem kX5_divideNow_62 (z : XKT) : XOi z xInf Y_X5_divideNow 62 (.inr (.inl (65, g_virt [(4, 191)] 2))) := show XOkC z xInf Y_X5_divideNow 62 65 (g_virt [(4, 191)] 2) from okc_V (q := Y_X5_divideNow) (List.forall_mem_cons.mpr ⟨(show XOkV z xInf Y_X5_divideNow 62 65 2 (4, 191) from okv_V (q := Y_X5_divideNow) (q1 := Y_X5_crownOf) Z_X5_crownOf rfl (by decide) ⟨by decide, by decide, Or.inl ⟨_, _, (List.mem_of_getElem? (l := xCls) (i := 3) rfl)⟩⟩ dX5_divideNow_62 q2741 q2743 qs70 q153 q2744 hy_282), (fun _ h => absurd h List.not_mem_nil)⟩)
theorem kX5_divideNow_65 (z : XKT) : XOi z xInf Y_X5_divideNow 65 (.inl (i_bin (fun x y => x + y) 66)) := ok_iadd dX5_divideNow_65
theorem kX5_divideNow_66 (z : XKT) : XOi z xInf Y_X5_divideNow 66 (.inl (i_ast z.1 1000 (fun x => x) 67)) := ok_iast dX5_divideNow_66
theorem kX5_divideNow_67 (z : XKT) : XOi z xInf Y_X5_divideNow 67 (.inl (i_iload 2 68)) := ok_iload_n dX5_divideNow_67 rfl
theorem kX5_divideNow_68 (z : XKT) : XOi z xInf Y_X5_divideNow 68 (.inl (i_if (fun x => x = 0) 96 71)) := ok_if_eq dX5_divideNow_68 rfl
theorem kX5_divideNow_71 (z : XKT) : XOi z xInf Y_X5_divideNow 71 (.inl (i_aload 0 72)) := ok_aload_n dX5_divideNow_71 rfl
theorem kX5_divideNow_72 (z : XKT) : XOi z xInf Y_X5_divideNow 72 (.inl (i_getr [4] 40 75)) := ok_getr dX5_divideNow_72 q2517 (List.forall_mem_cons.mpr ⟨⟨_, _, _, _, fd_40_4_0⟩, (fun _ h => absurd h List.not_mem_nil)⟩)
theorem kX5_divideNow_75 (z : XKT) : XOi z xInf Y_X5_divideNow 75 (.inl (i_push (vI 15) 77)) := ok_bipush dX5_divideNow_75 rfl
theorem kX5_divideNow_77 (z : XKT) : XOi z xInf Y_X5_divideNow 77 (.inl (i_aload 0 78)) := ok_aload_n dX5_divideNow_77 rfl
theorem kX5_divideNow_78 (z : XKT) : XOi z xInf Y_X5_divideNow 78 (.inl (i_iload 1 79)) := ok_iload_n dX5_divideNow_78 rfl
theorem kX5_divideNow_79 (z : XKT) : XOi z xInf Y_X5_divideNow 79 (.inl (i_push (vI 2) 80)) := ok_iconst dX5_divideNow_79 rfl
theorem kX5_divideNow_80 (z : XKT) : XOi z xInf Y_X5_divideNow 80 (.inr (.inl (83, g_virt [(4, 253)] 2))) := show XOkC z xInf Y_X5_divideNow 80 83 (g_virt [(4, 253)] 2) from okc_V (q := Y_X5_divideNow) (List.forall_mem_cons.mpr ⟨(show XOkV z xInf Y_X5_divideNow 80 83 2 (4, 253) from okv_V (q := Y_X5_divideNow) (q1 := Y_X5_of) Z_X5_of rfl (by decide) ⟨by decide, by decide, Or.inl ⟨_, _, (List.mem_of_getElem? (l := xCls) (i := 3) rfl)⟩⟩ dX5_divideNow_80 q2622 q2624 qs50 q153 q2625 hy_265), (fun _ h => absurd h List.not_mem_nil)⟩)
theorem kX5_divideNow_83 (z : XKT) : XOi z xInf Y_X5_divideNow 83 (.inl (i_bin (fun x y => x + y) 84)) := ok_iadd dX5_divideNow_83
theorem kX5_divideNow_84 (z : XKT) : XOi z xInf Y_X5_divideNow 84 (.inl (i_push (vI 1) 85)) := ok_iconst dX5_divideNow_84 rfl
theorem kX5_divideNow_85 (z : XKT) : XOi z xInf Y_X5_divideNow 85 (.inl (i_bin (fun x y => x - y) 86)) := ok_isub dX5_divideNow_85
theorem kX5_divideNow_86 (z : XKT) : XOi z xInf Y_X5_divideNow 86 (.inl (i_dup2 87)) := ok_dup2 dX5_divideNow_86
theorem kX5_divideNow_87 (z : XKT) : XOi z xInf Y_X5_divideNow 87 (.inl (i_ald 1000 88)) := ok_iald dX5_divideNow_87
theorem kX5_divideNow_88 (z : XKT) : XOi z xInf Y_X5_divideNow 88 (.inl (i_aload 0 89)) := ok_aload_n dX5_divideNow_88 rfl
theorem kX5_divideNow_89 (z : XKT) : XOi z xInf Y_X5_divideNow 89 (.inl (i_iload 1 90)) := ok_iload_n dX5_divideNow_89 rfl
theorem kX5_divideNow_90 (z : XKT) : XOi z xInf Y_X5_divideNow 90 (.inl (i_push (vI 1) 91)) := ok_iconst dX5_divideNow_90 rfl
theorem kX5_divideNow_91 (z : XKT) : XOi z xInf Y_X5_divideNow 91 (.inr (.inl (94, g_virt [(4, 259)] 2))) := show XOkC z xInf Y_X5_divideNow 91 94 (g_virt [(4, 259)] 2) from okc_V (q := Y_X5_divideNow) (List.forall_mem_cons.mpr ⟨(show XOkV z xInf Y_X5_divideNow 91 94 2 (4, 259) from okv_V (q := Y_X5_divideNow) (q1 := Y_X5_ownerOf) Z_X5_ownerOf rfl (by decide) ⟨by decide, by decide, Or.inl ⟨_, _, (List.mem_of_getElem? (l := xCls) (i := 3) rfl)⟩⟩ dX5_divideNow_91 q2733 q2735 qs68 q153 q2736 hy_281), (fun _ h => absurd h List.not_mem_nil)⟩)
theorem kX5_divideNow_94 (z : XKT) : XOi z xInf Y_X5_divideNow 94 (.inl (i_bin (fun x y => x + y) 95)) := ok_iadd dX5_divideNow_94
theorem kX5_divideNow_95 (z : XKT) : XOi z xInf Y_X5_divideNow 95 (.inl (i_ast z.1 1000 (fun x => x) 96)) := ok_iast dX5_divideNow_95
theorem kX5_divideNow_96 (z : XKT) : XOi z xInf Y_X5_divideNow 96 (.inl (i_aload 0 97)) := ok_aload_n dX5_divideNow_96 rfl
theorem kX5_divideNow_97 (z : XKT) : XOi z xInf Y_X5_divideNow 97 (.inl (i_push (vI 10) 99)) := ok_bipush dX5_divideNow_97 rfl
theorem kX5_divideNow_99 (z : XKT) : XOi z xInf Y_X5_divideNow 99 (.inl (i_aload 0 100)) := ok_aload_n dX5_divideNow_99 rfl
theorem kX5_divideNow_100 (z : XKT) : XOi z xInf Y_X5_divideNow 100 (.inl (i_iload 1 101)) := ok_iload_n dX5_divideNow_100 rfl
theorem kX5_divideNow_101 (z : XKT) : XOi z xInf Y_X5_divideNow 101 (.inr (.inl (104, g_virt [(4, 277)] 1))) := show XOkC z xInf Y_X5_divideNow 101 104 (g_virt [(4, 277)] 1) from okc_V (q := Y_X5_divideNow) (List.forall_mem_cons.mpr ⟨(show XOkV z xInf Y_X5_divideNow 101 104 1 (4, 277) from okv_V (q := Y_X5_divideNow) (q1 := Y_X5_restOf) Z_X5_restOf rfl (by decide) ⟨by decide, by decide, Or.inl ⟨_, _, (List.mem_of_getElem? (l := xCls) (i := 3) rfl)⟩⟩ dX5_divideNow_101 q2745 q2747 qs71 q153 q2748 hy_289), (fun _ h => absurd h List.not_mem_nil)⟩)
theorem kX5_divideNow_104 (z : XKT) : XOi z xInf Y_X5_divideNow 104 (.inr (.inl (107, g_virt [(4, 291)] 2))) := show XOkC z xInf Y_X5_divideNow 104 107 (g_virt [(4, 291)] 2) from okc_V (q := Y_X5_divideNow) (List.forall_mem_cons.mpr ⟨(show XOkV z xInf Y_X5_divideNow 104 107 2 (4, 291) from okv_V (q := Y_X5_divideNow) (q1 := Y_X5_tally) Z_X5_tally rfl (by decide) ⟨by decide, by decide, Or.inl ⟨_, _, (List.mem_of_getElem? (l := xCls) (i := 3) rfl)⟩⟩ dX5_divideNow_104 q2946 q2948 qs91 q153 q2949 hy_290), (fun _ h => absurd h List.not_mem_nil)⟩)
theorem kX5_divideNow_107 (z : XKT) : XOi z xInf Y_X5_divideNow 107 (.inl (i_aload 0 108)) := ok_aload_n dX5_divideNow_107 rfl
theorem kX5_divideNow_108 (z : XKT) : XOi z xInf Y_X5_divideNow 108 (.inl (i_push (vI 5) 109)) := ok_iconst dX5_divideNow_108 rfl
theorem kX5_divideNow_109 (z : XKT) : XOi z xInf Y_X5_divideNow 109 (.inl (i_push (vI 1) 110)) := ok_iconst dX5_divideNow_109 rfl
theorem kX5_divideNow_110 (z : XKT) : XOi z xInf Y_X5_divideNow 110 (.inr (.inl (113, g_virt [(4, 291)] 2))) := show XOkC z xInf Y_X5_divideNow 110 113 (g_virt [(4, 291)] 2) from okc_V (q := Y_X5_divideNow) (List.forall_mem_cons.mpr ⟨(show XOkV z xInf Y_X5_divideNow 110 113 2 (4, 291) from okv_V (q := Y_X5_divideNow) (q1 := Y_X5_tally) Z_X5_tally rfl (by decide) ⟨by decide, by decide, Or.inl ⟨_, _, (List.mem_of_getElem? (l := xCls) (i := 3) rfl)⟩⟩ dX5_divideNow_110 q2946 q2948 qs91 q153 q2949 hy_290), (fun _ h => absurd h List.not_mem_nil)⟩)
theorem kX5_divideNow_113 (z : XKT) : XOi z xInf Y_X5_divideNow 113 (.inl (i_aload 0 114)) := ok_aload_n dX5_divideNow_113 rfl
theorem kX5_divideNow_114 (z : XKT) : XOi z xInf Y_X5_divideNow 114 (.inl (i_push (vI 6) 116)) := ok_bipush dX5_divideNow_114 rfl
theorem kX5_divideNow_116 (z : XKT) : XOi z xInf Y_X5_divideNow 116 (.inl (i_aload 0 117)) := ok_aload_n dX5_divideNow_116 rfl
theorem kX5_divideNow_117 (z : XKT) : XOi z xInf Y_X5_divideNow 117 (.inl (i_iload 1 118)) := ok_iload_n dX5_divideNow_117 rfl
theorem kX5_divideNow_118 (z : XKT) : XOi z xInf Y_X5_divideNow 118 (.inl (i_push (vI 1) 119)) := ok_iconst dX5_divideNow_118 rfl
theorem kX5_divideNow_119 (z : XKT) : XOi z xInf Y_X5_divideNow 119 (.inr (.inl (122, g_virt [(4, 253)] 2))) := show XOkC z xInf Y_X5_divideNow 119 122 (g_virt [(4, 253)] 2) from okc_V (q := Y_X5_divideNow) (List.forall_mem_cons.mpr ⟨(show XOkV z xInf Y_X5_divideNow 119 122 2 (4, 253) from okv_V (q := Y_X5_divideNow) (q1 := Y_X5_of) Z_X5_of rfl (by decide) ⟨by decide, by decide, Or.inl ⟨_, _, (List.mem_of_getElem? (l := xCls) (i := 3) rfl)⟩⟩ dX5_divideNow_119 q2622 q2624 qs50 q153 q2625 hy_265), (fun _ h => absurd h List.not_mem_nil)⟩)
theorem kX5_divideNow_122 (z : XKT) : XOi z xInf Y_X5_divideNow 122 (.inr (.inl (125, g_virt [(4, 291)] 2))) := show XOkC z xInf Y_X5_divideNow 122 125 (g_virt [(4, 291)] 2) from okc_V (q := Y_X5_divideNow) (List.forall_mem_cons.mpr ⟨(show XOkV z xInf Y_X5_divideNow 122 125 2 (4, 291) from okv_V (q := Y_X5_divideNow) (q1 := Y_X5_tally) Z_X5_tally rfl (by decide) ⟨by decide, by decide, Or.inl ⟨_, _, (List.mem_of_getElem? (l := xCls) (i := 3) rfl)⟩⟩ dX5_divideNow_122 q2946 q2948 qs91 q153 q2949 hy_290), (fun _ h => absurd h List.not_mem_nil)⟩)
theorem kX5_divideNow_125 (z : XKT) : XOi z xInf Y_X5_divideNow 125 (.inl (i_aload 0 126)) := ok_aload_n dX5_divideNow_125 rfl
theorem kX5_divideNow_126 (z : XKT) : XOi z xInf Y_X5_divideNow 126 (.inl (i_iload 1 127)) := ok_iload_n dX5_divideNow_126 rfl
theorem kX5_divideNow_127 (z : XKT) : XOi z xInf Y_X5_divideNow 127 (.inl (i_push (vI 5) 128)) := ok_iconst dX5_divideNow_127 rfl
theorem kX5_divideNow_128 (z : XKT) : XOi z xInf Y_X5_divideNow 128 (.inl (i_push (vI 2) 129)) := ok_iconst dX5_divideNow_128 rfl
theorem kX5_divideNow_129 (z : XKT) : XOi z xInf Y_X5_divideNow 129 (.inr (.inl (132, g_virt [(4, 241)] 3))) := show XOkC z xInf Y_X5_divideNow 129 132 (g_virt [(4, 241)] 3) from okc_V (q := Y_X5_divideNow) (List.forall_mem_cons.mpr ⟨(show XOkV z xInf Y_X5_divideNow 129 132 3 (4, 241) from okv_V (q := Y_X5_divideNow) (q1 := Y_X5_lay) Z_X5_lay rfl (by decide) ⟨by decide, by decide, Or.inl ⟨_, _, (List.mem_of_getElem? (l := xCls) (i := 3) rfl)⟩⟩ dX5_divideNow_129 q2503 q2505 qs45 q153 q2506 hy_264), (fun _ h => absurd h List.not_mem_nil)⟩)
theorem kX5_divideNow_132 (z : XKT) : XOi z xInf Y_X5_divideNow 132 (.inr (.inr (.inl r_v))) := show XOkR Y_X5_divideNow 132 (r_v) from okr_v (q := Y_X5_divideNow) rfl dX5_divideNow_132
theorem o_X5_divideNow (z : XKT) : XMi z xInf Y_X5_divideNow := XMi.mk9 (T := T_X5_divideNow z) rfl (⟨kX5_divideNow_0 z, ⟨kX5_divideNow_1 z, ⟨kX5_divideNow_2 z, ⟨kX5_divideNow_3 z, ⟨kX5_divideNow_4 z, ⟨kX5_divideNow_5 z, ⟨kX5_divideNow_7 z, ⟨kX5_divideNow_10 z, ⟨kX5_divideNow_13 z, ⟨kX5_divideNow_14 z, ⟨kX5_divideNow_15 z, ⟨kX5_divideNow_16 z, ⟨kX5_divideNow_19 z, ⟨kX5_divideNow_20 z, ⟨kX5_divideNow_21 z, ⟨kX5_divideNow_22 z, ⟨kX5_divideNow_23 z, ⟨kX5_divideNow_24 z, ⟨kX5_divideNow_25 z, ⟨kX5_divideNow_26 z, ⟨kX5_divideNow_29 z, ⟨kX5_divideNow_30 z, ⟨kX5_divideNow_31 z, ⟨kX5_divideNow_32 z, ⟨kX5_divideNow_35 z, ⟨kX5_divideNow_36 z, ⟨kX5_divideNow_39 z, ⟨kX5_divideNow_42 z, ⟨kX5_divideNow_45 z, ⟨kX5_divideNow_46 z, ⟨kX5_divideNow_47 z, ⟨kX5_divideNow_50 z, ⟨kX5_divideNow_51 z, ⟨kX5_divideNow_52 z, ⟨kX5_divideNow_55 z, ⟨kX5_divideNow_57 z, ⟨kX5_divideNow_58 z, ⟨kX5_divideNow_59 z, ⟨kX5_divideNow_60 z, ⟨kX5_divideNow_61 z, ⟨kX5_divideNow_62 z, ⟨kX5_divideNow_65 z, ⟨kX5_divideNow_66 z, ⟨kX5_divideNow_67 z, ⟨kX5_divideNow_68 z, ⟨kX5_divideNow_71 z, ⟨kX5_divideNow_72 z, ⟨kX5_divideNow_75 z, ⟨kX5_divideNow_77 z, ⟨kX5_divideNow_78 z, ⟨kX5_divideNow_79 z, ⟨kX5_divideNow_80 z, ⟨kX5_divideNow_83 z, ⟨kX5_divideNow_84 z, ⟨kX5_divideNow_85 z, ⟨kX5_divideNow_86 z, ⟨kX5_divideNow_87 z, ⟨kX5_divideNow_88 z, ⟨kX5_divideNow_89 z, ⟨kX5_divideNow_90 z, ⟨kX5_divideNow_91 z, ⟨kX5_divideNow_94 z, ⟨kX5_divideNow_95 z, ⟨kX5_divideNow_96 z, ⟨kX5_divideNow_97 z, ⟨kX5_divideNow_99 z, ⟨kX5_divideNow_100 z, ⟨kX5_divideNow_101 z, ⟨kX5_divideNow_104 z, ⟨kX5_divideNow_107 z, ⟨kX5_divideNow_108 z, ⟨kX5_divideNow_109 z, ⟨kX5_divideNow_110 z, ⟨kX5_divideNow_113 z, ⟨kX5_divideNow_114 z, ⟨kX5_divideNow_116 z, ⟨kX5_divideNow_117 z, ⟨kX5_divideNow_118 z, ⟨kX5_divideNow_119 z, ⟨kX5_divideNow_122 z, ⟨kX5_divideNow_125 z, ⟨kX5_divideNow_126 z, ⟨kX5_divideNow_127 z, ⟨kX5_divideNow_128 z, ⟨kX5_divideNow_129 z, ⟨kX5_divideNow_132 z, trivial⟩⟩⟩⟩⟩⟩⟩⟩⟩⟩⟩⟩⟩⟩⟩⟩⟩⟩⟩⟩⟩⟩⟩⟩⟩⟩⟩⟩⟩⟩⟩⟩⟩⟩⟩⟩⟩⟩⟩⟩⟩⟩⟩⟩⟩⟩⟩⟩⟩⟩⟩⟩⟩⟩⟩⟩⟩⟩⟩⟩⟩⟩⟩⟩⟩⟩⟩⟩⟩⟩⟩⟩⟩⟩⟩⟩⟩⟩⟩⟩⟩⟩⟩⟩⟩⟩) (hd_X5_divideNow z) rfl rfl (by decide +kernel)
theorem hd_X5_divideRefusal (z : XKT) : XHd z Y_X5_divideRefusal := xHd_none rfl (xhd0 rfl)
theorem kX5_divideRefusal_0 (z : XKT) : XOi z xInf Y_X5_divideRefusal 0 (.inl (i_aload 0 1)) := ok_aload_n dX5_divideRefusal_0 rfl
theorem kX5_divideRefusal_1 (z : XKT) : XOi z xInf Y_X5_divideRefusal 1 (.inl (i_iload 1 2)) := ok_iload_n dX5_divideRefusal_1 rfl
theorem kX5_divideRefusal_2 (z : XKT) : XOi z xInf Y_X5_divideRefusal 2 (.inl (i_push (vI 1) 3)) := ok_iconst dX5_divideRefusal_2 rfl
theorem kX5_divideRefusal_3 (z : XKT) : XOi z xInf Y_X5_divideRefusal 3 (.inr (.inl (6, g_virt [(4, 233)] 2))) := show XOkC z xInf Y_X5_divideRefusal 3 6 (g_virt [(4, 233)] 2) from okc_V (q := Y_X5_divideRefusal) (List.forall_mem_cons.mpr ⟨(show XOkV z xInf Y_X5_divideRefusal 3 6 2 (4, 233) from okv_V (q := Y_X5_divideRefusal) (q1 := Y_X5_isIn) Z_X5_isIn rfl (by decide) ⟨by decide, by decide, Or.inl ⟨_, _, (List.mem_of_getElem? (l := xCls) (i := 3) rfl)⟩⟩ dX5_divideRefusal_3 q2618 q2620 qs49 q153 q2621 hy_270), (fun _ h => absurd h List.not_mem_nil)⟩)
theorem kX5_divideRefusal_6 (z : XKT) : XOi z xInf Y_X5_divideRefusal 6 (.inl (i_if (fun x => ¬ x = 0) 12 9)) := ok_if_ne dX5_divideRefusal_6 rfl
theorem kX5_divideRefusal_9 (z : XKT) : XOi z xInf Y_X5_divideRefusal 9 (.inl (i_push (vI (-2)) 11)) := ok_bipush dX5_divideRefusal_9 rfl
theorem kX5_divideRefusal_11 (z : XKT) : XOi z xInf Y_X5_divideRefusal 11 (.inr (.inr (.inl (r_i .int)))) := show XOkR Y_X5_divideRefusal 11 ((r_i .int)) from okr_i (q := Y_X5_divideRefusal) (ty := .int) rfl rfl dX5_divideRefusal_11
theorem kX5_divideRefusal_12 (z : XKT) : XOi z xInf Y_X5_divideRefusal 12 (.inl (i_aload 0 13)) := ok_aload_n dX5_divideRefusal_12 rfl
theorem kX5_divideRefusal_13 (z : XKT) : XOi z xInf Y_X5_divideRefusal 13 (.inl (i_iload 1 14)) := ok_iload_n dX5_divideRefusal_13 rfl
theorem kX5_divideRefusal_14 (z : XKT) : XOi z xInf Y_X5_divideRefusal 14 (.inr (.inl (17, g_virt [(4, 228)] 1))) := show XOkC z xInf Y_X5_divideRefusal 14 17 (g_virt [(4, 228)] 1) from okc_V (q := Y_X5_divideRefusal) (List.forall_mem_cons.mpr ⟨(show XOkV z xInf Y_X5_divideRefusal 14 17 1 (4, 228) from okv_V (q := Y_X5_divideRefusal) (q1 := Y_X5_isClaimed) Z_X5_isClaimed rfl (by decide) ⟨by decide, by decide, Or.inl ⟨_, _, (List.mem_of_getElem? (l := xCls) (i := 3) rfl)⟩⟩ dX5_divideRefusal_14 q2725 q2727 qs66 q153 q2728 hy_280), (fun _ h => absurd h List.not_mem_nil)⟩)
theorem kX5_divideRefusal_17 (z : XKT) : XOi z xInf Y_X5_divideRefusal 17 (.inl (i_if (fun x => ¬ x = 0) 36 20)) := ok_if_ne dX5_divideRefusal_17 rfl
theorem kX5_divideRefusal_20 (z : XKT) : XOi z xInf Y_X5_divideRefusal 20 (.inl (i_aload 0 21)) := ok_aload_n dX5_divideRefusal_20 rfl
theorem kX5_divideRefusal_21 (z : XKT) : XOi z xInf Y_X5_divideRefusal 21 (.inl (i_getr [4] 40 24)) := ok_getr dX5_divideRefusal_21 q2517 (List.forall_mem_cons.mpr ⟨⟨_, _, _, _, fd_40_4_0⟩, (fun _ h => absurd h List.not_mem_nil)⟩)
theorem kX5_divideRefusal_24 (z : XKT) : XOi z xInf Y_X5_divideRefusal 24 (.inl (i_push (vI 0) 25)) := ok_iconst dX5_divideRefusal_24 rfl
theorem kX5_divideRefusal_25 (z : XKT) : XOi z xInf Y_X5_divideRefusal 25 (.inl (i_ald 1000 26)) := ok_iald dX5_divideRefusal_25
theorem kX5_divideRefusal_26 (z : XKT) : XOi z xInf Y_X5_divideRefusal 26 (.inl (i_aload 0 27)) := ok_aload_n dX5_divideRefusal_26 rfl
theorem kX5_divideRefusal_27 (z : XKT) : XOi z xInf Y_X5_divideRefusal 27 (.inl (i_iload 1 28)) := ok_iload_n dX5_divideRefusal_27 rfl
theorem kX5_divideRefusal_28 (z : XKT) : XOi z xInf Y_X5_divideRefusal 28 (.inl (i_push (vI 7) 30)) := ok_bipush dX5_divideRefusal_28 rfl
theorem kX5_divideRefusal_30 (z : XKT) : XOi z xInf Y_X5_divideRefusal 30 (.inr (.inl (33, g_virt [(4, 253)] 2))) := show XOkC z xInf Y_X5_divideRefusal 30 33 (g_virt [(4, 253)] 2) from okc_V (q := Y_X5_divideRefusal) (List.forall_mem_cons.mpr ⟨(show XOkV z xInf Y_X5_divideRefusal 30 33 2 (4, 253) from okv_V (q := Y_X5_divideRefusal) (q1 := Y_X5_of) Z_X5_of rfl (by decide) ⟨by decide, by decide, Or.inl ⟨_, _, (List.mem_of_getElem? (l := xCls) (i := 3) rfl)⟩⟩ dX5_divideRefusal_30 q2622 q2624 qs50 q153 q2625 hy_265), (fun _ h => absurd h List.not_mem_nil)⟩)
theorem kX5_divideRefusal_33 (z : XKT) : XOi z xInf Y_X5_divideRefusal 33 (.inl (i_icmp (fun x y => x ≤ y) 40 36)) := ok_icmp_le dX5_divideRefusal_33 rfl
theorem kX5_divideRefusal_36 (z : XKT) : XOi z xInf Y_X5_divideRefusal 36 (.inl (i_push (vI 0) 37)) := ok_iconst dX5_divideRefusal_36 rfl
theorem kX5_divideRefusal_37 (z : XKT) : XOi z xInf Y_X5_divideRefusal 37 (.inl (i_goto 42)) := ok_goto dX5_divideRefusal_37 rfl
theorem kX5_divideRefusal_40 (z : XKT) : XOi z xInf Y_X5_divideRefusal 40 (.inl (i_push (vI (-3)) 42)) := ok_bipush dX5_divideRefusal_40 rfl
theorem kX5_divideRefusal_42 (z : XKT) : XOi z xInf Y_X5_divideRefusal 42 (.inr (.inr (.inl (r_i .int)))) := show XOkR Y_X5_divideRefusal 42 ((r_i .int)) from okr_i (q := Y_X5_divideRefusal) (ty := .int) rfl rfl dX5_divideRefusal_42
theorem o_X5_divideRefusal (z : XKT) : XMi z xInf Y_X5_divideRefusal := XMi.mk9 (T := T_X5_divideRefusal z) rfl (⟨kX5_divideRefusal_0 z, ⟨kX5_divideRefusal_1 z, ⟨kX5_divideRefusal_2 z, ⟨kX5_divideRefusal_3 z, ⟨kX5_divideRefusal_6 z, ⟨kX5_divideRefusal_9 z, ⟨kX5_divideRefusal_11 z, ⟨kX5_divideRefusal_12 z, ⟨kX5_divideRefusal_13 z, ⟨kX5_divideRefusal_14 z, ⟨kX5_divideRefusal_17 z, ⟨kX5_divideRefusal_20 z, ⟨kX5_divideRefusal_21 z, ⟨kX5_divideRefusal_24 z, ⟨kX5_divideRefusal_25 z, ⟨kX5_divideRefusal_26 z, ⟨kX5_divideRefusal_27 z, ⟨kX5_divideRefusal_28 z, ⟨kX5_divideRefusal_30 z, ⟨kX5_divideRefusal_33 z, ⟨kX5_divideRefusal_36 z, ⟨kX5_divideRefusal_37 z, ⟨kX5_divideRefusal_40 z, ⟨kX5_divideRefusal_42 z, trivial⟩⟩⟩⟩⟩⟩⟩⟩⟩⟩⟩⟩⟩⟩⟩⟩⟩⟩⟩⟩⟩⟩⟩⟩) (hd_X5_divideRefusal z) rfl rfl (by decide +kernel)
theorem hd_X5_doClaim (z : XKT) : XHd z Y_X5_doClaim := xHd_none rfl (xhd0 rfl)
theorem kX5_doClaim_0 (z : XKT) : XOi z xInf Y_X5_doClaim 0 (.inl (i_push (vI 0) 1)) := ok_iconst dX5_doClaim_0 rfl
theorem kX5_doClaim_1 (z : XKT) : XOi z xInf Y_X5_doClaim 1 (.inl (i_istore 2 2)) := ok_istore_n dX5_doClaim_1 rfl
theorem kX5_doClaim_2 (z : XKT) : XOi z xInf Y_X5_doClaim 2 (.inl (i_push (vI 0) 3)) := ok_iconst dX5_doClaim_2 rfl
theorem kX5_doClaim_3 (z : XKT) : XOi z xInf Y_X5_doClaim 3 (.inl (i_istore 3 4)) := ok_istore_n dX5_doClaim_3 rfl
theorem kX5_doClaim_4 (z : XKT) : XOi z xInf Y_X5_doClaim 4 (.inl (i_iload 3 5)) := ok_iload_n dX5_doClaim_4 rfl
theorem kX5_doClaim_5 (z : XKT) : XOi z xInf Y_X5_doClaim 5 (.inl (i_aload 0 6)) := ok_aload_n dX5_doClaim_5 rfl
theorem kX5_doClaim_6 (z : XKT) : XOi z xInf Y_X5_doClaim 6 (.inl (i_getr [4] 40 9)) := ok_getr dX5_doClaim_6 q2517 (List.forall_mem_cons.mpr ⟨⟨_, _, _, _, fd_40_4_0⟩, (fun _ h => absurd h List.not_mem_nil)⟩)
theorem kX5_doClaim_9 (z : XKT) : XOi z xInf Y_X5_doClaim 9 (.inl (i_push (vI 5) 10)) := ok_iconst dX5_doClaim_9 rfl
theorem kX5_doClaim_10 (z : XKT) : XOi z xInf Y_X5_doClaim 10 (.inl (i_ald 1000 11)) := ok_iald dX5_doClaim_10
theorem kX5_doClaim_11 (z : XKT) : XOi z xInf Y_X5_doClaim 11 (.inl (i_icmp (fun x y => y ≤ x) 86 14)) := ok_icmp_ge dX5_doClaim_11 rfl
theorem kX5_doClaim_14 (z : XKT) : XOi z xInf Y_X5_doClaim 14 (.inl (i_aload 0 15)) := ok_aload_n dX5_doClaim_14 rfl
theorem kX5_doClaim_15 (z : XKT) : XOi z xInf Y_X5_doClaim 15 (.inl (i_iload 3 16)) := ok_iload_n dX5_doClaim_15 rfl
theorem kX5_doClaim_16 (z : XKT) : XOi z xInf Y_X5_doClaim 16 (.inl (i_push (vI 1) 17)) := ok_iconst dX5_doClaim_16 rfl
theorem kX5_doClaim_17 (z : XKT) : XOi z xInf Y_X5_doClaim 17 (.inr (.inl (20, g_virt [(4, 233)] 2))) := show XOkC z xInf Y_X5_doClaim 17 20 (g_virt [(4, 233)] 2) from okc_V (q := Y_X5_doClaim) (List.forall_mem_cons.mpr ⟨(show XOkV z xInf Y_X5_doClaim 17 20 2 (4, 233) from okv_V (q := Y_X5_doClaim) (q1 := Y_X5_isIn) Z_X5_isIn rfl (by decide) ⟨by decide, by decide, Or.inl ⟨_, _, (List.mem_of_getElem? (l := xCls) (i := 3) rfl)⟩⟩ dX5_doClaim_17 q2618 q2620 qs49 q153 q2621 hy_270), (fun _ h => absurd h List.not_mem_nil)⟩)
theorem kX5_doClaim_20 (z : XKT) : XOi z xInf Y_X5_doClaim 20 (.inl (i_if (fun x => x = 0) 45 23)) := ok_if_eq dX5_doClaim_20 rfl
theorem kX5_doClaim_23 (z : XKT) : XOi z xInf Y_X5_doClaim 23 (.inl (i_aload 0 24)) := ok_aload_n dX5_doClaim_23 rfl
theorem kX5_doClaim_24 (z : XKT) : XOi z xInf Y_X5_doClaim 24 (.inl (i_iload 3 25)) := ok_iload_n dX5_doClaim_24 rfl
theorem kX5_doClaim_25 (z : XKT) : XOi z xInf Y_X5_doClaim 25 (.inl (i_push (vI 2) 26)) := ok_iconst dX5_doClaim_25 rfl
theorem kX5_doClaim_26 (z : XKT) : XOi z xInf Y_X5_doClaim 26 (.inr (.inl (29, g_virt [(4, 253)] 2))) := show XOkC z xInf Y_X5_doClaim 26 29 (g_virt [(4, 253)] 2) from okc_V (q := Y_X5_doClaim) (List.forall_mem_cons.mpr ⟨(show XOkV z xInf Y_X5_doClaim 26 29 2 (4, 253) from okv_V (q := Y_X5_doClaim) (q1 := Y_X5_of) Z_X5_of rfl (by decide) ⟨by decide, by decide, Or.inl ⟨_, _, (List.mem_of_getElem? (l := xCls) (i := 3) rfl)⟩⟩ dX5_doClaim_26 q2622 q2624 qs50 q153 q2625 hy_265), (fun _ h => absurd h List.not_mem_nil)⟩)
theorem kX5_doClaim_29 (z : XKT) : XOi z xInf Y_X5_doClaim 29 (.inl (i_iload 1 30)) := ok_iload_n dX5_doClaim_29 rfl
theorem kX5_doClaim_30 (z : XKT) : XOi z xInf Y_X5_doClaim 30 (.inl (i_icmp (fun x y => ¬ x = y) 45 33)) := ok_icmp_ne dX5_doClaim_30 rfl
theorem kX5_doClaim_33 (z : XKT) : XOi z xInf Y_X5_doClaim 33 (.inl (i_aload 0 34)) := ok_aload_n dX5_doClaim_33 rfl
theorem kX5_doClaim_34 (z : XKT) : XOi z xInf Y_X5_doClaim 34 (.inl (i_iload 3 35)) := ok_iload_n dX5_doClaim_34 rfl
theorem kX5_doClaim_35 (z : XKT) : XOi z xInf Y_X5_doClaim 35 (.inr (.inl (38, g_virt [(4, 228)] 1))) := show XOkC z xInf Y_X5_doClaim 35 38 (g_virt [(4, 228)] 1) from okc_V (q := Y_X5_doClaim) (List.forall_mem_cons.mpr ⟨(show XOkV z xInf Y_X5_doClaim 35 38 1 (4, 228) from okv_V (q := Y_X5_doClaim) (q1 := Y_X5_isClaimed) Z_X5_isClaimed rfl (by decide) ⟨by decide, by decide, Or.inl ⟨_, _, (List.mem_of_getElem? (l := xCls) (i := 3) rfl)⟩⟩ dX5_doClaim_35 q2725 q2727 qs66 q153 q2728 hy_280), (fun _ h => absurd h List.not_mem_nil)⟩)
theorem kX5_doClaim_38 (z : XKT) : XOi z xInf Y_X5_doClaim 38 (.inl (i_if (fun x => ¬ x = 0) 45 41)) := ok_if_ne dX5_doClaim_38 rfl
theorem kX5_doClaim_41 (z : XKT) : XOi z xInf Y_X5_doClaim 41 (.inl (i_push (vI 1) 42)) := ok_iconst dX5_doClaim_41 rfl
theorem kX5_doClaim_42 (z : XKT) : XOi z xInf Y_X5_doClaim 42 (.inl (i_goto 46)) := ok_goto dX5_doClaim_42 rfl
theorem kX5_doClaim_45 (z : XKT) : XOi z xInf Y_X5_doClaim 45 (.inl (i_push (vI 0) 46)) := ok_iconst dX5_doClaim_45 rfl
theorem kX5_doClaim_46 (z : XKT) : XOi z xInf Y_X5_doClaim 46 (.inl (i_istore 4 48)) := ok_istore dX5_doClaim_46
theorem kX5_doClaim_48 (z : XKT) : XOi z xInf Y_X5_doClaim 48 (.inl (i_iload 4 50)) := ok_iload dX5_doClaim_48
theorem kX5_doClaim_50 (z : XKT) : XOi z xInf Y_X5_doClaim 50 (.inl (i_if (fun x => x = 0) 80 53)) := ok_if_eq dX5_doClaim_50 rfl
theorem kX5_doClaim_53 (z : XKT) : XOi z xInf Y_X5_doClaim 53 (.inl (i_aload 0 54)) := ok_aload_n dX5_doClaim_53 rfl
theorem kX5_doClaim_54 (z : XKT) : XOi z xInf Y_X5_doClaim 54 (.inl (i_getr [4] 40 57)) := ok_getr dX5_doClaim_54 q2517 (List.forall_mem_cons.mpr ⟨⟨_, _, _, _, fd_40_4_0⟩, (fun _ h => absurd h List.not_mem_nil)⟩)
theorem kX5_doClaim_57 (z : XKT) : XOi z xInf Y_X5_doClaim 57 (.inl (i_push (vI 0) 58)) := ok_iconst dX5_doClaim_57 rfl
theorem kX5_doClaim_58 (z : XKT) : XOi z xInf Y_X5_doClaim 58 (.inl (i_ald 1000 59)) := ok_iald dX5_doClaim_58
theorem kX5_doClaim_59 (z : XKT) : XOi z xInf Y_X5_doClaim 59 (.inl (i_aload 0 60)) := ok_aload_n dX5_doClaim_59 rfl
theorem kX5_doClaim_60 (z : XKT) : XOi z xInf Y_X5_doClaim 60 (.inl (i_iload 3 61)) := ok_iload_n dX5_doClaim_60 rfl
theorem kX5_doClaim_61 (z : XKT) : XOi z xInf Y_X5_doClaim 61 (.inl (i_push (vI 7) 63)) := ok_bipush dX5_doClaim_61 rfl
theorem kX5_doClaim_63 (z : XKT) : XOi z xInf Y_X5_doClaim 63 (.inr (.inl (66, g_virt [(4, 253)] 2))) := show XOkC z xInf Y_X5_doClaim 63 66 (g_virt [(4, 253)] 2) from okc_V (q := Y_X5_doClaim) (List.forall_mem_cons.mpr ⟨(show XOkV z xInf Y_X5_doClaim 63 66 2 (4, 253) from okv_V (q := Y_X5_doClaim) (q1 := Y_X5_of) Z_X5_of rfl (by decide) ⟨by decide, by decide, Or.inl ⟨_, _, (List.mem_of_getElem? (l := xCls) (i := 3) rfl)⟩⟩ dX5_doClaim_63 q2622 q2624 qs50 q153 q2625 hy_265), (fun _ h => absurd h List.not_mem_nil)⟩)
theorem kX5_doClaim_66 (z : XKT) : XOi z xInf Y_X5_doClaim 66 (.inl (i_icmp (fun x y => y < x) 80 69)) := ok_icmp_gt dX5_doClaim_66 rfl
theorem kX5_doClaim_69 (z : XKT) : XOi z xInf Y_X5_doClaim 69 (.inl (i_aload 0 70)) := ok_aload_n dX5_doClaim_69 rfl
theorem kX5_doClaim_70 (z : XKT) : XOi z xInf Y_X5_doClaim 70 (.inl (i_iload 3 71)) := ok_iload_n dX5_doClaim_70 rfl
theorem kX5_doClaim_71 (z : XKT) : XOi z xInf Y_X5_doClaim 71 (.inl (i_push (vI 8) 73)) := ok_bipush dX5_doClaim_71 rfl
theorem kX5_doClaim_73 (z : XKT) : XOi z xInf Y_X5_doClaim 73 (.inl (i_push (vI 1) 74)) := ok_iconst dX5_doClaim_73 rfl
theorem kX5_doClaim_74 (z : XKT) : XOi z xInf Y_X5_doClaim 74 (.inr (.inl (77, g_virt [(4, 241)] 3))) := show XOkC z xInf Y_X5_doClaim 74 77 (g_virt [(4, 241)] 3) from okc_V (q := Y_X5_doClaim) (List.forall_mem_cons.mpr ⟨(show XOkV z xInf Y_X5_doClaim 74 77 3 (4, 241) from okv_V (q := Y_X5_doClaim) (q1 := Y_X5_lay) Z_X5_lay rfl (by decide) ⟨by decide, by decide, Or.inl ⟨_, _, (List.mem_of_getElem? (l := xCls) (i := 3) rfl)⟩⟩ dX5_doClaim_74 q2503 q2505 qs45 q153 q2506 hy_264), (fun _ h => absurd h List.not_mem_nil)⟩)
theorem kX5_doClaim_77 (z : XKT) : XOi z xInf Y_X5_doClaim 77 (.inl (i_iinc 2 1 80)) := ok_iinc dX5_doClaim_77 rfl
theorem kX5_doClaim_80 (z : XKT) : XOi z xInf Y_X5_doClaim 80 (.inl (i_iinc 3 1 83)) := ok_iinc dX5_doClaim_80 rfl
theorem kX5_doClaim_83 (z : XKT) : XOi z xInf Y_X5_doClaim 83 (.inl (i_goto 4)) := ok_goto dX5_doClaim_83 rfl
theorem kX5_doClaim_86 (z : XKT) : XOi z xInf Y_X5_doClaim 86 (.inl (i_aload 0 87)) := ok_aload_n dX5_doClaim_86 rfl
theorem kX5_doClaim_87 (z : XKT) : XOi z xInf Y_X5_doClaim 87 (.inl (i_push (vI 9) 89)) := ok_bipush dX5_doClaim_87 rfl
theorem kX5_doClaim_89 (z : XKT) : XOi z xInf Y_X5_doClaim 89 (.inl (i_iload 2 90)) := ok_iload_n dX5_doClaim_89 rfl
theorem kX5_doClaim_90 (z : XKT) : XOi z xInf Y_X5_doClaim 90 (.inr (.inl (93, g_virt [(4, 291)] 2))) := show XOkC z xInf Y_X5_doClaim 90 93 (g_virt [(4, 291)] 2) from okc_V (q := Y_X5_doClaim) (List.forall_mem_cons.mpr ⟨(show XOkV z xInf Y_X5_doClaim 90 93 2 (4, 291) from okv_V (q := Y_X5_doClaim) (q1 := Y_X5_tally) Z_X5_tally rfl (by decide) ⟨by decide, by decide, Or.inl ⟨_, _, (List.mem_of_getElem? (l := xCls) (i := 3) rfl)⟩⟩ dX5_doClaim_90 q2946 q2948 qs91 q153 q2949 hy_290), (fun _ h => absurd h List.not_mem_nil)⟩)
theorem kX5_doClaim_93 (z : XKT) : XOi z xInf Y_X5_doClaim 93 (.inl (i_aload 0 94)) := ok_aload_n dX5_doClaim_93 rfl
theorem kX5_doClaim_94 (z : XKT) : XOi z xInf Y_X5_doClaim 94 (.inl (i_iload 2 95)) := ok_iload_n dX5_doClaim_94 rfl
theorem kX5_doClaim_95 (z : XKT) : XOi z xInf Y_X5_doClaim 95 (.inl (i_if (fun x => ¬ x = 0) 103 98)) := ok_if_ne dX5_doClaim_95 rfl
theorem kX5_doClaim_98 (z : XKT) : XOi z xInf Y_X5_doClaim 98 (.inl (i_push (vI (-2)) 100)) := ok_bipush dX5_doClaim_98 rfl
theorem kX5_doClaim_100 (z : XKT) : XOi z xInf Y_X5_doClaim 100 (.inl (i_goto 104)) := ok_goto dX5_doClaim_100 rfl
theorem kX5_doClaim_103 (z : XKT) : XOi z xInf Y_X5_doClaim 103 (.inl (i_iload 2 104)) := ok_iload_n dX5_doClaim_103 rfl
theorem kX5_doClaim_104 (z : XKT) : XOi z xInf Y_X5_doClaim 104 (.inr (.inl (107, g_virt [(4, 211)] 1))) := show XOkC z xInf Y_X5_doClaim 104 107 (g_virt [(4, 211)] 1) from okc_V (q := Y_X5_doClaim) (List.forall_mem_cons.mpr ⟨(show XOkV z xInf Y_X5_doClaim 104 107 1 (4, 211) from okv_V (q := Y_X5_doClaim) (q1 := Y_X5_ends) Z_X5_ends rfl (by decide) ⟨by decide, by decide, Or.inl ⟨_, _, (List.mem_of_getElem? (l := xCls) (i := 3) rfl)⟩⟩ dX5_doClaim_104 q2890 q2892 qs81 q153 q2893 hy_291), (fun _ h => absurd h List.not_mem_nil)⟩)
theorem kX5_doClaim_107 (z : XKT) : XOi z xInf Y_X5_doClaim 107 (.inr (.inr (.inl (r_i .int)))) := show XOkR Y_X5_doClaim 107 ((r_i .int)) from okr_i (q := Y_X5_doClaim) (ty := .int) rfl rfl dX5_doClaim_107
theorem o_X5_doClaim (z : XKT) : XMi z xInf Y_X5_doClaim := XMi.mk9 (T := T_X5_doClaim z) rfl (⟨kX5_doClaim_0 z, ⟨kX5_doClaim_1 z, ⟨kX5_doClaim_2 z, ⟨kX5_doClaim_3 z, ⟨kX5_doClaim_4 z, ⟨kX5_doClaim_5 z, ⟨kX5_doClaim_6 z, ⟨kX5_doClaim_9 z, ⟨kX5_doClaim_10 z, ⟨kX5_doClaim_11 z, ⟨kX5_doClaim_14 z, ⟨kX5_doClaim_15 z, ⟨kX5_doClaim_16 z, ⟨kX5_doClaim_17 z, ⟨kX5_doClaim_20 z, ⟨kX5_doClaim_23 z, ⟨kX5_doClaim_24 z, ⟨kX5_doClaim_25 z, ⟨kX5_doClaim_26 z, ⟨kX5_doClaim_29 z, ⟨kX5_doClaim_30 z, ⟨kX5_doClaim_33 z, ⟨kX5_doClaim_34 z, ⟨kX5_doClaim_35 z, ⟨kX5_doClaim_38 z, ⟨kX5_doClaim_41 z, ⟨kX5_doClaim_42 z, ⟨kX5_doClaim_45 z, ⟨kX5_doClaim_46 z, ⟨kX5_doClaim_48 z, ⟨kX5_doClaim_50 z, ⟨kX5_doClaim_53 z, ⟨kX5_doClaim_54 z, ⟨kX5_doClaim_57 z, ⟨kX5_doClaim_58 z, ⟨kX5_doClaim_59 z, ⟨kX5_doClaim_60 z, ⟨kX5_doClaim_61 z, ⟨kX5_doClaim_63 z, ⟨kX5_doClaim_66 z, ⟨kX5_doClaim_69 z, ⟨kX5_doClaim_70 z, ⟨kX5_doClaim_71 z, ⟨kX5_doClaim_73 z, ⟨kX5_doClaim_74 z, ⟨kX5_doClaim_77 z, ⟨kX5_doClaim_80 z, ⟨kX5_doClaim_83 z, ⟨kX5_doClaim_86 z, ⟨kX5_doClaim_87 z, ⟨kX5_doClaim_89 z, ⟨kX5_doClaim_90 z, ⟨kX5_doClaim_93 z, ⟨kX5_doClaim_94 z, ⟨kX5_doClaim_95 z, ⟨kX5_doClaim_98 z, ⟨kX5_doClaim_100 z, ⟨kX5_doClaim_103 z, ⟨kX5_doClaim_104 z, ⟨kX5_doClaim_107 z, trivial⟩⟩⟩⟩⟩⟩⟩⟩⟩⟩⟩⟩⟩⟩⟩⟩⟩⟩⟩⟩⟩⟩⟩⟩⟩⟩⟩⟩⟩⟩⟩⟩⟩⟩⟩⟩⟩⟩⟩⟩⟩⟩⟩⟩⟩⟩⟩⟩⟩⟩⟩⟩⟩⟩⟩⟩⟩⟩⟩⟩) (hd_X5_doClaim z) rfl rfl (by decide +kernel)
theorem hd_X5_doDivide (z : XKT) : XHd z Y_X5_doDivide := xHd_none rfl (xhd0 rfl)
theorem kX5_doDivide_0 (z : XKT) : XOi z xInf Y_X5_doDivide 0 (.inl (i_aload 0 1)) := ok_aload_n dX5_doDivide_0 rfl
theorem kX5_doDivide_1 (z : XKT) : XOi z xInf Y_X5_doDivide 1 (.inl (i_iload 1 2)) := ok_iload_n dX5_doDivide_1 rfl
theorem kX5_doDivide_2 (z : XKT) : XOi z xInf Y_X5_doDivide 2 (.inr (.inl (5, g_virt [(4, 197)] 1))) := show XOkC z xInf Y_X5_doDivide 2 5 (g_virt [(4, 197)] 1) from okc_V (q := Y_X5_doDivide) (List.forall_mem_cons.mpr ⟨(show XOkV z xInf Y_X5_doDivide 2 5 1 (4, 197) from okv_V (q := Y_X5_doDivide) (q1 := Y_X5_divideRefusal) Z_X5_divideRefusal rfl (by decide) ⟨by decide, by decide, Or.inl ⟨_, _, (List.mem_of_getElem? (l := xCls) (i := 3) rfl)⟩⟩ dX5_doDivide_2 q2858 q2860 qs78 q153 q2861 hy_292), (fun _ h => absurd h List.not_mem_nil)⟩)
theorem kX5_doDivide_5 (z : XKT) : XOi z xInf Y_X5_doDivide 5 (.inl (i_istore 2 6)) := ok_istore_n dX5_doDivide_5 rfl
theorem kX5_doDivide_6 (z : XKT) : XOi z xInf Y_X5_doDivide 6 (.inl (i_iload 2 7)) := ok_iload_n dX5_doDivide_6 rfl
theorem kX5_doDivide_7 (z : XKT) : XOi z xInf Y_X5_doDivide 7 (.inl (i_if (fun x => x = 0) 16 10)) := ok_if_eq dX5_doDivide_7 rfl
theorem kX5_doDivide_10 (z : XKT) : XOi z xInf Y_X5_doDivide 10 (.inl (i_aload 0 11)) := ok_aload_n dX5_doDivide_10 rfl
theorem kX5_doDivide_11 (z : XKT) : XOi z xInf Y_X5_doDivide 11 (.inl (i_iload 2 12)) := ok_iload_n dX5_doDivide_11 rfl
theorem kX5_doDivide_12 (z : XKT) : XOi z xInf Y_X5_doDivide 12 (.inr (.inl (15, g_virt [(4, 211)] 1))) := show XOkC z xInf Y_X5_doDivide 12 15 (g_virt [(4, 211)] 1) from okc_V (q := Y_X5_doDivide) (List.forall_mem_cons.mpr ⟨(show XOkV z xInf Y_X5_doDivide 12 15 1 (4, 211) from okv_V (q := Y_X5_doDivide) (q1 := Y_X5_ends) Z_X5_ends rfl (by decide) ⟨by decide, by decide, Or.inl ⟨_, _, (List.mem_of_getElem? (l := xCls) (i := 3) rfl)⟩⟩ dX5_doDivide_12 q2890 q2892 qs81 q153 q2893 hy_291), (fun _ h => absurd h List.not_mem_nil)⟩)
theorem kX5_doDivide_15 (z : XKT) : XOi z xInf Y_X5_doDivide 15 (.inr (.inr (.inl (r_i .int)))) := show XOkR Y_X5_doDivide 15 ((r_i .int)) from okr_i (q := Y_X5_doDivide) (ty := .int) rfl rfl dX5_doDivide_15
theorem kX5_doDivide_16 (z : XKT) : XOi z xInf Y_X5_doDivide 16 (.inl (i_aload 0 17)) := ok_aload_n dX5_doDivide_16 rfl
theorem kX5_doDivide_17 (z : XKT) : XOi z xInf Y_X5_doDivide 17 (.inl (i_iload 1 18)) := ok_iload_n dX5_doDivide_17 rfl
theorem kX5_doDivide_18 (z : XKT) : XOi z xInf Y_X5_doDivide 18 (.inr (.inl (21, g_virt [(4, 196)] 1))) := show XOkC z xInf Y_X5_doDivide 18 21 (g_virt [(4, 196)] 1) from okc_V (q := Y_X5_doDivide) (List.forall_mem_cons.mpr ⟨(show XOkV z xInf Y_X5_doDivide 18 21 1 (4, 196) from okv_V (q := Y_X5_doDivide) (q1 := Y_X5_divideNow) Z_X5_divideNow rfl (by decide) ⟨by decide, by decide, Or.inl ⟨_, _, (List.mem_of_getElem? (l := xCls) (i := 3) rfl)⟩⟩ dX5_doDivide_18 q2966 q2968 qs94 q153 q2969 hy_293), (fun _ h => absurd h List.not_mem_nil)⟩)
theorem kX5_doDivide_21 (z : XKT) : XOi z xInf Y_X5_doDivide 21 (.inl (i_aload 0 22)) := ok_aload_n dX5_doDivide_21 rfl
theorem kX5_doDivide_22 (z : XKT) : XOi z xInf Y_X5_doDivide 22 (.inl (i_aload 0 23)) := ok_aload_n dX5_doDivide_22 rfl
theorem kX5_doDivide_23 (z : XKT) : XOi z xInf Y_X5_doDivide 23 (.inl (i_iload 1 24)) := ok_iload_n dX5_doDivide_23 rfl
theorem kX5_doDivide_24 (z : XKT) : XOi z xInf Y_X5_doDivide 24 (.inl (i_aload 0 25)) := ok_aload_n dX5_doDivide_24 rfl
theorem kX5_doDivide_25 (z : XKT) : XOi z xInf Y_X5_doDivide 25 (.inl (i_iload 1 26)) := ok_iload_n dX5_doDivide_25 rfl
theorem kX5_doDivide_26 (z : XKT) : XOi z xInf Y_X5_doDivide 26 (.inr (.inl (29, g_virt [(4, 228)] 1))) := show XOkC z xInf Y_X5_doDivide 26 29 (g_virt [(4, 228)] 1) from okc_V (q := Y_X5_doDivide) (List.forall_mem_cons.mpr ⟨(show XOkV z xInf Y_X5_doDivide 26 29 1 (4, 228) from okv_V (q := Y_X5_doDivide) (q1 := Y_X5_isClaimed) Z_X5_isClaimed rfl (by decide) ⟨by decide, by decide, Or.inl ⟨_, _, (List.mem_of_getElem? (l := xCls) (i := 3) rfl)⟩⟩ dX5_doDivide_26 q2725 q2727 qs66 q153 q2728 hy_280), (fun _ h => absurd h List.not_mem_nil)⟩)
theorem kX5_doDivide_29 (z : XKT) : XOi z xInf Y_X5_doDivide 29 (.inr (.inl (32, g_virt [(4, 191)] 2))) := show XOkC z xInf Y_X5_doDivide 29 32 (g_virt [(4, 191)] 2) from okc_V (q := Y_X5_doDivide) (List.forall_mem_cons.mpr ⟨(show XOkV z xInf Y_X5_doDivide 29 32 2 (4, 191) from okv_V (q := Y_X5_doDivide) (q1 := Y_X5_crownOf) Z_X5_crownOf rfl (by decide) ⟨by decide, by decide, Or.inl ⟨_, _, (List.mem_of_getElem? (l := xCls) (i := 3) rfl)⟩⟩ dX5_doDivide_29 q2741 q2743 qs70 q153 q2744 hy_282), (fun _ h => absurd h List.not_mem_nil)⟩)
theorem kX5_doDivide_32 (z : XKT) : XOi z xInf Y_X5_doDivide 32 (.inr (.inl (35, g_virt [(4, 211)] 1))) := show XOkC z xInf Y_X5_doDivide 32 35 (g_virt [(4, 211)] 1) from okc_V (q := Y_X5_doDivide) (List.forall_mem_cons.mpr ⟨(show XOkV z xInf Y_X5_doDivide 32 35 1 (4, 211) from okv_V (q := Y_X5_doDivide) (q1 := Y_X5_ends) Z_X5_ends rfl (by decide) ⟨by decide, by decide, Or.inl ⟨_, _, (List.mem_of_getElem? (l := xCls) (i := 3) rfl)⟩⟩ dX5_doDivide_32 q2890 q2892 qs81 q153 q2893 hy_291), (fun _ h => absurd h List.not_mem_nil)⟩)
theorem kX5_doDivide_35 (z : XKT) : XOi z xInf Y_X5_doDivide 35 (.inr (.inr (.inl (r_i .int)))) := show XOkR Y_X5_doDivide 35 ((r_i .int)) from okr_i (q := Y_X5_doDivide) (ty := .int) rfl rfl dX5_doDivide_35
theorem o_X5_doDivide (z : XKT) : XMi z xInf Y_X5_doDivide := XMi.mk9 (T := T_X5_doDivide z) rfl (⟨kX5_doDivide_0 z, ⟨kX5_doDivide_1 z, ⟨kX5_doDivide_2 z, ⟨kX5_doDivide_5 z, ⟨kX5_doDivide_6 z, ⟨kX5_doDivide_7 z, ⟨kX5_doDivide_10 z, ⟨kX5_doDivide_11 z, ⟨kX5_doDivide_12 z, ⟨kX5_doDivide_15 z, ⟨kX5_doDivide_16 z, ⟨kX5_doDivide_17 z, ⟨kX5_doDivide_18 z, ⟨kX5_doDivide_21 z, ⟨kX5_doDivide_22 z, ⟨kX5_doDivide_23 z, ⟨kX5_doDivide_24 z, ⟨kX5_doDivide_25 z, ⟨kX5_doDivide_26 z, ⟨kX5_doDivide_29 z, ⟨kX5_doDivide_32 z, ⟨kX5_doDivide_35 z, trivial⟩⟩⟩⟩⟩⟩⟩⟩⟩⟩⟩⟩⟩⟩⟩⟩⟩⟩⟩⟩⟩⟩) (hd_X5_doDivide z) rfl rfl (by decide +kernel)
theorem hd_X5_doDivideAll (z : XKT) : XHd z Y_X5_doDivideAll := xHd_none rfl (xhd0 rfl)
theorem kX5_doDivideAll_0 (z : XKT) : XOi z xInf Y_X5_doDivideAll 0 (.inl (i_push (vI 0) 1)) := ok_iconst dX5_doDivideAll_0 rfl
theorem kX5_doDivideAll_1 (z : XKT) : XOi z xInf Y_X5_doDivideAll 1 (.inl (i_istore 1 2)) := ok_istore_n dX5_doDivideAll_1 rfl
theorem kX5_doDivideAll_2 (z : XKT) : XOi z xInf Y_X5_doDivideAll 2 (.inl (i_push (vI 0) 3)) := ok_iconst dX5_doDivideAll_2 rfl
theorem kX5_doDivideAll_3 (z : XKT) : XOi z xInf Y_X5_doDivideAll 3 (.inl (i_istore 2 4)) := ok_istore_n dX5_doDivideAll_3 rfl
theorem kX5_doDivideAll_4 (z : XKT) : XOi z xInf Y_X5_doDivideAll 4 (.inl (i_iload 2 5)) := ok_iload_n dX5_doDivideAll_4 rfl
theorem kX5_doDivideAll_5 (z : XKT) : XOi z xInf Y_X5_doDivideAll 5 (.inl (i_aload 0 6)) := ok_aload_n dX5_doDivideAll_5 rfl
theorem kX5_doDivideAll_6 (z : XKT) : XOi z xInf Y_X5_doDivideAll 6 (.inl (i_getr [4] 40 9)) := ok_getr dX5_doDivideAll_6 q2517 (List.forall_mem_cons.mpr ⟨⟨_, _, _, _, fd_40_4_0⟩, (fun _ h => absurd h List.not_mem_nil)⟩)
theorem kX5_doDivideAll_9 (z : XKT) : XOi z xInf Y_X5_doDivideAll 9 (.inl (i_push (vI 5) 10)) := ok_iconst dX5_doDivideAll_9 rfl
theorem kX5_doDivideAll_10 (z : XKT) : XOi z xInf Y_X5_doDivideAll 10 (.inl (i_ald 1000 11)) := ok_iald dX5_doDivideAll_10
theorem kX5_doDivideAll_11 (z : XKT) : XOi z xInf Y_X5_doDivideAll 11 (.inl (i_icmp (fun x y => y ≤ x) 36 14)) := ok_icmp_ge dX5_doDivideAll_11 rfl
theorem kX5_doDivideAll_14 (z : XKT) : XOi z xInf Y_X5_doDivideAll 14 (.inl (i_aload 0 15)) := ok_aload_n dX5_doDivideAll_14 rfl
theorem kX5_doDivideAll_15 (z : XKT) : XOi z xInf Y_X5_doDivideAll 15 (.inl (i_iload 2 16)) := ok_iload_n dX5_doDivideAll_15 rfl
theorem kX5_doDivideAll_16 (z : XKT) : XOi z xInf Y_X5_doDivideAll 16 (.inr (.inl (19, g_virt [(4, 197)] 1))) := show XOkC z xInf Y_X5_doDivideAll 16 19 (g_virt [(4, 197)] 1) from okc_V (q := Y_X5_doDivideAll) (List.forall_mem_cons.mpr ⟨(show XOkV z xInf Y_X5_doDivideAll 16 19 1 (4, 197) from okv_V (q := Y_X5_doDivideAll) (q1 := Y_X5_divideRefusal) Z_X5_divideRefusal rfl (by decide) ⟨by decide, by decide, Or.inl ⟨_, _, (List.mem_of_getElem? (l := xCls) (i := 3) rfl)⟩⟩ dX5_doDivideAll_16 q2858 q2860 qs78 q153 q2861 hy_292), (fun _ h => absurd h List.not_mem_nil)⟩)
theorem kX5_doDivideAll_19 (z : XKT) : XOi z xInf Y_X5_doDivideAll 19 (.inl (i_if (fun x => ¬ x = 0) 30 22)) := ok_if_ne dX5_doDivideAll_19 rfl
theorem kX5_doDivideAll_22 (z : XKT) : XOi z xInf Y_X5_doDivideAll 22 (.inl (i_aload 0 23)) := ok_aload_n dX5_doDivideAll_22 rfl
theorem kX5_doDivideAll_23 (z : XKT) : XOi z xInf Y_X5_doDivideAll 23 (.inl (i_iload 2 24)) := ok_iload_n dX5_doDivideAll_23 rfl
theorem kX5_doDivideAll_24 (z : XKT) : XOi z xInf Y_X5_doDivideAll 24 (.inr (.inl (27, g_virt [(4, 196)] 1))) := show XOkC z xInf Y_X5_doDivideAll 24 27 (g_virt [(4, 196)] 1) from okc_V (q := Y_X5_doDivideAll) (List.forall_mem_cons.mpr ⟨(show XOkV z xInf Y_X5_doDivideAll 24 27 1 (4, 196) from okv_V (q := Y_X5_doDivideAll) (q1 := Y_X5_divideNow) Z_X5_divideNow rfl (by decide) ⟨by decide, by decide, Or.inl ⟨_, _, (List.mem_of_getElem? (l := xCls) (i := 3) rfl)⟩⟩ dX5_doDivideAll_24 q2966 q2968 qs94 q153 q2969 hy_293), (fun _ h => absurd h List.not_mem_nil)⟩)
theorem kX5_doDivideAll_27 (z : XKT) : XOi z xInf Y_X5_doDivideAll 27 (.inl (i_iinc 1 1 30)) := ok_iinc dX5_doDivideAll_27 rfl
theorem kX5_doDivideAll_30 (z : XKT) : XOi z xInf Y_X5_doDivideAll 30 (.inl (i_iinc 2 1 33)) := ok_iinc dX5_doDivideAll_30 rfl
theorem kX5_doDivideAll_33 (z : XKT) : XOi z xInf Y_X5_doDivideAll 33 (.inl (i_goto 4)) := ok_goto dX5_doDivideAll_33 rfl
theorem kX5_doDivideAll_36 (z : XKT) : XOi z xInf Y_X5_doDivideAll 36 (.inl (i_aload 0 37)) := ok_aload_n dX5_doDivideAll_36 rfl
theorem kX5_doDivideAll_37 (z : XKT) : XOi z xInf Y_X5_doDivideAll 37 (.inl (i_iload 1 38)) := ok_iload_n dX5_doDivideAll_37 rfl
theorem kX5_doDivideAll_38 (z : XKT) : XOi z xInf Y_X5_doDivideAll 38 (.inl (i_if (fun x => ¬ x = 0) 46 41)) := ok_if_ne dX5_doDivideAll_38 rfl
theorem kX5_doDivideAll_41 (z : XKT) : XOi z xInf Y_X5_doDivideAll 41 (.inl (i_push (vI (-2)) 43)) := ok_bipush dX5_doDivideAll_41 rfl
theorem kX5_doDivideAll_43 (z : XKT) : XOi z xInf Y_X5_doDivideAll 43 (.inl (i_goto 47)) := ok_goto dX5_doDivideAll_43 rfl
theorem kX5_doDivideAll_46 (z : XKT) : XOi z xInf Y_X5_doDivideAll 46 (.inl (i_iload 1 47)) := ok_iload_n dX5_doDivideAll_46 rfl
theorem kX5_doDivideAll_47 (z : XKT) : XOi z xInf Y_X5_doDivideAll 47 (.inr (.inl (50, g_virt [(4, 211)] 1))) := show XOkC z xInf Y_X5_doDivideAll 47 50 (g_virt [(4, 211)] 1) from okc_V (q := Y_X5_doDivideAll) (List.forall_mem_cons.mpr ⟨(show XOkV z xInf Y_X5_doDivideAll 47 50 1 (4, 211) from okv_V (q := Y_X5_doDivideAll) (q1 := Y_X5_ends) Z_X5_ends rfl (by decide) ⟨by decide, by decide, Or.inl ⟨_, _, (List.mem_of_getElem? (l := xCls) (i := 3) rfl)⟩⟩ dX5_doDivideAll_47 q2890 q2892 qs81 q153 q2893 hy_291), (fun _ h => absurd h List.not_mem_nil)⟩)
theorem kX5_doDivideAll_50 (z : XKT) : XOi z xInf Y_X5_doDivideAll 50 (.inr (.inr (.inl (r_i .int)))) := show XOkR Y_X5_doDivideAll 50 ((r_i .int)) from okr_i (q := Y_X5_doDivideAll) (ty := .int) rfl rfl dX5_doDivideAll_50
theorem o_X5_doDivideAll (z : XKT) : XMi z xInf Y_X5_doDivideAll := XMi.mk9 (T := T_X5_doDivideAll z) rfl (⟨kX5_doDivideAll_0 z, ⟨kX5_doDivideAll_1 z, ⟨kX5_doDivideAll_2 z, ⟨kX5_doDivideAll_3 z, ⟨kX5_doDivideAll_4 z, ⟨kX5_doDivideAll_5 z, ⟨kX5_doDivideAll_6 z, ⟨kX5_doDivideAll_9 z, ⟨kX5_doDivideAll_10 z, ⟨kX5_doDivideAll_11 z, ⟨kX5_doDivideAll_14 z, ⟨kX5_doDivideAll_15 z, ⟨kX5_doDivideAll_16 z, ⟨kX5_doDivideAll_19 z, ⟨kX5_doDivideAll_22 z, ⟨kX5_doDivideAll_23 z, ⟨kX5_doDivideAll_24 z, ⟨kX5_doDivideAll_27 z, ⟨kX5_doDivideAll_30 z, ⟨kX5_doDivideAll_33 z, ⟨kX5_doDivideAll_36 z, ⟨kX5_doDivideAll_37 z, ⟨kX5_doDivideAll_38 z, ⟨kX5_doDivideAll_41 z, ⟨kX5_doDivideAll_43 z, ⟨kX5_doDivideAll_46 z, ⟨kX5_doDivideAll_47 z, ⟨kX5_doDivideAll_50 z, trivial⟩⟩⟩⟩⟩⟩⟩⟩⟩⟩⟩⟩⟩⟩⟩⟩⟩⟩⟩⟩⟩⟩⟩⟩⟩⟩⟩⟩) (hd_X5_doDivideAll z) rfl rfl (by decide +kernel)
theorem hd_X5_doHaul (z : XKT) : XHd z Y_X5_doHaul := xHd_none rfl (xhd0 rfl)
theorem kX5_doHaul_0 (z : XKT) : XOi z xInf Y_X5_doHaul 0 (.inl (i_aload 0 1)) := ok_aload_n dX5_doHaul_0 rfl
theorem kX5_doHaul_1 (z : XKT) : XOi z xInf Y_X5_doHaul 1 (.inl (i_iload 1 2)) := ok_iload_n dX5_doHaul_1 rfl
theorem kX5_doHaul_2 (z : XKT) : XOi z xInf Y_X5_doHaul 2 (.inr (.inl (5, g_virt [(4, 225)] 1))) := show XOkC z xInf Y_X5_doHaul 2 5 (g_virt [(4, 225)] 1) from okc_V (q := Y_X5_doHaul) (List.forall_mem_cons.mpr ⟨(show XOkV z xInf Y_X5_doHaul 2 5 1 (4, 225) from okv_V (q := Y_X5_doHaul) (q1 := Y_X5_haulRefusal) Z_X5_haulRefusal rfl (by decide) ⟨by decide, by decide, Or.inl ⟨_, _, (List.mem_of_getElem? (l := xCls) (i := 3) rfl)⟩⟩ dX5_doHaul_2 q2846 q2848 qs77 q153 q2849 hy_273), (fun _ h => absurd h List.not_mem_nil)⟩)
theorem kX5_doHaul_5 (z : XKT) : XOi z xInf Y_X5_doHaul 5 (.inl (i_istore 2 6)) := ok_istore_n dX5_doHaul_5 rfl
theorem kX5_doHaul_6 (z : XKT) : XOi z xInf Y_X5_doHaul 6 (.inl (i_iload 2 7)) := ok_iload_n dX5_doHaul_6 rfl
theorem kX5_doHaul_7 (z : XKT) : XOi z xInf Y_X5_doHaul 7 (.inl (i_if (fun x => x = 0) 16 10)) := ok_if_eq dX5_doHaul_7 rfl
theorem kX5_doHaul_10 (z : XKT) : XOi z xInf Y_X5_doHaul 10 (.inl (i_aload 0 11)) := ok_aload_n dX5_doHaul_10 rfl
theorem kX5_doHaul_11 (z : XKT) : XOi z xInf Y_X5_doHaul 11 (.inl (i_iload 2 12)) := ok_iload_n dX5_doHaul_11 rfl
theorem kX5_doHaul_12 (z : XKT) : XOi z xInf Y_X5_doHaul 12 (.inr (.inl (15, g_virt [(4, 211)] 1))) := show XOkC z xInf Y_X5_doHaul 12 15 (g_virt [(4, 211)] 1) from okc_V (q := Y_X5_doHaul) (List.forall_mem_cons.mpr ⟨(show XOkV z xInf Y_X5_doHaul 12 15 1 (4, 211) from okv_V (q := Y_X5_doHaul) (q1 := Y_X5_ends) Z_X5_ends rfl (by decide) ⟨by decide, by decide, Or.inl ⟨_, _, (List.mem_of_getElem? (l := xCls) (i := 3) rfl)⟩⟩ dX5_doHaul_12 q2890 q2892 qs81 q153 q2893 hy_291), (fun _ h => absurd h List.not_mem_nil)⟩)
theorem kX5_doHaul_15 (z : XKT) : XOi z xInf Y_X5_doHaul 15 (.inr (.inr (.inl (r_i .int)))) := show XOkR Y_X5_doHaul 15 ((r_i .int)) from okr_i (q := Y_X5_doHaul) (ty := .int) rfl rfl dX5_doHaul_15
theorem kX5_doHaul_16 (z : XKT) : XOi z xInf Y_X5_doHaul 16 (.inl (i_aload 0 17)) := ok_aload_n dX5_doHaul_16 rfl
theorem kX5_doHaul_17 (z : XKT) : XOi z xInf Y_X5_doHaul 17 (.inl (i_iload 1 18)) := ok_iload_n dX5_doHaul_17 rfl
theorem kX5_doHaul_18 (z : XKT) : XOi z xInf Y_X5_doHaul 18 (.inr (.inl (21, g_virt [(4, 243)] 1))) := show XOkC z xInf Y_X5_doHaul 18 21 (g_virt [(4, 243)] 1) from okc_V (q := Y_X5_doHaul) (List.forall_mem_cons.mpr ⟨(show XOkV z xInf Y_X5_doHaul 18 21 1 (4, 243) from okv_V (q := Y_X5_doHaul) (q1 := Y_X5_letGo) Z_X5_letGo rfl (by decide) ⟨by decide, by decide, Or.inl ⟨_, _, (List.mem_of_getElem? (l := xCls) (i := 3) rfl)⟩⟩ dX5_doHaul_18 q2942 q2944 qs90 q153 q2945 hy_294), (fun _ h => absurd h List.not_mem_nil)⟩)
theorem kX5_doHaul_21 (z : XKT) : XOi z xInf Y_X5_doHaul 21 (.inl (i_aload 0 22)) := ok_aload_n dX5_doHaul_21 rfl
theorem kX5_doHaul_22 (z : XKT) : XOi z xInf Y_X5_doHaul 22 (.inl (i_iload 1 23)) := ok_iload_n dX5_doHaul_22 rfl
theorem kX5_doHaul_23 (z : XKT) : XOi z xInf Y_X5_doHaul 23 (.inl (i_push (vI 5) 24)) := ok_iconst dX5_doHaul_23 rfl
theorem kX5_doHaul_24 (z : XKT) : XOi z xInf Y_X5_doHaul 24 (.inl (i_push (vI 1) 25)) := ok_iconst dX5_doHaul_24 rfl
theorem kX5_doHaul_25 (z : XKT) : XOi z xInf Y_X5_doHaul 25 (.inr (.inl (28, g_virt [(4, 241)] 3))) := show XOkC z xInf Y_X5_doHaul 25 28 (g_virt [(4, 241)] 3) from okc_V (q := Y_X5_doHaul) (List.forall_mem_cons.mpr ⟨(show XOkV z xInf Y_X5_doHaul 25 28 3 (4, 241) from okv_V (q := Y_X5_doHaul) (q1 := Y_X5_lay) Z_X5_lay rfl (by decide) ⟨by decide, by decide, Or.inl ⟨_, _, (List.mem_of_getElem? (l := xCls) (i := 3) rfl)⟩⟩ dX5_doHaul_25 q2503 q2505 qs45 q153 q2506 hy_264), (fun _ h => absurd h List.not_mem_nil)⟩)
theorem kX5_doHaul_28 (z : XKT) : XOi z xInf Y_X5_doHaul 28 (.inl (i_aload 0 29)) := ok_aload_n dX5_doHaul_28 rfl
theorem kX5_doHaul_29 (z : XKT) : XOi z xInf Y_X5_doHaul 29 (.inl (i_iload 1 30)) := ok_iload_n dX5_doHaul_29 rfl
theorem kX5_doHaul_30 (z : XKT) : XOi z xInf Y_X5_doHaul 30 (.inl (i_push (vI 7) 32)) := ok_bipush dX5_doHaul_30 rfl
theorem kX5_doHaul_32 (z : XKT) : XOi z xInf Y_X5_doHaul 32 (.inl (i_aload 0 33)) := ok_aload_n dX5_doHaul_32 rfl
theorem kX5_doHaul_33 (z : XKT) : XOi z xInf Y_X5_doHaul 33 (.inl (i_getr [4] 40 36)) := ok_getr dX5_doHaul_33 q2517 (List.forall_mem_cons.mpr ⟨⟨_, _, _, _, fd_40_4_0⟩, (fun _ h => absurd h List.not_mem_nil)⟩)
theorem kX5_doHaul_36 (z : XKT) : XOi z xInf Y_X5_doHaul 36 (.inl (i_push (vI 0) 37)) := ok_iconst dX5_doHaul_36 rfl
theorem kX5_doHaul_37 (z : XKT) : XOi z xInf Y_X5_doHaul 37 (.inl (i_ald 1000 38)) := ok_iald dX5_doHaul_37
theorem kX5_doHaul_38 (z : XKT) : XOi z xInf Y_X5_doHaul 38 (.inl (i_aload 0 39)) := ok_aload_n dX5_doHaul_38 rfl
theorem kX5_doHaul_39 (z : XKT) : XOi z xInf Y_X5_doHaul 39 (.inl (i_getr [4] 40 42)) := ok_getr dX5_doHaul_39 q2517 (List.forall_mem_cons.mpr ⟨⟨_, _, _, _, fd_40_4_0⟩, (fun _ h => absurd h List.not_mem_nil)⟩)
theorem kX5_doHaul_42 (z : XKT) : XOi z xInf Y_X5_doHaul 42 (.inl (i_push (vI 3) 43)) := ok_iconst dX5_doHaul_42 rfl
theorem kX5_doHaul_43 (z : XKT) : XOi z xInf Y_X5_doHaul 43 (.inl (i_ald 1000 44)) := ok_iald dX5_doHaul_43
theorem kX5_doHaul_44 (z : XKT) : XOi z xInf Y_X5_doHaul 44 (.inl (i_bin (fun x y => x + y) 45)) := ok_iadd dX5_doHaul_44
theorem kX5_doHaul_45 (z : XKT) : XOi z xInf Y_X5_doHaul 45 (.inr (.inl (48, g_virt [(4, 241)] 3))) := show XOkC z xInf Y_X5_doHaul 45 48 (g_virt [(4, 241)] 3) from okc_V (q := Y_X5_doHaul) (List.forall_mem_cons.mpr ⟨(show XOkV z xInf Y_X5_doHaul 45 48 3 (4, 241) from okv_V (q := Y_X5_doHaul) (q1 := Y_X5_lay) Z_X5_lay rfl (by decide) ⟨by decide, by decide, Or.inl ⟨_, _, (List.mem_of_getElem? (l := xCls) (i := 3) rfl)⟩⟩ dX5_doHaul_45 q2503 q2505 qs45 q153 q2506 hy_264), (fun _ h => absurd h List.not_mem_nil)⟩)
theorem kX5_doHaul_48 (z : XKT) : XOi z xInf Y_X5_doHaul 48 (.inl (i_aload 0 49)) := ok_aload_n dX5_doHaul_48 rfl
theorem kX5_doHaul_49 (z : XKT) : XOi z xInf Y_X5_doHaul 49 (.inl (i_push (vI 3) 50)) := ok_iconst dX5_doHaul_49 rfl
theorem kX5_doHaul_50 (z : XKT) : XOi z xInf Y_X5_doHaul 50 (.inl (i_push (vI 1) 51)) := ok_iconst dX5_doHaul_50 rfl
theorem kX5_doHaul_51 (z : XKT) : XOi z xInf Y_X5_doHaul 51 (.inr (.inl (54, g_virt [(4, 291)] 2))) := show XOkC z xInf Y_X5_doHaul 51 54 (g_virt [(4, 291)] 2) from okc_V (q := Y_X5_doHaul) (List.forall_mem_cons.mpr ⟨(show XOkV z xInf Y_X5_doHaul 51 54 2 (4, 291) from okv_V (q := Y_X5_doHaul) (q1 := Y_X5_tally) Z_X5_tally rfl (by decide) ⟨by decide, by decide, Or.inl ⟨_, _, (List.mem_of_getElem? (l := xCls) (i := 3) rfl)⟩⟩ dX5_doHaul_51 q2946 q2948 qs91 q153 q2949 hy_290), (fun _ h => absurd h List.not_mem_nil)⟩)
theorem kX5_doHaul_54 (z : XKT) : XOi z xInf Y_X5_doHaul 54 (.inl (i_aload 0 55)) := ok_aload_n dX5_doHaul_54 rfl
theorem kX5_doHaul_55 (z : XKT) : XOi z xInf Y_X5_doHaul 55 (.inl (i_push (vI 4) 56)) := ok_iconst dX5_doHaul_55 rfl
theorem kX5_doHaul_56 (z : XKT) : XOi z xInf Y_X5_doHaul 56 (.inl (i_aload 0 57)) := ok_aload_n dX5_doHaul_56 rfl
theorem kX5_doHaul_57 (z : XKT) : XOi z xInf Y_X5_doHaul 57 (.inl (i_iload 1 58)) := ok_iload_n dX5_doHaul_57 rfl
theorem kX5_doHaul_58 (z : XKT) : XOi z xInf Y_X5_doHaul 58 (.inl (i_push (vI 1) 59)) := ok_iconst dX5_doHaul_58 rfl
theorem kX5_doHaul_59 (z : XKT) : XOi z xInf Y_X5_doHaul 59 (.inr (.inl (62, g_virt [(4, 253)] 2))) := show XOkC z xInf Y_X5_doHaul 59 62 (g_virt [(4, 253)] 2) from okc_V (q := Y_X5_doHaul) (List.forall_mem_cons.mpr ⟨(show XOkV z xInf Y_X5_doHaul 59 62 2 (4, 253) from okv_V (q := Y_X5_doHaul) (q1 := Y_X5_of) Z_X5_of rfl (by decide) ⟨by decide, by decide, Or.inl ⟨_, _, (List.mem_of_getElem? (l := xCls) (i := 3) rfl)⟩⟩ dX5_doHaul_59 q2622 q2624 qs50 q153 q2625 hy_265), (fun _ h => absurd h List.not_mem_nil)⟩)
theorem kX5_doHaul_62 (z : XKT) : XOi z xInf Y_X5_doHaul 62 (.inr (.inl (65, g_virt [(4, 291)] 2))) := show XOkC z xInf Y_X5_doHaul 62 65 (g_virt [(4, 291)] 2) from okc_V (q := Y_X5_doHaul) (List.forall_mem_cons.mpr ⟨(show XOkV z xInf Y_X5_doHaul 62 65 2 (4, 291) from okv_V (q := Y_X5_doHaul) (q1 := Y_X5_tally) Z_X5_tally rfl (by decide) ⟨by decide, by decide, Or.inl ⟨_, _, (List.mem_of_getElem? (l := xCls) (i := 3) rfl)⟩⟩ dX5_doHaul_62 q2946 q2948 qs91 q153 q2949 hy_290), (fun _ h => absurd h List.not_mem_nil)⟩)
theorem kX5_doHaul_65 (z : XKT) : XOi z xInf Y_X5_doHaul 65 (.inl (i_aload 0 66)) := ok_aload_n dX5_doHaul_65 rfl
theorem kX5_doHaul_66 (z : XKT) : XOi z xInf Y_X5_doHaul 66 (.inl (i_aload 0 67)) := ok_aload_n dX5_doHaul_66 rfl
theorem kX5_doHaul_67 (z : XKT) : XOi z xInf Y_X5_doHaul 67 (.inl (i_iload 1 68)) := ok_iload_n dX5_doHaul_67 rfl
theorem kX5_doHaul_68 (z : XKT) : XOi z xInf Y_X5_doHaul 68 (.inl (i_push (vI 7) 70)) := ok_bipush dX5_doHaul_68 rfl
theorem kX5_doHaul_70 (z : XKT) : XOi z xInf Y_X5_doHaul 70 (.inr (.inl (73, g_virt [(4, 253)] 2))) := show XOkC z xInf Y_X5_doHaul 70 73 (g_virt [(4, 253)] 2) from okc_V (q := Y_X5_doHaul) (List.forall_mem_cons.mpr ⟨(show XOkV z xInf Y_X5_doHaul 70 73 2 (4, 253) from okv_V (q := Y_X5_doHaul) (q1 := Y_X5_of) Z_X5_of rfl (by decide) ⟨by decide, by decide, Or.inl ⟨_, _, (List.mem_of_getElem? (l := xCls) (i := 3) rfl)⟩⟩ dX5_doHaul_70 q2622 q2624 qs50 q153 q2625 hy_265), (fun _ h => absurd h List.not_mem_nil)⟩)
theorem kX5_doHaul_73 (z : XKT) : XOi z xInf Y_X5_doHaul 73 (.inr (.inl (76, g_virt [(4, 211)] 1))) := show XOkC z xInf Y_X5_doHaul 73 76 (g_virt [(4, 211)] 1) from okc_V (q := Y_X5_doHaul) (List.forall_mem_cons.mpr ⟨(show XOkV z xInf Y_X5_doHaul 73 76 1 (4, 211) from okv_V (q := Y_X5_doHaul) (q1 := Y_X5_ends) Z_X5_ends rfl (by decide) ⟨by decide, by decide, Or.inl ⟨_, _, (List.mem_of_getElem? (l := xCls) (i := 3) rfl)⟩⟩ dX5_doHaul_73 q2890 q2892 qs81 q153 q2893 hy_291), (fun _ h => absurd h List.not_mem_nil)⟩)
theorem kX5_doHaul_76 (z : XKT) : XOi z xInf Y_X5_doHaul 76 (.inr (.inr (.inl (r_i .int)))) := show XOkR Y_X5_doHaul 76 ((r_i .int)) from okr_i (q := Y_X5_doHaul) (ty := .int) rfl rfl dX5_doHaul_76
theorem o_X5_doHaul (z : XKT) : XMi z xInf Y_X5_doHaul := XMi.mk9 (T := T_X5_doHaul z) rfl (⟨kX5_doHaul_0 z, ⟨kX5_doHaul_1 z, ⟨kX5_doHaul_2 z, ⟨kX5_doHaul_5 z, ⟨kX5_doHaul_6 z, ⟨kX5_doHaul_7 z, ⟨kX5_doHaul_10 z, ⟨kX5_doHaul_11 z, ⟨kX5_doHaul_12 z, ⟨kX5_doHaul_15 z, ⟨kX5_doHaul_16 z, ⟨kX5_doHaul_17 z, ⟨kX5_doHaul_18 z, ⟨kX5_doHaul_21 z, ⟨kX5_doHaul_22 z, ⟨kX5_doHaul_23 z, ⟨kX5_doHaul_24 z, ⟨kX5_doHaul_25 z, ⟨kX5_doHaul_28 z, ⟨kX5_doHaul_29 z, ⟨kX5_doHaul_30 z, ⟨kX5_doHaul_32 z, ⟨kX5_doHaul_33 z, ⟨kX5_doHaul_36 z, ⟨kX5_doHaul_37 z, ⟨kX5_doHaul_38 z, ⟨kX5_doHaul_39 z, ⟨kX5_doHaul_42 z, ⟨kX5_doHaul_43 z, ⟨kX5_doHaul_44 z, ⟨kX5_doHaul_45 z, ⟨kX5_doHaul_48 z, ⟨kX5_doHaul_49 z, ⟨kX5_doHaul_50 z, ⟨kX5_doHaul_51 z, ⟨kX5_doHaul_54 z, ⟨kX5_doHaul_55 z, ⟨kX5_doHaul_56 z, ⟨kX5_doHaul_57 z, ⟨kX5_doHaul_58 z, ⟨kX5_doHaul_59 z, ⟨kX5_doHaul_62 z, ⟨kX5_doHaul_65 z, ⟨kX5_doHaul_66 z, ⟨kX5_doHaul_67 z, ⟨kX5_doHaul_68 z, ⟨kX5_doHaul_70 z, ⟨kX5_doHaul_73 z, ⟨kX5_doHaul_76 z, trivial⟩⟩⟩⟩⟩⟩⟩⟩⟩⟩⟩⟩⟩⟩⟩⟩⟩⟩⟩⟩⟩⟩⟩⟩⟩⟩⟩⟩⟩⟩⟩⟩⟩⟩⟩⟩⟩⟩⟩⟩⟩⟩⟩⟩⟩⟩⟩⟩⟩) (hd_X5_doHaul z) rfl rfl (by decide +kernel)
theorem hd_X5_doOff (z : XKT) : XHd z Y_X5_doOff := xHd_none rfl (xhd0 rfl)
theorem kX5_doOff_0 (z : XKT) : XOi z xInf Y_X5_doOff 0 (.inl (i_aload 0 1)) := ok_aload_n dX5_doOff_0 rfl
theorem kX5_doOff_1 (z : XKT) : XOi z xInf Y_X5_doOff 1 (.inl (i_iload 1 2)) := ok_iload_n dX5_doOff_1 rfl
theorem kX5_doOff_2 (z : XKT) : XOi z xInf Y_X5_doOff 2 (.inl (i_push (vI 1) 3)) := ok_iconst dX5_doOff_2 rfl
theorem kX5_doOff_3 (z : XKT) : XOi z xInf Y_X5_doOff 3 (.inr (.inl (6, g_virt [(4, 254)] 2))) := show XOkC z xInf Y_X5_doOff 3 6 (g_virt [(4, 254)] 2) from okc_V (q := Y_X5_doOff) (List.forall_mem_cons.mpr ⟨(show XOkV z xInf Y_X5_doOff 3 6 2 (4, 254) from okv_V (q := Y_X5_doOff) (q1 := Y_X5_ofFinder) Z_X5_ofFinder rfl (by decide) ⟨by decide, by decide, Or.inl ⟨_, _, (List.mem_of_getElem? (l := xCls) (i := 3) rfl)⟩⟩ dX5_doOff_3 q2630 q2632 qs52 q153 q2633 hy_267), (fun _ h => absurd h List.not_mem_nil)⟩)
theorem kX5_doOff_6 (z : XKT) : XOi z xInf Y_X5_doOff 6 (.inl (i_istore 2 7)) := ok_istore_n dX5_doOff_6 rfl
theorem kX5_doOff_7 (z : XKT) : XOi z xInf Y_X5_doOff 7 (.inl (i_iload 2 8)) := ok_iload_n dX5_doOff_7 rfl
theorem kX5_doOff_8 (z : XKT) : XOi z xInf Y_X5_doOff 8 (.inl (i_push (vI (-1)) 9)) := ok_iconst dX5_doOff_8 rfl
theorem kX5_doOff_9 (z : XKT) : XOi z xInf Y_X5_doOff 9 (.inl (i_icmp (fun x y => ¬ x = y) 19 12)) := ok_icmp_ne dX5_doOff_9 rfl
theorem kX5_doOff_12 (z : XKT) : XOi z xInf Y_X5_doOff 12 (.inl (i_aload 0 13)) := ok_aload_n dX5_doOff_12 rfl
theorem kX5_doOff_13 (z : XKT) : XOi z xInf Y_X5_doOff 13 (.inl (i_push (vI (-2)) 15)) := ok_bipush dX5_doOff_13 rfl
theorem kX5_doOff_15 (z : XKT) : XOi z xInf Y_X5_doOff 15 (.inr (.inl (18, g_virt [(4, 211)] 1))) := show XOkC z xInf Y_X5_doOff 15 18 (g_virt [(4, 211)] 1) from okc_V (q := Y_X5_doOff) (List.forall_mem_cons.mpr ⟨(show XOkV z xInf Y_X5_doOff 15 18 1 (4, 211) from okv_V (q := Y_X5_doOff) (q1 := Y_X5_ends) Z_X5_ends rfl (by decide) ⟨by decide, by decide, Or.inl ⟨_, _, (List.mem_of_getElem? (l := xCls) (i := 3) rfl)⟩⟩ dX5_doOff_15 q2890 q2892 qs81 q153 q2893 hy_291), (fun _ h => absurd h List.not_mem_nil)⟩)
theorem kX5_doOff_18 (z : XKT) : XOi z xInf Y_X5_doOff 18 (.inr (.inr (.inl (r_i .int)))) := show XOkR Y_X5_doOff 18 ((r_i .int)) from okr_i (q := Y_X5_doOff) (ty := .int) rfl rfl dX5_doOff_18
theorem kX5_doOff_19 (z : XKT) : XOi z xInf Y_X5_doOff 19 (.inl (i_aload 0 20)) := ok_aload_n dX5_doOff_19 rfl
theorem kX5_doOff_20 (z : XKT) : XOi z xInf Y_X5_doOff 20 (.inl (i_iload 1 21)) := ok_iload_n dX5_doOff_20 rfl
theorem kX5_doOff_21 (z : XKT) : XOi z xInf Y_X5_doOff 21 (.inr (.inl (24, g_virt [(4, 276)] 1))) := show XOkC z xInf Y_X5_doOff 21 24 (g_virt [(4, 276)] 1) from okc_V (q := Y_X5_doOff) (List.forall_mem_cons.mpr ⟨(show XOkV z xInf Y_X5_doOff 21 24 1 (4, 276) from okv_V (q := Y_X5_doOff) (q1 := Y_X5_removeHand) Z_X5_removeHand rfl (by decide) ⟨by decide, by decide, Or.inl ⟨_, _, (List.mem_of_getElem? (l := xCls) (i := 3) rfl)⟩⟩ dX5_doOff_21 q2894 q2896 qs82 q153 q2897 hy_295), (fun _ h => absurd h List.not_mem_nil)⟩)
theorem kX5_doOff_24 (z : XKT) : XOi z xInf Y_X5_doOff 24 (.inl (i_aload 0 25)) := ok_aload_n dX5_doOff_24 rfl
theorem kX5_doOff_25 (z : XKT) : XOi z xInf Y_X5_doOff 25 (.inl (i_iload 2 26)) := ok_iload_n dX5_doOff_25 rfl
theorem kX5_doOff_26 (z : XKT) : XOi z xInf Y_X5_doOff 26 (.inr (.inl (29, g_virt [(4, 211)] 1))) := show XOkC z xInf Y_X5_doOff 26 29 (g_virt [(4, 211)] 1) from okc_V (q := Y_X5_doOff) (List.forall_mem_cons.mpr ⟨(show XOkV z xInf Y_X5_doOff 26 29 1 (4, 211) from okv_V (q := Y_X5_doOff) (q1 := Y_X5_ends) Z_X5_ends rfl (by decide) ⟨by decide, by decide, Or.inl ⟨_, _, (List.mem_of_getElem? (l := xCls) (i := 3) rfl)⟩⟩ dX5_doOff_26 q2890 q2892 qs81 q153 q2893 hy_291), (fun _ h => absurd h List.not_mem_nil)⟩)
theorem kX5_doOff_29 (z : XKT) : XOi z xInf Y_X5_doOff 29 (.inr (.inr (.inl (r_i .int)))) := show XOkR Y_X5_doOff 29 ((r_i .int)) from okr_i (q := Y_X5_doOff) (ty := .int) rfl rfl dX5_doOff_29
theorem o_X5_doOff (z : XKT) : XMi z xInf Y_X5_doOff := XMi.mk9 (T := T_X5_doOff z) rfl (⟨kX5_doOff_0 z, ⟨kX5_doOff_1 z, ⟨kX5_doOff_2 z, ⟨kX5_doOff_3 z, ⟨kX5_doOff_6 z, ⟨kX5_doOff_7 z, ⟨kX5_doOff_8 z, ⟨kX5_doOff_9 z, ⟨kX5_doOff_12 z, ⟨kX5_doOff_13 z, ⟨kX5_doOff_15 z, ⟨kX5_doOff_18 z, ⟨kX5_doOff_19 z, ⟨kX5_doOff_20 z, ⟨kX5_doOff_21 z, ⟨kX5_doOff_24 z, ⟨kX5_doOff_25 z, ⟨kX5_doOff_26 z, ⟨kX5_doOff_29 z, trivial⟩⟩⟩⟩⟩⟩⟩⟩⟩⟩⟩⟩⟩⟩⟩⟩⟩⟩⟩) (hd_X5_doOff z) rfl rfl (by decide +kernel)
theorem hd_X5_doOffAll (z : XKT) : XHd z Y_X5_doOffAll := xHd_none rfl (xhd0 rfl)
theorem kX5_doOffAll_0 (z : XKT) : XOi z xInf Y_X5_doOffAll 0 (.inl (i_push (vI 0) 1)) := ok_iconst dX5_doOffAll_0 rfl
theorem kX5_doOffAll_1 (z : XKT) : XOi z xInf Y_X5_doOffAll 1 (.inl (i_istore 1 2)) := ok_istore_n dX5_doOffAll_1 rfl
theorem kX5_doOffAll_2 (z : XKT) : XOi z xInf Y_X5_doOffAll 2 (.inl (i_push (vI 0) 3)) := ok_iconst dX5_doOffAll_2 rfl
theorem kX5_doOffAll_3 (z : XKT) : XOi z xInf Y_X5_doOffAll 3 (.inl (i_istore 2 4)) := ok_istore_n dX5_doOffAll_3 rfl
theorem kX5_doOffAll_4 (z : XKT) : XOi z xInf Y_X5_doOffAll 4 (.inl (i_iload 2 5)) := ok_iload_n dX5_doOffAll_4 rfl
theorem kX5_doOffAll_5 (z : XKT) : XOi z xInf Y_X5_doOffAll 5 (.inl (i_aload 0 6)) := ok_aload_n dX5_doOffAll_5 rfl
theorem kX5_doOffAll_6 (z : XKT) : XOi z xInf Y_X5_doOffAll 6 (.inl (i_getr [4] 40 9)) := ok_getr dX5_doOffAll_6 q2517 (List.forall_mem_cons.mpr ⟨⟨_, _, _, _, fd_40_4_0⟩, (fun _ h => absurd h List.not_mem_nil)⟩)
theorem kX5_doOffAll_9 (z : XKT) : XOi z xInf Y_X5_doOffAll 9 (.inl (i_push (vI 4) 10)) := ok_iconst dX5_doOffAll_9 rfl
theorem kX5_doOffAll_10 (z : XKT) : XOi z xInf Y_X5_doOffAll 10 (.inl (i_ald 1000 11)) := ok_iald dX5_doOffAll_10
theorem kX5_doOffAll_11 (z : XKT) : XOi z xInf Y_X5_doOffAll 11 (.inl (i_icmp (fun x y => y ≤ x) 43 14)) := ok_icmp_ge dX5_doOffAll_11 rfl
theorem kX5_doOffAll_14 (z : XKT) : XOi z xInf Y_X5_doOffAll 14 (.inl (i_iload 1 15)) := ok_iload_n dX5_doOffAll_14 rfl
theorem kX5_doOffAll_15 (z : XKT) : XOi z xInf Y_X5_doOffAll 15 (.inl (i_aload 0 16)) := ok_aload_n dX5_doOffAll_15 rfl
theorem kX5_doOffAll_16 (z : XKT) : XOi z xInf Y_X5_doOffAll 16 (.inl (i_iload 2 17)) := ok_iload_n dX5_doOffAll_16 rfl
theorem kX5_doOffAll_17 (z : XKT) : XOi z xInf Y_X5_doOffAll 17 (.inl (i_push (vI 1) 18)) := ok_iconst dX5_doOffAll_17 rfl
theorem kX5_doOffAll_18 (z : XKT) : XOi z xInf Y_X5_doOffAll 18 (.inr (.inl (21, g_virt [(4, 254)] 2))) := show XOkC z xInf Y_X5_doOffAll 18 21 (g_virt [(4, 254)] 2) from okc_V (q := Y_X5_doOffAll) (List.forall_mem_cons.mpr ⟨(show XOkV z xInf Y_X5_doOffAll 18 21 2 (4, 254) from okv_V (q := Y_X5_doOffAll) (q1 := Y_X5_ofFinder) Z_X5_ofFinder rfl (by decide) ⟨by decide, by decide, Or.inl ⟨_, _, (List.mem_of_getElem? (l := xCls) (i := 3) rfl)⟩⟩ dX5_doOffAll_18 q2630 q2632 qs52 q153 q2633 hy_267), (fun _ h => absurd h List.not_mem_nil)⟩)
theorem kX5_doOffAll_21 (z : XKT) : XOi z xInf Y_X5_doOffAll 21 (.inl (i_push (vI (-1)) 22)) := ok_iconst dX5_doOffAll_21 rfl
theorem kX5_doOffAll_22 (z : XKT) : XOi z xInf Y_X5_doOffAll 22 (.inl (i_icmp (fun x y => ¬ x = y) 29 25)) := ok_icmp_ne dX5_doOffAll_22 rfl
theorem kX5_doOffAll_25 (z : XKT) : XOi z xInf Y_X5_doOffAll 25 (.inl (i_push (vI 0) 26)) := ok_iconst dX5_doOffAll_25 rfl
theorem kX5_doOffAll_26 (z : XKT) : XOi z xInf Y_X5_doOffAll 26 (.inl (i_goto 30)) := ok_goto dX5_doOffAll_26 rfl
theorem kX5_doOffAll_29 (z : XKT) : XOi z xInf Y_X5_doOffAll 29 (.inl (i_push (vI 1) 30)) := ok_iconst dX5_doOffAll_29 rfl
theorem kX5_doOffAll_30 (z : XKT) : XOi z xInf Y_X5_doOffAll 30 (.inl (i_bin (fun x y => x + y) 31)) := ok_iadd dX5_doOffAll_30
theorem kX5_doOffAll_31 (z : XKT) : XOi z xInf Y_X5_doOffAll 31 (.inl (i_istore 1 32)) := ok_istore_n dX5_doOffAll_31 rfl
theorem kX5_doOffAll_32 (z : XKT) : XOi z xInf Y_X5_doOffAll 32 (.inl (i_aload 0 33)) := ok_aload_n dX5_doOffAll_32 rfl
theorem kX5_doOffAll_33 (z : XKT) : XOi z xInf Y_X5_doOffAll 33 (.inl (i_iload 2 34)) := ok_iload_n dX5_doOffAll_33 rfl
theorem kX5_doOffAll_34 (z : XKT) : XOi z xInf Y_X5_doOffAll 34 (.inr (.inl (37, g_virt [(4, 276)] 1))) := show XOkC z xInf Y_X5_doOffAll 34 37 (g_virt [(4, 276)] 1) from okc_V (q := Y_X5_doOffAll) (List.forall_mem_cons.mpr ⟨(show XOkV z xInf Y_X5_doOffAll 34 37 1 (4, 276) from okv_V (q := Y_X5_doOffAll) (q1 := Y_X5_removeHand) Z_X5_removeHand rfl (by decide) ⟨by decide, by decide, Or.inl ⟨_, _, (List.mem_of_getElem? (l := xCls) (i := 3) rfl)⟩⟩ dX5_doOffAll_34 q2894 q2896 qs82 q153 q2897 hy_295), (fun _ h => absurd h List.not_mem_nil)⟩)
theorem kX5_doOffAll_37 (z : XKT) : XOi z xInf Y_X5_doOffAll 37 (.inl (i_iinc 2 1 40)) := ok_iinc dX5_doOffAll_37 rfl
theorem kX5_doOffAll_40 (z : XKT) : XOi z xInf Y_X5_doOffAll 40 (.inl (i_goto 4)) := ok_goto dX5_doOffAll_40 rfl
theorem kX5_doOffAll_43 (z : XKT) : XOi z xInf Y_X5_doOffAll 43 (.inl (i_aload 0 44)) := ok_aload_n dX5_doOffAll_43 rfl
theorem kX5_doOffAll_44 (z : XKT) : XOi z xInf Y_X5_doOffAll 44 (.inl (i_iload 1 45)) := ok_iload_n dX5_doOffAll_44 rfl
theorem kX5_doOffAll_45 (z : XKT) : XOi z xInf Y_X5_doOffAll 45 (.inl (i_if (fun x => ¬ x = 0) 53 48)) := ok_if_ne dX5_doOffAll_45 rfl
theorem kX5_doOffAll_48 (z : XKT) : XOi z xInf Y_X5_doOffAll 48 (.inl (i_push (vI (-2)) 50)) := ok_bipush dX5_doOffAll_48 rfl
theorem kX5_doOffAll_50 (z : XKT) : XOi z xInf Y_X5_doOffAll 50 (.inl (i_goto 54)) := ok_goto dX5_doOffAll_50 rfl
theorem kX5_doOffAll_53 (z : XKT) : XOi z xInf Y_X5_doOffAll 53 (.inl (i_iload 1 54)) := ok_iload_n dX5_doOffAll_53 rfl
theorem kX5_doOffAll_54 (z : XKT) : XOi z xInf Y_X5_doOffAll 54 (.inr (.inl (57, g_virt [(4, 211)] 1))) := show XOkC z xInf Y_X5_doOffAll 54 57 (g_virt [(4, 211)] 1) from okc_V (q := Y_X5_doOffAll) (List.forall_mem_cons.mpr ⟨(show XOkV z xInf Y_X5_doOffAll 54 57 1 (4, 211) from okv_V (q := Y_X5_doOffAll) (q1 := Y_X5_ends) Z_X5_ends rfl (by decide) ⟨by decide, by decide, Or.inl ⟨_, _, (List.mem_of_getElem? (l := xCls) (i := 3) rfl)⟩⟩ dX5_doOffAll_54 q2890 q2892 qs81 q153 q2893 hy_291), (fun _ h => absurd h List.not_mem_nil)⟩)
theorem kX5_doOffAll_57 (z : XKT) : XOi z xInf Y_X5_doOffAll 57 (.inr (.inr (.inl (r_i .int)))) := show XOkR Y_X5_doOffAll 57 ((r_i .int)) from okr_i (q := Y_X5_doOffAll) (ty := .int) rfl rfl dX5_doOffAll_57
theorem o_X5_doOffAll (z : XKT) : XMi z xInf Y_X5_doOffAll := XMi.mk9 (T := T_X5_doOffAll z) rfl (⟨kX5_doOffAll_0 z, ⟨kX5_doOffAll_1 z, ⟨kX5_doOffAll_2 z, ⟨kX5_doOffAll_3 z, ⟨kX5_doOffAll_4 z, ⟨kX5_doOffAll_5 z, ⟨kX5_doOffAll_6 z, ⟨kX5_doOffAll_9 z, ⟨kX5_doOffAll_10 z, ⟨kX5_doOffAll_11 z, ⟨kX5_doOffAll_14 z, ⟨kX5_doOffAll_15 z, ⟨kX5_doOffAll_16 z, ⟨kX5_doOffAll_17 z, ⟨kX5_doOffAll_18 z, ⟨kX5_doOffAll_21 z, ⟨kX5_doOffAll_22 z, ⟨kX5_doOffAll_25 z, ⟨kX5_doOffAll_26 z, ⟨kX5_doOffAll_29 z, ⟨kX5_doOffAll_30 z, ⟨kX5_doOffAll_31 z, ⟨kX5_doOffAll_32 z, ⟨kX5_doOffAll_33 z, ⟨kX5_doOffAll_34 z, ⟨kX5_doOffAll_37 z, ⟨kX5_doOffAll_40 z, ⟨kX5_doOffAll_43 z, ⟨kX5_doOffAll_44 z, ⟨kX5_doOffAll_45 z, ⟨kX5_doOffAll_48 z, ⟨kX5_doOffAll_50 z, ⟨kX5_doOffAll_53 z, ⟨kX5_doOffAll_54 z, ⟨kX5_doOffAll_57 z, trivial⟩⟩⟩⟩⟩⟩⟩⟩⟩⟩⟩⟩⟩⟩⟩⟩⟩⟩⟩⟩⟩⟩⟩⟩⟩⟩⟩⟩⟩⟩⟩⟩⟩⟩⟩) (hd_X5_doOffAll z) rfl rfl (by decide +kernel)
theorem hd_X5_doPay (z : XKT) : XHd z Y_X5_doPay := xHd_none rfl (xhd0 rfl)
theorem kX5_doPay_0 (z : XKT) : XOi z xInf Y_X5_doPay 0 (.inl (i_iload 1 1)) := ok_iload_n dX5_doPay_0 rfl
theorem kX5_doPay_1 (z : XKT) : XOi z xInf Y_X5_doPay 1 (.inl (i_iload 2 2)) := ok_iload_n dX5_doPay_1 rfl
theorem kX5_doPay_2 (z : XKT) : XOi z xInf Y_X5_doPay 2 (.inl (i_icmp (fun x y => ¬ x = y) 12 5)) := ok_icmp_ne dX5_doPay_2 rfl
theorem kX5_doPay_5 (z : XKT) : XOi z xInf Y_X5_doPay 5 (.inl (i_aload 0 6)) := ok_aload_n dX5_doPay_5 rfl
theorem kX5_doPay_6 (z : XKT) : XOi z xInf Y_X5_doPay 6 (.inl (i_push (vI (-2)) 8)) := ok_bipush dX5_doPay_6 rfl
theorem kX5_doPay_8 (z : XKT) : XOi z xInf Y_X5_doPay 8 (.inr (.inl (11, g_virt [(4, 211)] 1))) := show XOkC z xInf Y_X5_doPay 8 11 (g_virt [(4, 211)] 1) from okc_V (q := Y_X5_doPay) (List.forall_mem_cons.mpr ⟨(show XOkV z xInf Y_X5_doPay 8 11 1 (4, 211) from okv_V (q := Y_X5_doPay) (q1 := Y_X5_ends) Z_X5_ends rfl (by decide) ⟨by decide, by decide, Or.inl ⟨_, _, (List.mem_of_getElem? (l := xCls) (i := 3) rfl)⟩⟩ dX5_doPay_8 q2890 q2892 qs81 q153 q2893 hy_291), (fun _ h => absurd h List.not_mem_nil)⟩)
theorem kX5_doPay_11 (z : XKT) : XOi z xInf Y_X5_doPay 11 (.inr (.inr (.inl (r_i .int)))) := show XOkR Y_X5_doPay 11 ((r_i .int)) from okr_i (q := Y_X5_doPay) (ty := .int) rfl rfl dX5_doPay_11
theorem kX5_doPay_12 (z : XKT) : XOi z xInf Y_X5_doPay 12 (.inl (i_iload 3 13)) := ok_iload_n dX5_doPay_12 rfl
theorem kX5_doPay_13 (z : XKT) : XOi z xInf Y_X5_doPay 13 (.inl (i_aload 0 14)) := ok_aload_n dX5_doPay_13 rfl
theorem kX5_doPay_14 (z : XKT) : XOi z xInf Y_X5_doPay 14 (.inl (i_iload 1 15)) := ok_iload_n dX5_doPay_14 rfl
theorem kX5_doPay_15 (z : XKT) : XOi z xInf Y_X5_doPay 15 (.inl (i_push (vI 0) 16)) := ok_iconst dX5_doPay_15 rfl
theorem kX5_doPay_16 (z : XKT) : XOi z xInf Y_X5_doPay 16 (.inr (.inl (19, g_virt [(4, 254)] 2))) := show XOkC z xInf Y_X5_doPay 16 19 (g_virt [(4, 254)] 2) from okc_V (q := Y_X5_doPay) (List.forall_mem_cons.mpr ⟨(show XOkV z xInf Y_X5_doPay 16 19 2 (4, 254) from okv_V (q := Y_X5_doPay) (q1 := Y_X5_ofFinder) Z_X5_ofFinder rfl (by decide) ⟨by decide, by decide, Or.inl ⟨_, _, (List.mem_of_getElem? (l := xCls) (i := 3) rfl)⟩⟩ dX5_doPay_16 q2630 q2632 qs52 q153 q2633 hy_267), (fun _ h => absurd h List.not_mem_nil)⟩)
theorem kX5_doPay_19 (z : XKT) : XOi z xInf Y_X5_doPay 19 (.inl (i_icmp (fun x y => x ≤ y) 29 22)) := ok_icmp_le dX5_doPay_19 rfl
theorem kX5_doPay_22 (z : XKT) : XOi z xInf Y_X5_doPay 22 (.inl (i_aload 0 23)) := ok_aload_n dX5_doPay_22 rfl
theorem kX5_doPay_23 (z : XKT) : XOi z xInf Y_X5_doPay 23 (.inl (i_push (vI (-3)) 25)) := ok_bipush dX5_doPay_23 rfl
theorem kX5_doPay_25 (z : XKT) : XOi z xInf Y_X5_doPay 25 (.inr (.inl (28, g_virt [(4, 211)] 1))) := show XOkC z xInf Y_X5_doPay 25 28 (g_virt [(4, 211)] 1) from okc_V (q := Y_X5_doPay) (List.forall_mem_cons.mpr ⟨(show XOkV z xInf Y_X5_doPay 25 28 1 (4, 211) from okv_V (q := Y_X5_doPay) (q1 := Y_X5_ends) Z_X5_ends rfl (by decide) ⟨by decide, by decide, Or.inl ⟨_, _, (List.mem_of_getElem? (l := xCls) (i := 3) rfl)⟩⟩ dX5_doPay_25 q2890 q2892 qs81 q153 q2893 hy_291), (fun _ h => absurd h List.not_mem_nil)⟩)
theorem kX5_doPay_28 (z : XKT) : XOi z xInf Y_X5_doPay 28 (.inr (.inr (.inl (r_i .int)))) := show XOkR Y_X5_doPay 28 ((r_i .int)) from okr_i (q := Y_X5_doPay) (ty := .int) rfl rfl dX5_doPay_28
theorem kX5_doPay_29 (z : XKT) : XOi z xInf Y_X5_doPay 29 (.inl (i_aload 0 30)) := ok_aload_n dX5_doPay_29 rfl
theorem kX5_doPay_30 (z : XKT) : XOi z xInf Y_X5_doPay 30 (.inl (i_iload 1 31)) := ok_iload_n dX5_doPay_30 rfl
theorem kX5_doPay_31 (z : XKT) : XOi z xInf Y_X5_doPay 31 (.inl (i_push (vI 0) 32)) := ok_iconst dX5_doPay_31 rfl
theorem kX5_doPay_32 (z : XKT) : XOi z xInf Y_X5_doPay 32 (.inl (i_aload 0 33)) := ok_aload_n dX5_doPay_32 rfl
theorem kX5_doPay_33 (z : XKT) : XOi z xInf Y_X5_doPay 33 (.inl (i_iload 1 34)) := ok_iload_n dX5_doPay_33 rfl
theorem kX5_doPay_34 (z : XKT) : XOi z xInf Y_X5_doPay 34 (.inl (i_push (vI 0) 35)) := ok_iconst dX5_doPay_34 rfl
theorem kX5_doPay_35 (z : XKT) : XOi z xInf Y_X5_doPay 35 (.inr (.inl (38, g_virt [(4, 254)] 2))) := show XOkC z xInf Y_X5_doPay 35 38 (g_virt [(4, 254)] 2) from okc_V (q := Y_X5_doPay) (List.forall_mem_cons.mpr ⟨(show XOkV z xInf Y_X5_doPay 35 38 2 (4, 254) from okv_V (q := Y_X5_doPay) (q1 := Y_X5_ofFinder) Z_X5_ofFinder rfl (by decide) ⟨by decide, by decide, Or.inl ⟨_, _, (List.mem_of_getElem? (l := xCls) (i := 3) rfl)⟩⟩ dX5_doPay_35 q2630 q2632 qs52 q153 q2633 hy_267), (fun _ h => absurd h List.not_mem_nil)⟩)
theorem kX5_doPay_38 (z : XKT) : XOi z xInf Y_X5_doPay 38 (.inl (i_iload 3 39)) := ok_iload_n dX5_doPay_38 rfl
theorem kX5_doPay_39 (z : XKT) : XOi z xInf Y_X5_doPay 39 (.inl (i_bin (fun x y => x - y) 40)) := ok_isub dX5_doPay_39
theorem kX5_doPay_40 (z : XKT) : XOi z xInf Y_X5_doPay 40 (.inr (.inl (43, g_virt [(4, 242)] 3))) := show XOkC z xInf Y_X5_doPay 40 43 (g_virt [(4, 242)] 3) from okc_V (q := Y_X5_doPay) (List.forall_mem_cons.mpr ⟨(show XOkV z xInf Y_X5_doPay 40 43 3 (4, 242) from okv_V (q := Y_X5_doPay) (q1 := Y_X5_layFinder) Z_X5_layFinder rfl (by decide) ⟨by decide, by decide, Or.inl ⟨_, _, (List.mem_of_getElem? (l := xCls) (i := 3) rfl)⟩⟩ dX5_doPay_40 q2495 q2497 qs43 q153 q2498 hy_266), (fun _ h => absurd h List.not_mem_nil)⟩)
theorem kX5_doPay_43 (z : XKT) : XOi z xInf Y_X5_doPay 43 (.inl (i_aload 0 44)) := ok_aload_n dX5_doPay_43 rfl
theorem kX5_doPay_44 (z : XKT) : XOi z xInf Y_X5_doPay 44 (.inl (i_iload 2 45)) := ok_iload_n dX5_doPay_44 rfl
theorem kX5_doPay_45 (z : XKT) : XOi z xInf Y_X5_doPay 45 (.inl (i_push (vI 0) 46)) := ok_iconst dX5_doPay_45 rfl
theorem kX5_doPay_46 (z : XKT) : XOi z xInf Y_X5_doPay 46 (.inl (i_aload 0 47)) := ok_aload_n dX5_doPay_46 rfl
theorem kX5_doPay_47 (z : XKT) : XOi z xInf Y_X5_doPay 47 (.inl (i_iload 2 48)) := ok_iload_n dX5_doPay_47 rfl
theorem kX5_doPay_48 (z : XKT) : XOi z xInf Y_X5_doPay 48 (.inl (i_push (vI 0) 49)) := ok_iconst dX5_doPay_48 rfl
theorem kX5_doPay_49 (z : XKT) : XOi z xInf Y_X5_doPay 49 (.inr (.inl (52, g_virt [(4, 254)] 2))) := show XOkC z xInf Y_X5_doPay 49 52 (g_virt [(4, 254)] 2) from okc_V (q := Y_X5_doPay) (List.forall_mem_cons.mpr ⟨(show XOkV z xInf Y_X5_doPay 49 52 2 (4, 254) from okv_V (q := Y_X5_doPay) (q1 := Y_X5_ofFinder) Z_X5_ofFinder rfl (by decide) ⟨by decide, by decide, Or.inl ⟨_, _, (List.mem_of_getElem? (l := xCls) (i := 3) rfl)⟩⟩ dX5_doPay_49 q2630 q2632 qs52 q153 q2633 hy_267), (fun _ h => absurd h List.not_mem_nil)⟩)
theorem kX5_doPay_52 (z : XKT) : XOi z xInf Y_X5_doPay 52 (.inl (i_iload 3 53)) := ok_iload_n dX5_doPay_52 rfl
theorem kX5_doPay_53 (z : XKT) : XOi z xInf Y_X5_doPay 53 (.inl (i_bin (fun x y => x + y) 54)) := ok_iadd dX5_doPay_53
theorem kX5_doPay_54 (z : XKT) : XOi z xInf Y_X5_doPay 54 (.inr (.inl (57, g_virt [(4, 242)] 3))) := show XOkC z xInf Y_X5_doPay 54 57 (g_virt [(4, 242)] 3) from okc_V (q := Y_X5_doPay) (List.forall_mem_cons.mpr ⟨(show XOkV z xInf Y_X5_doPay 54 57 3 (4, 242) from okv_V (q := Y_X5_doPay) (q1 := Y_X5_layFinder) Z_X5_layFinder rfl (by decide) ⟨by decide, by decide, Or.inl ⟨_, _, (List.mem_of_getElem? (l := xCls) (i := 3) rfl)⟩⟩ dX5_doPay_54 q2495 q2497 qs43 q153 q2498 hy_266), (fun _ h => absurd h List.not_mem_nil)⟩)
theorem kX5_doPay_57 (z : XKT) : XOi z xInf Y_X5_doPay 57 (.inl (i_aload 0 58)) := ok_aload_n dX5_doPay_57 rfl
theorem kX5_doPay_58 (z : XKT) : XOi z xInf Y_X5_doPay 58 (.inl (i_aload 0 59)) := ok_aload_n dX5_doPay_58 rfl
theorem kX5_doPay_59 (z : XKT) : XOi z xInf Y_X5_doPay 59 (.inl (i_iload 2 60)) := ok_iload_n dX5_doPay_59 rfl
theorem kX5_doPay_60 (z : XKT) : XOi z xInf Y_X5_doPay 60 (.inl (i_push (vI 0) 61)) := ok_iconst dX5_doPay_60 rfl
theorem kX5_doPay_61 (z : XKT) : XOi z xInf Y_X5_doPay 61 (.inr (.inl (64, g_virt [(4, 254)] 2))) := show XOkC z xInf Y_X5_doPay 61 64 (g_virt [(4, 254)] 2) from okc_V (q := Y_X5_doPay) (List.forall_mem_cons.mpr ⟨(show XOkV z xInf Y_X5_doPay 61 64 2 (4, 254) from okv_V (q := Y_X5_doPay) (q1 := Y_X5_ofFinder) Z_X5_ofFinder rfl (by decide) ⟨by decide, by decide, Or.inl ⟨_, _, (List.mem_of_getElem? (l := xCls) (i := 3) rfl)⟩⟩ dX5_doPay_61 q2630 q2632 qs52 q153 q2633 hy_267), (fun _ h => absurd h List.not_mem_nil)⟩)
theorem kX5_doPay_64 (z : XKT) : XOi z xInf Y_X5_doPay 64 (.inr (.inl (67, g_virt [(4, 211)] 1))) := show XOkC z xInf Y_X5_doPay 64 67 (g_virt [(4, 211)] 1) from okc_V (q := Y_X5_doPay) (List.forall_mem_cons.mpr ⟨(show XOkV z xInf Y_X5_doPay 64 67 1 (4, 211) from okv_V (q := Y_X5_doPay) (q1 := Y_X5_ends) Z_X5_ends rfl (by decide) ⟨by decide, by decide, Or.inl ⟨_, _, (List.mem_of_getElem? (l := xCls) (i := 3) rfl)⟩⟩ dX5_doPay_64 q2890 q2892 qs81 q153 q2893 hy_291), (fun _ h => absurd h List.not_mem_nil)⟩)
theorem kX5_doPay_67 (z : XKT) : XOi z xInf Y_X5_doPay 67 (.inr (.inr (.inl (r_i .int)))) := show XOkR Y_X5_doPay 67 ((r_i .int)) from okr_i (q := Y_X5_doPay) (ty := .int) rfl rfl dX5_doPay_67
theorem o_X5_doPay (z : XKT) : XMi z xInf Y_X5_doPay := XMi.mk9 (T := T_X5_doPay z) rfl (⟨kX5_doPay_0 z, ⟨kX5_doPay_1 z, ⟨kX5_doPay_2 z, ⟨kX5_doPay_5 z, ⟨kX5_doPay_6 z, ⟨kX5_doPay_8 z, ⟨kX5_doPay_11 z, ⟨kX5_doPay_12 z, ⟨kX5_doPay_13 z, ⟨kX5_doPay_14 z, ⟨kX5_doPay_15 z, ⟨kX5_doPay_16 z, ⟨kX5_doPay_19 z, ⟨kX5_doPay_22 z, ⟨kX5_doPay_23 z, ⟨kX5_doPay_25 z, ⟨kX5_doPay_28 z, ⟨kX5_doPay_29 z, ⟨kX5_doPay_30 z, ⟨kX5_doPay_31 z, ⟨kX5_doPay_32 z, ⟨kX5_doPay_33 z, ⟨kX5_doPay_34 z, ⟨kX5_doPay_35 z, ⟨kX5_doPay_38 z, ⟨kX5_doPay_39 z, ⟨kX5_doPay_40 z, ⟨kX5_doPay_43 z, ⟨kX5_doPay_44 z, ⟨kX5_doPay_45 z, ⟨kX5_doPay_46 z, ⟨kX5_doPay_47 z, ⟨kX5_doPay_48 z, ⟨kX5_doPay_49 z, ⟨kX5_doPay_52 z, ⟨kX5_doPay_53 z, ⟨kX5_doPay_54 z, ⟨kX5_doPay_57 z, ⟨kX5_doPay_58 z, ⟨kX5_doPay_59 z, ⟨kX5_doPay_60 z, ⟨kX5_doPay_61 z, ⟨kX5_doPay_64 z, ⟨kX5_doPay_67 z, trivial⟩⟩⟩⟩⟩⟩⟩⟩⟩⟩⟩⟩⟩⟩⟩⟩⟩⟩⟩⟩⟩⟩⟩⟩⟩⟩⟩⟩⟩⟩⟩⟩⟩⟩⟩⟩⟩⟩⟩⟩⟩⟩⟩⟩) (hd_X5_doPay z) rfl rfl (by decide +kernel)
theorem hd_X5_doRope (z : XKT) : XHd z Y_X5_doRope := xHd_none rfl (xhd0 rfl)
theorem kX5_doRope_0 (z : XKT) : XOi z xInf Y_X5_doRope 0 (.inl (i_aload 0 1)) := ok_aload_n dX5_doRope_0 rfl
theorem kX5_doRope_1 (z : XKT) : XOi z xInf Y_X5_doRope 1 (.inl (i_iload 2 2)) := ok_iload_n dX5_doRope_1 rfl
theorem kX5_doRope_2 (z : XKT) : XOi z xInf Y_X5_doRope 2 (.inl (i_push (vI 0) 3)) := ok_iconst dX5_doRope_2 rfl
theorem kX5_doRope_3 (z : XKT) : XOi z xInf Y_X5_doRope 3 (.inr (.inl (6, g_virt [(4, 233)] 2))) := show XOkC z xInf Y_X5_doRope 3 6 (g_virt [(4, 233)] 2) from okc_V (q := Y_X5_doRope) (List.forall_mem_cons.mpr ⟨(show XOkV z xInf Y_X5_doRope 3 6 2 (4, 233) from okv_V (q := Y_X5_doRope) (q1 := Y_X5_isIn) Z_X5_isIn rfl (by decide) ⟨by decide, by decide, Or.inl ⟨_, _, (List.mem_of_getElem? (l := xCls) (i := 3) rfl)⟩⟩ dX5_doRope_3 q2618 q2620 qs49 q153 q2621 hy_270), (fun _ h => absurd h List.not_mem_nil)⟩)
theorem kX5_doRope_6 (z : XKT) : XOi z xInf Y_X5_doRope 6 (.inl (i_if (fun x => ¬ x = 0) 16 9)) := ok_if_ne dX5_doRope_6 rfl
theorem kX5_doRope_9 (z : XKT) : XOi z xInf Y_X5_doRope 9 (.inl (i_aload 0 10)) := ok_aload_n dX5_doRope_9 rfl
theorem kX5_doRope_10 (z : XKT) : XOi z xInf Y_X5_doRope 10 (.inl (i_push (vI (-2)) 12)) := ok_bipush dX5_doRope_10 rfl
theorem kX5_doRope_12 (z : XKT) : XOi z xInf Y_X5_doRope 12 (.inr (.inl (15, g_virt [(4, 211)] 1))) := show XOkC z xInf Y_X5_doRope 12 15 (g_virt [(4, 211)] 1) from okc_V (q := Y_X5_doRope) (List.forall_mem_cons.mpr ⟨(show XOkV z xInf Y_X5_doRope 12 15 1 (4, 211) from okv_V (q := Y_X5_doRope) (q1 := Y_X5_ends) Z_X5_ends rfl (by decide) ⟨by decide, by decide, Or.inl ⟨_, _, (List.mem_of_getElem? (l := xCls) (i := 3) rfl)⟩⟩ dX5_doRope_12 q2890 q2892 qs81 q153 q2893 hy_291), (fun _ h => absurd h List.not_mem_nil)⟩)
theorem kX5_doRope_15 (z : XKT) : XOi z xInf Y_X5_doRope 15 (.inr (.inr (.inl (r_i .int)))) := show XOkR Y_X5_doRope 15 ((r_i .int)) from okr_i (q := Y_X5_doRope) (ty := .int) rfl rfl dX5_doRope_15
theorem kX5_doRope_16 (z : XKT) : XOi z xInf Y_X5_doRope 16 (.inl (i_aload 0 17)) := ok_aload_n dX5_doRope_16 rfl
theorem kX5_doRope_17 (z : XKT) : XOi z xInf Y_X5_doRope 17 (.inl (i_iload 1 18)) := ok_iload_n dX5_doRope_17 rfl
theorem kX5_doRope_18 (z : XKT) : XOi z xInf Y_X5_doRope 18 (.inl (i_push (vI 1) 19)) := ok_iconst dX5_doRope_18 rfl
theorem kX5_doRope_19 (z : XKT) : XOi z xInf Y_X5_doRope 19 (.inr (.inl (22, g_virt [(4, 254)] 2))) := show XOkC z xInf Y_X5_doRope 19 22 (g_virt [(4, 254)] 2) from okc_V (q := Y_X5_doRope) (List.forall_mem_cons.mpr ⟨(show XOkV z xInf Y_X5_doRope 19 22 2 (4, 254) from okv_V (q := Y_X5_doRope) (q1 := Y_X5_ofFinder) Z_X5_ofFinder rfl (by decide) ⟨by decide, by decide, Or.inl ⟨_, _, (List.mem_of_getElem? (l := xCls) (i := 3) rfl)⟩⟩ dX5_doRope_19 q2630 q2632 qs52 q153 q2633 hy_267), (fun _ h => absurd h List.not_mem_nil)⟩)
theorem kX5_doRope_22 (z : XKT) : XOi z xInf Y_X5_doRope 22 (.inl (i_iload 2 23)) := ok_iload_n dX5_doRope_22 rfl
theorem kX5_doRope_23 (z : XKT) : XOi z xInf Y_X5_doRope 23 (.inl (i_icmp (fun x y => ¬ x = y) 33 26)) := ok_icmp_ne dX5_doRope_23 rfl
theorem kX5_doRope_26 (z : XKT) : XOi z xInf Y_X5_doRope 26 (.inl (i_aload 0 27)) := ok_aload_n dX5_doRope_26 rfl
theorem kX5_doRope_27 (z : XKT) : XOi z xInf Y_X5_doRope 27 (.inl (i_push (vI (-3)) 29)) := ok_bipush dX5_doRope_27 rfl
theorem kX5_doRope_29 (z : XKT) : XOi z xInf Y_X5_doRope 29 (.inr (.inl (32, g_virt [(4, 211)] 1))) := show XOkC z xInf Y_X5_doRope 29 32 (g_virt [(4, 211)] 1) from okc_V (q := Y_X5_doRope) (List.forall_mem_cons.mpr ⟨(show XOkV z xInf Y_X5_doRope 29 32 1 (4, 211) from okv_V (q := Y_X5_doRope) (q1 := Y_X5_ends) Z_X5_ends rfl (by decide) ⟨by decide, by decide, Or.inl ⟨_, _, (List.mem_of_getElem? (l := xCls) (i := 3) rfl)⟩⟩ dX5_doRope_29 q2890 q2892 qs81 q153 q2893 hy_291), (fun _ h => absurd h List.not_mem_nil)⟩)
theorem kX5_doRope_32 (z : XKT) : XOi z xInf Y_X5_doRope 32 (.inr (.inr (.inl (r_i .int)))) := show XOkR Y_X5_doRope 32 ((r_i .int)) from okr_i (q := Y_X5_doRope) (ty := .int) rfl rfl dX5_doRope_32
theorem kX5_doRope_33 (z : XKT) : XOi z xInf Y_X5_doRope 33 (.inl (i_aload 0 34)) := ok_aload_n dX5_doRope_33 rfl
theorem kX5_doRope_34 (z : XKT) : XOi z xInf Y_X5_doRope 34 (.inl (i_iload 1 35)) := ok_iload_n dX5_doRope_34 rfl
theorem kX5_doRope_35 (z : XKT) : XOi z xInf Y_X5_doRope 35 (.inr (.inl (38, g_virt [(4, 276)] 1))) := show XOkC z xInf Y_X5_doRope 35 38 (g_virt [(4, 276)] 1) from okc_V (q := Y_X5_doRope) (List.forall_mem_cons.mpr ⟨(show XOkV z xInf Y_X5_doRope 35 38 1 (4, 276) from okv_V (q := Y_X5_doRope) (q1 := Y_X5_removeHand) Z_X5_removeHand rfl (by decide) ⟨by decide, by decide, Or.inl ⟨_, _, (List.mem_of_getElem? (l := xCls) (i := 3) rfl)⟩⟩ dX5_doRope_35 q2894 q2896 qs82 q153 q2897 hy_295), (fun _ h => absurd h List.not_mem_nil)⟩)
theorem kX5_doRope_38 (z : XKT) : XOi z xInf Y_X5_doRope 38 (.inl (i_aload 0 39)) := ok_aload_n dX5_doRope_38 rfl
theorem kX5_doRope_39 (z : XKT) : XOi z xInf Y_X5_doRope 39 (.inl (i_iload 2 40)) := ok_iload_n dX5_doRope_39 rfl
theorem kX5_doRope_40 (z : XKT) : XOi z xInf Y_X5_doRope 40 (.inl (i_iload 1 41)) := ok_iload_n dX5_doRope_40 rfl
theorem kX5_doRope_41 (z : XKT) : XOi z xInf Y_X5_doRope 41 (.inr (.inl (44, g_virt [(4, 170)] 2))) := show XOkC z xInf Y_X5_doRope 41 44 (g_virt [(4, 170)] 2) from okc_V (q := Y_X5_doRope) (List.forall_mem_cons.mpr ⟨(show XOkV z xInf Y_X5_doRope 41 44 2 (4, 170) from okv_V (q := Y_X5_doRope) (q1 := Y_X5_addHand) Z_X5_addHand rfl (by decide) ⟨by decide, by decide, Or.inl ⟨_, _, (List.mem_of_getElem? (l := xCls) (i := 3) rfl)⟩⟩ dX5_doRope_41 q2898 q2900 qs83 q153 q2901 hy_296), (fun _ h => absurd h List.not_mem_nil)⟩)
theorem kX5_doRope_44 (z : XKT) : XOi z xInf Y_X5_doRope 44 (.inl (i_aload 0 45)) := ok_aload_n dX5_doRope_44 rfl
theorem kX5_doRope_45 (z : XKT) : XOi z xInf Y_X5_doRope 45 (.inl (i_aload 0 46)) := ok_aload_n dX5_doRope_45 rfl
theorem kX5_doRope_46 (z : XKT) : XOi z xInf Y_X5_doRope 46 (.inl (i_iload 2 47)) := ok_iload_n dX5_doRope_46 rfl
theorem kX5_doRope_47 (z : XKT) : XOi z xInf Y_X5_doRope 47 (.inl (i_push (vI 9) 49)) := ok_bipush dX5_doRope_47 rfl
theorem kX5_doRope_49 (z : XKT) : XOi z xInf Y_X5_doRope 49 (.inr (.inl (52, g_virt [(4, 253)] 2))) := show XOkC z xInf Y_X5_doRope 49 52 (g_virt [(4, 253)] 2) from okc_V (q := Y_X5_doRope) (List.forall_mem_cons.mpr ⟨(show XOkV z xInf Y_X5_doRope 49 52 2 (4, 253) from okv_V (q := Y_X5_doRope) (q1 := Y_X5_of) Z_X5_of rfl (by decide) ⟨by decide, by decide, Or.inl ⟨_, _, (List.mem_of_getElem? (l := xCls) (i := 3) rfl)⟩⟩ dX5_doRope_49 q2622 q2624 qs50 q153 q2625 hy_265), (fun _ h => absurd h List.not_mem_nil)⟩)
theorem kX5_doRope_52 (z : XKT) : XOi z xInf Y_X5_doRope 52 (.inr (.inl (55, g_virt [(4, 211)] 1))) := show XOkC z xInf Y_X5_doRope 52 55 (g_virt [(4, 211)] 1) from okc_V (q := Y_X5_doRope) (List.forall_mem_cons.mpr ⟨(show XOkV z xInf Y_X5_doRope 52 55 1 (4, 211) from okv_V (q := Y_X5_doRope) (q1 := Y_X5_ends) Z_X5_ends rfl (by decide) ⟨by decide, by decide, Or.inl ⟨_, _, (List.mem_of_getElem? (l := xCls) (i := 3) rfl)⟩⟩ dX5_doRope_52 q2890 q2892 qs81 q153 q2893 hy_291), (fun _ h => absurd h List.not_mem_nil)⟩)
theorem kX5_doRope_55 (z : XKT) : XOi z xInf Y_X5_doRope 55 (.inr (.inr (.inl (r_i .int)))) := show XOkR Y_X5_doRope 55 ((r_i .int)) from okr_i (q := Y_X5_doRope) (ty := .int) rfl rfl dX5_doRope_55
theorem o_X5_doRope (z : XKT) : XMi z xInf Y_X5_doRope := XMi.mk9 (T := T_X5_doRope z) rfl (⟨kX5_doRope_0 z, ⟨kX5_doRope_1 z, ⟨kX5_doRope_2 z, ⟨kX5_doRope_3 z, ⟨kX5_doRope_6 z, ⟨kX5_doRope_9 z, ⟨kX5_doRope_10 z, ⟨kX5_doRope_12 z, ⟨kX5_doRope_15 z, ⟨kX5_doRope_16 z, ⟨kX5_doRope_17 z, ⟨kX5_doRope_18 z, ⟨kX5_doRope_19 z, ⟨kX5_doRope_22 z, ⟨kX5_doRope_23 z, ⟨kX5_doRope_26 z, ⟨kX5_doRope_27 z, ⟨kX5_doRope_29 z, ⟨kX5_doRope_32 z, ⟨kX5_doRope_33 z, ⟨kX5_doRope_34 z, ⟨kX5_doRope_35 z, ⟨kX5_doRope_38 z, ⟨kX5_doRope_39 z, ⟨kX5_doRope_40 z, ⟨kX5_doRope_41 z, ⟨kX5_doRope_44 z, ⟨kX5_doRope_45 z, ⟨kX5_doRope_46 z, ⟨kX5_doRope_47 z, ⟨kX5_doRope_49 z, ⟨kX5_doRope_52 z, ⟨kX5_doRope_55 z, trivial⟩⟩⟩⟩⟩⟩⟩⟩⟩⟩⟩⟩⟩⟩⟩⟩⟩⟩⟩⟩⟩⟩⟩⟩⟩⟩⟩⟩⟩⟩⟩⟩⟩) (hd_X5_doRope z) rfl rfl (by decide +kernel)
theorem hd_X5_doTicks (z : XKT) : XHd z Y_X5_doTicks := xHd_none rfl (xhd0 rfl)
theorem kX5_doTicks_0 (z : XKT) : XOi z xInf Y_X5_doTicks 0 (.inl (i_aload 0 1)) := ok_aload_n dX5_doTicks_0 rfl
theorem kX5_doTicks_1 (z : XKT) : XOi z xInf Y_X5_doTicks 1 (.inl (i_getr [4] 40 4)) := ok_getr dX5_doTicks_1 q2517 (List.forall_mem_cons.mpr ⟨⟨_, _, _, _, fd_40_4_0⟩, (fun _ h => absurd h List.not_mem_nil)⟩)
theorem kX5_doTicks_4 (z : XKT) : XOi z xInf Y_X5_doTicks 4 (.inl (i_push (vI 0) 5)) := ok_iconst dX5_doTicks_4 rfl
theorem kX5_doTicks_5 (z : XKT) : XOi z xInf Y_X5_doTicks 5 (.inl (i_ald 1000 6)) := ok_iald dX5_doTicks_5
theorem kX5_doTicks_6 (z : XKT) : XOi z xInf Y_X5_doTicks 6 (.inl (i_iload 1 7)) := ok_iload_n dX5_doTicks_6 rfl
theorem kX5_doTicks_7 (z : XKT) : XOi z xInf Y_X5_doTicks 7 (.inl (i_bin (fun x y => x + y) 8)) := ok_iadd dX5_doTicks_7
theorem kX5_doTicks_8 (z : XKT) : XOi z xInf Y_X5_doTicks 8 (.inl (i_push (vI 9999) 11)) := ok_sipush dX5_doTicks_8 rfl
theorem kX5_doTicks_11 (z : XKT) : XOi z xInf Y_X5_doTicks 11 (.inl (i_icmp (fun x y => x ≤ y) 21 14)) := ok_icmp_le dX5_doTicks_11 rfl
theorem kX5_doTicks_14 (z : XKT) : XOi z xInf Y_X5_doTicks 14 (.inl (i_aload 0 15)) := ok_aload_n dX5_doTicks_14 rfl
theorem kX5_doTicks_15 (z : XKT) : XOi z xInf Y_X5_doTicks 15 (.inl (i_push (vI (-2)) 17)) := ok_bipush dX5_doTicks_15 rfl
theorem kX5_doTicks_17 (z : XKT) : XOi z xInf Y_X5_doTicks 17 (.inr (.inl (20, g_virt [(4, 211)] 1))) := show XOkC z xInf Y_X5_doTicks 17 20 (g_virt [(4, 211)] 1) from okc_V (q := Y_X5_doTicks) (List.forall_mem_cons.mpr ⟨(show XOkV z xInf Y_X5_doTicks 17 20 1 (4, 211) from okv_V (q := Y_X5_doTicks) (q1 := Y_X5_ends) Z_X5_ends rfl (by decide) ⟨by decide, by decide, Or.inl ⟨_, _, (List.mem_of_getElem? (l := xCls) (i := 3) rfl)⟩⟩ dX5_doTicks_17 q2890 q2892 qs81 q153 q2893 hy_291), (fun _ h => absurd h List.not_mem_nil)⟩)
theorem kX5_doTicks_20 (z : XKT) : XOi z xInf Y_X5_doTicks 20 (.inr (.inr (.inl (r_i .int)))) := show XOkR Y_X5_doTicks 20 ((r_i .int)) from okr_i (q := Y_X5_doTicks) (ty := .int) rfl rfl dX5_doTicks_20
theorem kX5_doTicks_21 (z : XKT) : XOi z xInf Y_X5_doTicks 21 (.inl (i_aload 0 22)) := ok_aload_n dX5_doTicks_21 rfl
theorem kX5_doTicks_22 (z : XKT) : XOi z xInf Y_X5_doTicks 22 (.inl (i_push (vI 7) 24)) := ok_bipush dX5_doTicks_22 rfl
theorem kX5_doTicks_24 (z : XKT) : XOi z xInf Y_X5_doTicks 24 (.inr (.inl (27, g_virt [(4, 290)] 1))) := show XOkC z xInf Y_X5_doTicks 24 27 (g_virt [(4, 290)] 1) from okc_V (q := Y_X5_doTicks) (List.forall_mem_cons.mpr ⟨(show XOkV z xInf Y_X5_doTicks 24 27 1 (4, 290) from okv_V (q := Y_X5_doTicks) (q1 := Y_X5_tallied) Z_X5_tallied rfl (by decide) ⟨by decide, by decide, Or.inl ⟨_, _, (List.mem_of_getElem? (l := xCls) (i := 3) rfl)⟩⟩ dX5_doTicks_24 q2646 q2648 qs55 q153 q2649 hy_263), (fun _ h => absurd h List.not_mem_nil)⟩)
theorem kX5_doTicks_27 (z : XKT) : XOi z xInf Y_X5_doTicks 27 (.inl (i_istore 2 28)) := ok_istore_n dX5_doTicks_27 rfl
theorem kX5_doTicks_28 (z : XKT) : XOi z xInf Y_X5_doTicks 28 (.inl (i_push (vI 0) 29)) := ok_iconst dX5_doTicks_28 rfl
theorem kX5_doTicks_29 (z : XKT) : XOi z xInf Y_X5_doTicks 29 (.inl (i_istore 3 30)) := ok_istore_n dX5_doTicks_29 rfl
theorem kX5_doTicks_30 (z : XKT) : XOi z xInf Y_X5_doTicks 30 (.inl (i_iload 3 31)) := ok_iload_n dX5_doTicks_30 rfl
theorem kX5_doTicks_31 (z : XKT) : XOi z xInf Y_X5_doTicks 31 (.inl (i_iload 1 32)) := ok_iload_n dX5_doTicks_31 rfl
theorem kX5_doTicks_32 (z : XKT) : XOi z xInf Y_X5_doTicks 32 (.inl (i_icmp (fun x y => y ≤ x) 45 35)) := ok_icmp_ge dX5_doTicks_32 rfl
theorem kX5_doTicks_35 (z : XKT) : XOi z xInf Y_X5_doTicks 35 (.inl (i_aload 0 36)) := ok_aload_n dX5_doTicks_35 rfl
theorem kX5_doTicks_36 (z : XKT) : XOi z xInf Y_X5_doTicks 36 (.inr (.inl (39, g_virt [(4, 293)] 0))) := show XOkC z xInf Y_X5_doTicks 36 39 (g_virt [(4, 293)] 0) from okc_V (q := Y_X5_doTicks) (List.forall_mem_cons.mpr ⟨(show XOkV z xInf Y_X5_doTicks 36 39 0 (4, 293) from okv_V (q := Y_X5_doTicks) (q1 := Y_X5_tick) Z_X5_tick rfl (by decide) ⟨by decide, by decide, Or.inl ⟨_, _, (List.mem_of_getElem? (l := xCls) (i := 3) rfl)⟩⟩ dX5_doTicks_36 q2986 q2988 qs97 q153 q2989 hy_297), (fun _ h => absurd h List.not_mem_nil)⟩)
theorem kX5_doTicks_39 (z : XKT) : XOi z xInf Y_X5_doTicks 39 (.inl (i_iinc 3 1 42)) := ok_iinc dX5_doTicks_39 rfl
theorem kX5_doTicks_42 (z : XKT) : XOi z xInf Y_X5_doTicks 42 (.inl (i_goto 30)) := ok_goto dX5_doTicks_42 rfl
theorem kX5_doTicks_45 (z : XKT) : XOi z xInf Y_X5_doTicks 45 (.inl (i_aload 0 46)) := ok_aload_n dX5_doTicks_45 rfl
theorem kX5_doTicks_46 (z : XKT) : XOi z xInf Y_X5_doTicks 46 (.inl (i_aload 0 47)) := ok_aload_n dX5_doTicks_46 rfl
theorem kX5_doTicks_47 (z : XKT) : XOi z xInf Y_X5_doTicks 47 (.inl (i_push (vI 7) 49)) := ok_bipush dX5_doTicks_47 rfl
theorem kX5_doTicks_49 (z : XKT) : XOi z xInf Y_X5_doTicks 49 (.inr (.inl (52, g_virt [(4, 290)] 1))) := show XOkC z xInf Y_X5_doTicks 49 52 (g_virt [(4, 290)] 1) from okc_V (q := Y_X5_doTicks) (List.forall_mem_cons.mpr ⟨(show XOkV z xInf Y_X5_doTicks 49 52 1 (4, 290) from okv_V (q := Y_X5_doTicks) (q1 := Y_X5_tallied) Z_X5_tallied rfl (by decide) ⟨by decide, by decide, Or.inl ⟨_, _, (List.mem_of_getElem? (l := xCls) (i := 3) rfl)⟩⟩ dX5_doTicks_49 q2646 q2648 qs55 q153 q2649 hy_263), (fun _ h => absurd h List.not_mem_nil)⟩)
theorem kX5_doTicks_52 (z : XKT) : XOi z xInf Y_X5_doTicks 52 (.inl (i_iload 2 53)) := ok_iload_n dX5_doTicks_52 rfl
theorem kX5_doTicks_53 (z : XKT) : XOi z xInf Y_X5_doTicks 53 (.inl (i_bin (fun x y => x - y) 54)) := ok_isub dX5_doTicks_53
theorem kX5_doTicks_54 (z : XKT) : XOi z xInf Y_X5_doTicks 54 (.inr (.inl (57, g_virt [(4, 211)] 1))) := show XOkC z xInf Y_X5_doTicks 54 57 (g_virt [(4, 211)] 1) from okc_V (q := Y_X5_doTicks) (List.forall_mem_cons.mpr ⟨(show XOkV z xInf Y_X5_doTicks 54 57 1 (4, 211) from okv_V (q := Y_X5_doTicks) (q1 := Y_X5_ends) Z_X5_ends rfl (by decide) ⟨by decide, by decide, Or.inl ⟨_, _, (List.mem_of_getElem? (l := xCls) (i := 3) rfl)⟩⟩ dX5_doTicks_54 q2890 q2892 qs81 q153 q2893 hy_291), (fun _ h => absurd h List.not_mem_nil)⟩)
theorem kX5_doTicks_57 (z : XKT) : XOi z xInf Y_X5_doTicks 57 (.inr (.inr (.inl (r_i .int)))) := show XOkR Y_X5_doTicks 57 ((r_i .int)) from okr_i (q := Y_X5_doTicks) (ty := .int) rfl rfl dX5_doTicks_57
theorem o_X5_doTicks (z : XKT) : XMi z xInf Y_X5_doTicks := XMi.mk9 (T := T_X5_doTicks z) rfl (⟨kX5_doTicks_0 z, ⟨kX5_doTicks_1 z, ⟨kX5_doTicks_4 z, ⟨kX5_doTicks_5 z, ⟨kX5_doTicks_6 z, ⟨kX5_doTicks_7 z, ⟨kX5_doTicks_8 z, ⟨kX5_doTicks_11 z, ⟨kX5_doTicks_14 z, ⟨kX5_doTicks_15 z, ⟨kX5_doTicks_17 z, ⟨kX5_doTicks_20 z, ⟨kX5_doTicks_21 z, ⟨kX5_doTicks_22 z, ⟨kX5_doTicks_24 z, ⟨kX5_doTicks_27 z, ⟨kX5_doTicks_28 z, ⟨kX5_doTicks_29 z, ⟨kX5_doTicks_30 z, ⟨kX5_doTicks_31 z, ⟨kX5_doTicks_32 z, ⟨kX5_doTicks_35 z, ⟨kX5_doTicks_36 z, ⟨kX5_doTicks_39 z, ⟨kX5_doTicks_42 z, ⟨kX5_doTicks_45 z, ⟨kX5_doTicks_46 z, ⟨kX5_doTicks_47 z, ⟨kX5_doTicks_49 z, ⟨kX5_doTicks_52 z, ⟨kX5_doTicks_53 z, ⟨kX5_doTicks_54 z, ⟨kX5_doTicks_57 z, trivial⟩⟩⟩⟩⟩⟩⟩⟩⟩⟩⟩⟩⟩⟩⟩⟩⟩⟩⟩⟩⟩⟩⟩⟩⟩⟩⟩⟩⟩⟩⟩⟩⟩) (hd_X5_doTicks z) rfl rfl (by decide +kernel)
theorem hd_X5_does (z : XKT) : XHd z Y_X5_does := xHd_none rfl (xhd0 rfl)
theorem kX5_does_0 (z : XKT) : XOi z xInf Y_X5_does 0 (.inl (i_aload 0 1)) := ok_aload_n dX5_does_0 rfl
theorem kX5_does_1 (z : XKT) : XOi z xInf Y_X5_does 1 (.inl (i_getr [4] 56 4)) := ok_getr dX5_does_1 q2533 (List.forall_mem_cons.mpr ⟨⟨_, _, _, _, fd_56_4_0⟩, (fun _ h => absurd h List.not_mem_nil)⟩)
theorem kX5_does_4 (z : XKT) : XOi z xInf Y_X5_does 4 (.inl (i_iload 1 5)) := ok_iload_n dX5_does_4 rfl
theorem kX5_does_5 (z : XKT) : XOi z xInf Y_X5_does 5 (.inl (i_push (vI 1) 6)) := ok_iconst dX5_does_5 rfl
theorem kX5_does_6 (z : XKT) : XOi z xInf Y_X5_does 6 (.inl (i_bin (fun x y => x + y) 7)) := ok_iadd dX5_does_6
theorem kX5_does_7 (z : XKT) : XOi z xInf Y_X5_does 7 (.inl (i_ald 1000 8)) := ok_iald dX5_does_7
theorem kX5_does_8 (z : XKT) : XOi z xInf Y_X5_does 8 (.inl (i_istore 2 9)) := ok_istore_n dX5_does_8 rfl
theorem kX5_does_9 (z : XKT) : XOi z xInf Y_X5_does 9 (.inl (i_aload 0 10)) := ok_aload_n dX5_does_9 rfl
theorem kX5_does_10 (z : XKT) : XOi z xInf Y_X5_does 10 (.inl (i_getr [4] 56 13)) := ok_getr dX5_does_10 q2533 (List.forall_mem_cons.mpr ⟨⟨_, _, _, _, fd_56_4_0⟩, (fun _ h => absurd h List.not_mem_nil)⟩)
theorem kX5_does_13 (z : XKT) : XOi z xInf Y_X5_does 13 (.inl (i_iload 1 14)) := ok_iload_n dX5_does_13 rfl
theorem kX5_does_14 (z : XKT) : XOi z xInf Y_X5_does 14 (.inl (i_push (vI 2) 15)) := ok_iconst dX5_does_14 rfl
theorem kX5_does_15 (z : XKT) : XOi z xInf Y_X5_does 15 (.inl (i_bin (fun x y => x + y) 16)) := ok_iadd dX5_does_15
theorem kX5_does_16 (z : XKT) : XOi z xInf Y_X5_does 16 (.inl (i_ald 1000 17)) := ok_iald dX5_does_16
theorem kX5_does_17 (z : XKT) : XOi z xInf Y_X5_does 17 (.inl (i_istore 3 18)) := ok_istore_n dX5_does_17 rfl
theorem kX5_does_18 (z : XKT) : XOi z xInf Y_X5_does 18 (.inl (i_aload 0 19)) := ok_aload_n dX5_does_18 rfl
theorem kX5_does_19 (z : XKT) : XOi z xInf Y_X5_does 19 (.inl (i_getr [4] 56 22)) := ok_getr dX5_does_19 q2533 (List.forall_mem_cons.mpr ⟨⟨_, _, _, _, fd_56_4_0⟩, (fun _ h => absurd h List.not_mem_nil)⟩)
theorem kX5_does_22 (z : XKT) : XOi z xInf Y_X5_does 22 (.inl (i_iload 1 23)) := ok_iload_n dX5_does_22 rfl
theorem kX5_does_23 (z : XKT) : XOi z xInf Y_X5_does 23 (.inl (i_ald 1000 24)) := ok_iald dX5_does_23
theorem kX5_does_24 (z : XKT) : XOi z xInf Y_X5_does 24 (.inl (i_swt [(0, 68), (1, 99), (2, 121), (3, 182), (4, 188), (5, 210), (6, 143)] 210)) := ok_table dX5_does_24 rfl rfl (by decide +kernel)
theorem kX5_does_68 (z : XKT) : XOi z xInf Y_X5_does 68 (.inl (i_aload 0 69)) := ok_aload_n dX5_does_68 rfl
theorem kX5_does_69 (z : XKT) : XOi z xInf Y_X5_does 69 (.inl (i_iload 2 70)) := ok_iload_n dX5_does_69 rfl
theorem kX5_does_70 (z : XKT) : XOi z xInf Y_X5_does 70 (.inr (.inl (73, g_virt [(4, 231)] 1))) := show XOkC z xInf Y_X5_does 70 73 (g_virt [(4, 231)] 1) from okc_V (q := Y_X5_does) (List.forall_mem_cons.mpr ⟨(show XOkV z xInf Y_X5_does 70 73 1 (4, 231) from okv_V (q := Y_X5_does) (q1 := Y_X5_isFinder) Z_X5_isFinder rfl (by decide) ⟨by decide, by decide, Or.inl ⟨_, _, (List.mem_of_getElem? (l := xCls) (i := 3) rfl)⟩⟩ dX5_does_70 q2666 q2668 qs58 q153 q2669 hy_298), (fun _ h => absurd h List.not_mem_nil)⟩)
theorem kX5_does_73 (z : XKT) : XOi z xInf Y_X5_does 73 (.inl (i_if (fun x => x = 0) 93 76)) := ok_if_eq dX5_does_73 rfl
theorem kX5_does_76 (z : XKT) : XOi z xInf Y_X5_does 76 (.inl (i_aload 0 77)) := ok_aload_n dX5_does_76 rfl
theorem kX5_does_77 (z : XKT) : XOi z xInf Y_X5_does 77 (.inl (i_iload 3 78)) := ok_iload_n dX5_does_77 rfl
theorem kX5_does_78 (z : XKT) : XOi z xInf Y_X5_does 78 (.inr (.inl (81, g_virt [(4, 232)] 1))) := show XOkC z xInf Y_X5_does 78 81 (g_virt [(4, 232)] 1) from okc_V (q := Y_X5_does) (List.forall_mem_cons.mpr ⟨(show XOkV z xInf Y_X5_does 78 81 1 (4, 232) from okv_V (q := Y_X5_does) (q1 := Y_X5_isGood) Z_X5_isGood rfl (by decide) ⟨by decide, by decide, Or.inl ⟨_, _, (List.mem_of_getElem? (l := xCls) (i := 3) rfl)⟩⟩ dX5_does_78 q2654 q2656 qs56 q153 q2657 hy_272), (fun _ h => absurd h List.not_mem_nil)⟩)
theorem kX5_does_81 (z : XKT) : XOi z xInf Y_X5_does 81 (.inl (i_if (fun x => x = 0) 93 84)) := ok_if_eq dX5_does_81 rfl
theorem kX5_does_84 (z : XKT) : XOi z xInf Y_X5_does 84 (.inl (i_aload 0 85)) := ok_aload_n dX5_does_84 rfl
theorem kX5_does_85 (z : XKT) : XOi z xInf Y_X5_does 85 (.inl (i_iload 2 86)) := ok_iload_n dX5_does_85 rfl
theorem kX5_does_86 (z : XKT) : XOi z xInf Y_X5_does 86 (.inl (i_iload 3 87)) := ok_iload_n dX5_does_86 rfl
theorem kX5_does_87 (z : XKT) : XOi z xInf Y_X5_does 87 (.inr (.inl (90, g_virt [(4, 205)] 2))) := show XOkC z xInf Y_X5_does 87 90 (g_virt [(4, 205)] 2) from okc_V (q := Y_X5_does) (List.forall_mem_cons.mpr ⟨(show XOkV z xInf Y_X5_does 87 90 2 (4, 205) from okv_V (q := Y_X5_does) (q1 := Y_X5_doRope) Z_X5_doRope rfl (by decide) ⟨by decide, by decide, Or.inl ⟨_, _, (List.mem_of_getElem? (l := xCls) (i := 3) rfl)⟩⟩ dX5_does_87 q2886 q2888 qs80 q153 q2889 hy_299), (fun _ h => absurd h List.not_mem_nil)⟩)
theorem kX5_does_90 (z : XKT) : XOi z xInf Y_X5_does 90 (.inl (i_goto 98)) := ok_goto dX5_does_90 rfl
theorem kX5_does_93 (z : XKT) : XOi z xInf Y_X5_does 93 (.inl (i_aload 0 94)) := ok_aload_n dX5_does_93 rfl
theorem kX5_does_94 (z : XKT) : XOi z xInf Y_X5_does 94 (.inl (i_push (vI (-1)) 95)) := ok_iconst dX5_does_94 rfl
theorem kX5_does_95 (z : XKT) : XOi z xInf Y_X5_does 95 (.inr (.inl (98, g_virt [(4, 211)] 1))) := show XOkC z xInf Y_X5_does 95 98 (g_virt [(4, 211)] 1) from okc_V (q := Y_X5_does) (List.forall_mem_cons.mpr ⟨(show XOkV z xInf Y_X5_does 95 98 1 (4, 211) from okv_V (q := Y_X5_does) (q1 := Y_X5_ends) Z_X5_ends rfl (by decide) ⟨by decide, by decide, Or.inl ⟨_, _, (List.mem_of_getElem? (l := xCls) (i := 3) rfl)⟩⟩ dX5_does_95 q2890 q2892 qs81 q153 q2893 hy_291), (fun _ h => absurd h List.not_mem_nil)⟩)
theorem kX5_does_98 (z : XKT) : XOi z xInf Y_X5_does 98 (.inr (.inr (.inl (r_i .int)))) := show XOkR Y_X5_does 98 ((r_i .int)) from okr_i (q := Y_X5_does) (ty := .int) rfl rfl dX5_does_98
theorem kX5_does_99 (z : XKT) : XOi z xInf Y_X5_does 99 (.inl (i_aload 0 100)) := ok_aload_n dX5_does_99 rfl
theorem kX5_does_100 (z : XKT) : XOi z xInf Y_X5_does 100 (.inl (i_iload 2 101)) := ok_iload_n dX5_does_100 rfl
theorem kX5_does_101 (z : XKT) : XOi z xInf Y_X5_does 101 (.inr (.inl (104, g_virt [(4, 231)] 1))) := show XOkC z xInf Y_X5_does 101 104 (g_virt [(4, 231)] 1) from okc_V (q := Y_X5_does) (List.forall_mem_cons.mpr ⟨(show XOkV z xInf Y_X5_does 101 104 1 (4, 231) from okv_V (q := Y_X5_does) (q1 := Y_X5_isFinder) Z_X5_isFinder rfl (by decide) ⟨by decide, by decide, Or.inl ⟨_, _, (List.mem_of_getElem? (l := xCls) (i := 3) rfl)⟩⟩ dX5_does_101 q2666 q2668 qs58 q153 q2669 hy_298), (fun _ h => absurd h List.not_mem_nil)⟩)
theorem kX5_does_104 (z : XKT) : XOi z xInf Y_X5_does 104 (.inl (i_if (fun x => x = 0) 115 107)) := ok_if_eq dX5_does_104 rfl
theorem kX5_does_107 (z : XKT) : XOi z xInf Y_X5_does 107 (.inl (i_aload 0 108)) := ok_aload_n dX5_does_107 rfl
theorem kX5_does_108 (z : XKT) : XOi z xInf Y_X5_does 108 (.inl (i_iload 2 109)) := ok_iload_n dX5_does_108 rfl
theorem kX5_does_109 (z : XKT) : XOi z xInf Y_X5_does 109 (.inr (.inl (112, g_virt [(4, 202)] 1))) := show XOkC z xInf Y_X5_does 109 112 (g_virt [(4, 202)] 1) from okc_V (q := Y_X5_does) (List.forall_mem_cons.mpr ⟨(show XOkV z xInf Y_X5_does 109 112 1 (4, 202) from okv_V (q := Y_X5_does) (q1 := Y_X5_doOff) Z_X5_doOff rfl (by decide) ⟨by decide, by decide, Or.inl ⟨_, _, (List.mem_of_getElem? (l := xCls) (i := 3) rfl)⟩⟩ dX5_does_109 q2914 q2916 qs86 q153 q2917 hy_300), (fun _ h => absurd h List.not_mem_nil)⟩)
theorem kX5_does_112 (z : XKT) : XOi z xInf Y_X5_does 112 (.inl (i_goto 120)) := ok_goto dX5_does_112 rfl
theorem kX5_does_115 (z : XKT) : XOi z xInf Y_X5_does 115 (.inl (i_aload 0 116)) := ok_aload_n dX5_does_115 rfl
theorem kX5_does_116 (z : XKT) : XOi z xInf Y_X5_does 116 (.inl (i_push (vI (-1)) 117)) := ok_iconst dX5_does_116 rfl
theorem kX5_does_117 (z : XKT) : XOi z xInf Y_X5_does 117 (.inr (.inl (120, g_virt [(4, 211)] 1))) := show XOkC z xInf Y_X5_does 117 120 (g_virt [(4, 211)] 1) from okc_V (q := Y_X5_does) (List.forall_mem_cons.mpr ⟨(show XOkV z xInf Y_X5_does 117 120 1 (4, 211) from okv_V (q := Y_X5_does) (q1 := Y_X5_ends) Z_X5_ends rfl (by decide) ⟨by decide, by decide, Or.inl ⟨_, _, (List.mem_of_getElem? (l := xCls) (i := 3) rfl)⟩⟩ dX5_does_117 q2890 q2892 qs81 q153 q2893 hy_291), (fun _ h => absurd h List.not_mem_nil)⟩)
theorem kX5_does_120 (z : XKT) : XOi z xInf Y_X5_does 120 (.inr (.inr (.inl (r_i .int)))) := show XOkR Y_X5_does 120 ((r_i .int)) from okr_i (q := Y_X5_does) (ty := .int) rfl rfl dX5_does_120
theorem kX5_does_121 (z : XKT) : XOi z xInf Y_X5_does 121 (.inl (i_aload 0 122)) := ok_aload_n dX5_does_121 rfl
theorem kX5_does_122 (z : XKT) : XOi z xInf Y_X5_does 122 (.inl (i_iload 2 123)) := ok_iload_n dX5_does_122 rfl
theorem kX5_does_123 (z : XKT) : XOi z xInf Y_X5_does 123 (.inr (.inl (126, g_virt [(4, 232)] 1))) := show XOkC z xInf Y_X5_does 123 126 (g_virt [(4, 232)] 1) from okc_V (q := Y_X5_does) (List.forall_mem_cons.mpr ⟨(show XOkV z xInf Y_X5_does 123 126 1 (4, 232) from okv_V (q := Y_X5_does) (q1 := Y_X5_isGood) Z_X5_isGood rfl (by decide) ⟨by decide, by decide, Or.inl ⟨_, _, (List.mem_of_getElem? (l := xCls) (i := 3) rfl)⟩⟩ dX5_does_123 q2654 q2656 qs56 q153 q2657 hy_272), (fun _ h => absurd h List.not_mem_nil)⟩)
theorem kX5_does_126 (z : XKT) : XOi z xInf Y_X5_does 126 (.inl (i_if (fun x => x = 0) 137 129)) := ok_if_eq dX5_does_126 rfl
theorem kX5_does_129 (z : XKT) : XOi z xInf Y_X5_does 129 (.inl (i_aload 0 130)) := ok_aload_n dX5_does_129 rfl
theorem kX5_does_130 (z : XKT) : XOi z xInf Y_X5_does 130 (.inl (i_iload 2 131)) := ok_iload_n dX5_does_130 rfl
theorem kX5_does_131 (z : XKT) : XOi z xInf Y_X5_does 131 (.inr (.inl (134, g_virt [(4, 201)] 1))) := show XOkC z xInf Y_X5_does 131 134 (g_virt [(4, 201)] 1) from okc_V (q := Y_X5_does) (List.forall_mem_cons.mpr ⟨(show XOkV z xInf Y_X5_does 131 134 1 (4, 201) from okv_V (q := Y_X5_does) (q1 := Y_X5_doHaul) Z_X5_doHaul rfl (by decide) ⟨by decide, by decide, Or.inl ⟨_, _, (List.mem_of_getElem? (l := xCls) (i := 3) rfl)⟩⟩ dX5_does_131 q2938 q2940 qs89 q153 q2941 hy_301), (fun _ h => absurd h List.not_mem_nil)⟩)
theorem kX5_does_134 (z : XKT) : XOi z xInf Y_X5_does 134 (.inl (i_goto 142)) := ok_goto dX5_does_134 rfl
theorem kX5_does_137 (z : XKT) : XOi z xInf Y_X5_does 137 (.inl (i_aload 0 138)) := ok_aload_n dX5_does_137 rfl
theorem kX5_does_138 (z : XKT) : XOi z xInf Y_X5_does 138 (.inl (i_push (vI (-1)) 139)) := ok_iconst dX5_does_138 rfl
theorem kX5_does_139 (z : XKT) : XOi z xInf Y_X5_does 139 (.inr (.inl (142, g_virt [(4, 211)] 1))) := show XOkC z xInf Y_X5_does 139 142 (g_virt [(4, 211)] 1) from okc_V (q := Y_X5_does) (List.forall_mem_cons.mpr ⟨(show XOkV z xInf Y_X5_does 139 142 1 (4, 211) from okv_V (q := Y_X5_does) (q1 := Y_X5_ends) Z_X5_ends rfl (by decide) ⟨by decide, by decide, Or.inl ⟨_, _, (List.mem_of_getElem? (l := xCls) (i := 3) rfl)⟩⟩ dX5_does_139 q2890 q2892 qs81 q153 q2893 hy_291), (fun _ h => absurd h List.not_mem_nil)⟩)
theorem kX5_does_142 (z : XKT) : XOi z xInf Y_X5_does 142 (.inr (.inr (.inl (r_i .int)))) := show XOkR Y_X5_does 142 ((r_i .int)) from okr_i (q := Y_X5_does) (ty := .int) rfl rfl dX5_does_142
theorem kX5_does_143 (z : XKT) : XOi z xInf Y_X5_does 143 (.inl (i_aload 0 144)) := ok_aload_n dX5_does_143 rfl
theorem kX5_does_144 (z : XKT) : XOi z xInf Y_X5_does 144 (.inl (i_iload 2 145)) := ok_iload_n dX5_does_144 rfl
theorem kX5_does_145 (z : XKT) : XOi z xInf Y_X5_does 145 (.inr (.inl (148, g_virt [(4, 231)] 1))) := show XOkC z xInf Y_X5_does 145 148 (g_virt [(4, 231)] 1) from okc_V (q := Y_X5_does) (List.forall_mem_cons.mpr ⟨(show XOkV z xInf Y_X5_does 145 148 1 (4, 231) from okv_V (q := Y_X5_does) (q1 := Y_X5_isFinder) Z_X5_isFinder rfl (by decide) ⟨by decide, by decide, Or.inl ⟨_, _, (List.mem_of_getElem? (l := xCls) (i := 3) rfl)⟩⟩ dX5_does_145 q2666 q2668 qs58 q153 q2669 hy_298), (fun _ h => absurd h List.not_mem_nil)⟩)
theorem kX5_does_148 (z : XKT) : XOi z xInf Y_X5_does 148 (.inl (i_if (fun x => x = 0) 176 151)) := ok_if_eq dX5_does_148 rfl
theorem kX5_does_151 (z : XKT) : XOi z xInf Y_X5_does 151 (.inl (i_aload 0 152)) := ok_aload_n dX5_does_151 rfl
theorem kX5_does_152 (z : XKT) : XOi z xInf Y_X5_does 152 (.inl (i_iload 3 153)) := ok_iload_n dX5_does_152 rfl
theorem kX5_does_153 (z : XKT) : XOi z xInf Y_X5_does 153 (.inr (.inl (156, g_virt [(4, 231)] 1))) := show XOkC z xInf Y_X5_does 153 156 (g_virt [(4, 231)] 1) from okc_V (q := Y_X5_does) (List.forall_mem_cons.mpr ⟨(show XOkV z xInf Y_X5_does 153 156 1 (4, 231) from okv_V (q := Y_X5_does) (q1 := Y_X5_isFinder) Z_X5_isFinder rfl (by decide) ⟨by decide, by decide, Or.inl ⟨_, _, (List.mem_of_getElem? (l := xCls) (i := 3) rfl)⟩⟩ dX5_does_153 q2666 q2668 qs58 q153 q2669 hy_298), (fun _ h => absurd h List.not_mem_nil)⟩)
theorem kX5_does_156 (z : XKT) : XOi z xInf Y_X5_does 156 (.inl (i_if (fun x => x = 0) 176 159)) := ok_if_eq dX5_does_156 rfl
theorem kX5_does_159 (z : XKT) : XOi z xInf Y_X5_does 159 (.inl (i_aload 0 160)) := ok_aload_n dX5_does_159 rfl
theorem kX5_does_160 (z : XKT) : XOi z xInf Y_X5_does 160 (.inl (i_iload 2 161)) := ok_iload_n dX5_does_160 rfl
theorem kX5_does_161 (z : XKT) : XOi z xInf Y_X5_does 161 (.inl (i_iload 3 162)) := ok_iload_n dX5_does_161 rfl
theorem kX5_does_162 (z : XKT) : XOi z xInf Y_X5_does 162 (.inl (i_aload 0 163)) := ok_aload_n dX5_does_162 rfl
theorem kX5_does_163 (z : XKT) : XOi z xInf Y_X5_does 163 (.inl (i_getr [4] 56 166)) := ok_getr dX5_does_163 q2533 (List.forall_mem_cons.mpr ⟨⟨_, _, _, _, fd_56_4_0⟩, (fun _ h => absurd h List.not_mem_nil)⟩)
theorem kX5_does_166 (z : XKT) : XOi z xInf Y_X5_does 166 (.inl (i_iload 1 167)) := ok_iload_n dX5_does_166 rfl
theorem kX5_does_167 (z : XKT) : XOi z xInf Y_X5_does 167 (.inl (i_push (vI 3) 168)) := ok_iconst dX5_does_167 rfl
theorem kX5_does_168 (z : XKT) : XOi z xInf Y_X5_does 168 (.inl (i_bin (fun x y => x + y) 169)) := ok_iadd dX5_does_168
theorem kX5_does_169 (z : XKT) : XOi z xInf Y_X5_does 169 (.inl (i_ald 1000 170)) := ok_iald dX5_does_169
theorem kX5_does_170 (z : XKT) : XOi z xInf Y_X5_does 170 (.inr (.inl (173, g_virt [(4, 204)] 3))) := show XOkC z xInf Y_X5_does 170 173 (g_virt [(4, 204)] 3) from okc_V (q := Y_X5_does) (List.forall_mem_cons.mpr ⟨(show XOkV z xInf Y_X5_does 170 173 3 (4, 204) from okv_V (q := Y_X5_does) (q1 := Y_X5_doPay) Z_X5_doPay rfl (by decide) ⟨by decide, by decide, Or.inl ⟨_, _, (List.mem_of_getElem? (l := xCls) (i := 3) rfl)⟩⟩ dX5_does_170 q2930 q2932 qs88 q153 q2933 hy_302), (fun _ h => absurd h List.not_mem_nil)⟩)
theorem kX5_does_173 (z : XKT) : XOi z xInf Y_X5_does 173 (.inl (i_goto 181)) := ok_goto dX5_does_173 rfl
theorem kX5_does_176 (z : XKT) : XOi z xInf Y_X5_does 176 (.inl (i_aload 0 177)) := ok_aload_n dX5_does_176 rfl
theorem kX5_does_177 (z : XKT) : XOi z xInf Y_X5_does 177 (.inl (i_push (vI (-1)) 178)) := ok_iconst dX5_does_177 rfl
theorem kX5_does_178 (z : XKT) : XOi z xInf Y_X5_does 178 (.inr (.inl (181, g_virt [(4, 211)] 1))) := show XOkC z xInf Y_X5_does 178 181 (g_virt [(4, 211)] 1) from okc_V (q := Y_X5_does) (List.forall_mem_cons.mpr ⟨(show XOkV z xInf Y_X5_does 178 181 1 (4, 211) from okv_V (q := Y_X5_does) (q1 := Y_X5_ends) Z_X5_ends rfl (by decide) ⟨by decide, by decide, Or.inl ⟨_, _, (List.mem_of_getElem? (l := xCls) (i := 3) rfl)⟩⟩ dX5_does_178 q2890 q2892 qs81 q153 q2893 hy_291), (fun _ h => absurd h List.not_mem_nil)⟩)
theorem kX5_does_181 (z : XKT) : XOi z xInf Y_X5_does 181 (.inr (.inr (.inl (r_i .int)))) := show XOkR Y_X5_does 181 ((r_i .int)) from okr_i (q := Y_X5_does) (ty := .int) rfl rfl dX5_does_181
theorem kX5_does_182 (z : XKT) : XOi z xInf Y_X5_does 182 (.inl (i_aload 0 183)) := ok_aload_n dX5_does_182 rfl
theorem kX5_does_183 (z : XKT) : XOi z xInf Y_X5_does 183 (.inl (i_iload 2 184)) := ok_iload_n dX5_does_183 rfl
theorem kX5_does_184 (z : XKT) : XOi z xInf Y_X5_does 184 (.inr (.inl (187, g_virt [(4, 198)] 1))) := show XOkC z xInf Y_X5_does 184 187 (g_virt [(4, 198)] 1) from okc_V (q := Y_X5_does) (List.forall_mem_cons.mpr ⟨(show XOkV z xInf Y_X5_does 184 187 1 (4, 198) from okv_V (q := Y_X5_does) (q1 := Y_X5_doClaim) Z_X5_doClaim rfl (by decide) ⟨by decide, by decide, Or.inl ⟨_, _, (List.mem_of_getElem? (l := xCls) (i := 3) rfl)⟩⟩ dX5_does_184 q2954 q2956 qs92 q153 q2957 hy_277), (fun _ h => absurd h List.not_mem_nil)⟩)
theorem kX5_does_187 (z : XKT) : XOi z xInf Y_X5_does 187 (.inr (.inr (.inl (r_i .int)))) := show XOkR Y_X5_does 187 ((r_i .int)) from okr_i (q := Y_X5_does) (ty := .int) rfl rfl dX5_does_187
theorem kX5_does_188 (z : XKT) : XOi z xInf Y_X5_does 188 (.inl (i_aload 0 189)) := ok_aload_n dX5_does_188 rfl
theorem kX5_does_189 (z : XKT) : XOi z xInf Y_X5_does 189 (.inl (i_iload 2 190)) := ok_iload_n dX5_does_189 rfl
theorem kX5_does_190 (z : XKT) : XOi z xInf Y_X5_does 190 (.inr (.inl (193, g_virt [(4, 232)] 1))) := show XOkC z xInf Y_X5_does 190 193 (g_virt [(4, 232)] 1) from okc_V (q := Y_X5_does) (List.forall_mem_cons.mpr ⟨(show XOkV z xInf Y_X5_does 190 193 1 (4, 232) from okv_V (q := Y_X5_does) (q1 := Y_X5_isGood) Z_X5_isGood rfl (by decide) ⟨by decide, by decide, Or.inl ⟨_, _, (List.mem_of_getElem? (l := xCls) (i := 3) rfl)⟩⟩ dX5_does_190 q2654 q2656 qs56 q153 q2657 hy_272), (fun _ h => absurd h List.not_mem_nil)⟩)
theorem kX5_does_193 (z : XKT) : XOi z xInf Y_X5_does 193 (.inl (i_if (fun x => x = 0) 204 196)) := ok_if_eq dX5_does_193 rfl
theorem kX5_does_196 (z : XKT) : XOi z xInf Y_X5_does 196 (.inl (i_aload 0 197)) := ok_aload_n dX5_does_196 rfl
theorem kX5_does_197 (z : XKT) : XOi z xInf Y_X5_does 197 (.inl (i_iload 2 198)) := ok_iload_n dX5_does_197 rfl
theorem kX5_does_198 (z : XKT) : XOi z xInf Y_X5_does 198 (.inr (.inl (201, g_virt [(4, 199)] 1))) := show XOkC z xInf Y_X5_does 198 201 (g_virt [(4, 199)] 1) from okc_V (q := Y_X5_does) (List.forall_mem_cons.mpr ⟨(show XOkV z xInf Y_X5_does 198 201 1 (4, 199) from okv_V (q := Y_X5_does) (q1 := Y_X5_doDivide) Z_X5_doDivide rfl (by decide) ⟨by decide, by decide, Or.inl ⟨_, _, (List.mem_of_getElem? (l := xCls) (i := 3) rfl)⟩⟩ dX5_does_198 q2962 q2964 qs93 q153 q2965 hy_285), (fun _ h => absurd h List.not_mem_nil)⟩)
theorem kX5_does_201 (z : XKT) : XOi z xInf Y_X5_does 201 (.inl (i_goto 209)) := ok_goto dX5_does_201 rfl
theorem kX5_does_204 (z : XKT) : XOi z xInf Y_X5_does 204 (.inl (i_aload 0 205)) := ok_aload_n dX5_does_204 rfl
theorem kX5_does_205 (z : XKT) : XOi z xInf Y_X5_does 205 (.inl (i_push (vI (-1)) 206)) := ok_iconst dX5_does_205 rfl
theorem kX5_does_206 (z : XKT) : XOi z xInf Y_X5_does 206 (.inr (.inl (209, g_virt [(4, 211)] 1))) := show XOkC z xInf Y_X5_does 206 209 (g_virt [(4, 211)] 1) from okc_V (q := Y_X5_does) (List.forall_mem_cons.mpr ⟨(show XOkV z xInf Y_X5_does 206 209 1 (4, 211) from okv_V (q := Y_X5_does) (q1 := Y_X5_ends) Z_X5_ends rfl (by decide) ⟨by decide, by decide, Or.inl ⟨_, _, (List.mem_of_getElem? (l := xCls) (i := 3) rfl)⟩⟩ dX5_does_206 q2890 q2892 qs81 q153 q2893 hy_291), (fun _ h => absurd h List.not_mem_nil)⟩)
theorem kX5_does_209 (z : XKT) : XOi z xInf Y_X5_does 209 (.inr (.inr (.inl (r_i .int)))) := show XOkR Y_X5_does 209 ((r_i .int)) from okr_i (q := Y_X5_does) (ty := .int) rfl rfl dX5_does_209
theorem kX5_does_210 (z : XKT) : XOi z xInf Y_X5_does 210 (.inl (i_aload 0 211)) := ok_aload_n dX5_does_210 rfl
theorem kX5_does_211 (z : XKT) : XOi z xInf Y_X5_does 211 (.inl (i_iload 2 212)) := ok_iload_n dX5_does_211 rfl
theorem kX5_does_212 (z : XKT) : XOi z xInf Y_X5_does 212 (.inr (.inl (215, g_virt [(4, 206)] 1))) := show XOkC z xInf Y_X5_does 212 215 (g_virt [(4, 206)] 1) from okc_V (q := Y_X5_does) (List.forall_mem_cons.mpr ⟨(show XOkV z xInf Y_X5_does 212 215 1 (4, 206) from okv_V (q := Y_X5_does) (q1 := Y_X5_doTicks) Z_X5_doTicks rfl (by decide) ⟨by decide, by decide, Or.inl ⟨_, _, (List.mem_of_getElem? (l := xCls) (i := 3) rfl)⟩⟩ dX5_does_212 q2982 q2984 qs96 q153 q2985 hy_303), (fun _ h => absurd h List.not_mem_nil)⟩)
theorem kX5_does_215 (z : XKT) : XOi z xInf Y_X5_does 215 (.inr (.inr (.inl (r_i .int)))) := show XOkR Y_X5_does 215 ((r_i .int)) from okr_i (q := Y_X5_does) (ty := .int) rfl rfl dX5_does_215
theorem o_X5_does (z : XKT) : XMi z xInf Y_X5_does := XMi.mk9 (T := T_X5_does z) rfl (⟨kX5_does_0 z, ⟨kX5_does_1 z, ⟨kX5_does_4 z, ⟨kX5_does_5 z, ⟨kX5_does_6 z, ⟨kX5_does_7 z, ⟨kX5_does_8 z, ⟨kX5_does_9 z, ⟨kX5_does_10 z, ⟨kX5_does_13 z, ⟨kX5_does_14 z, ⟨kX5_does_15 z, ⟨kX5_does_16 z, ⟨kX5_does_17 z, ⟨kX5_does_18 z, ⟨kX5_does_19 z, ⟨kX5_does_22 z, ⟨kX5_does_23 z, ⟨kX5_does_24 z, ⟨kX5_does_68 z, ⟨kX5_does_69 z, ⟨kX5_does_70 z, ⟨kX5_does_73 z, ⟨kX5_does_76 z, ⟨kX5_does_77 z, ⟨kX5_does_78 z, ⟨kX5_does_81 z, ⟨kX5_does_84 z, ⟨kX5_does_85 z, ⟨kX5_does_86 z, ⟨kX5_does_87 z, ⟨kX5_does_90 z, ⟨kX5_does_93 z, ⟨kX5_does_94 z, ⟨kX5_does_95 z, ⟨kX5_does_98 z, ⟨kX5_does_99 z, ⟨kX5_does_100 z, ⟨kX5_does_101 z, ⟨kX5_does_104 z, ⟨kX5_does_107 z, ⟨kX5_does_108 z, ⟨kX5_does_109 z, ⟨kX5_does_112 z, ⟨kX5_does_115 z, ⟨kX5_does_116 z, ⟨kX5_does_117 z, ⟨kX5_does_120 z, ⟨kX5_does_121 z, ⟨kX5_does_122 z, ⟨kX5_does_123 z, ⟨kX5_does_126 z, ⟨kX5_does_129 z, ⟨kX5_does_130 z, ⟨kX5_does_131 z, ⟨kX5_does_134 z, ⟨kX5_does_137 z, ⟨kX5_does_138 z, ⟨kX5_does_139 z, ⟨kX5_does_142 z, ⟨kX5_does_143 z, ⟨kX5_does_144 z, ⟨kX5_does_145 z, ⟨kX5_does_148 z, ⟨kX5_does_151 z, ⟨kX5_does_152 z, ⟨kX5_does_153 z, ⟨kX5_does_156 z, ⟨kX5_does_159 z, ⟨kX5_does_160 z, ⟨kX5_does_161 z, ⟨kX5_does_162 z, ⟨kX5_does_163 z, ⟨kX5_does_166 z, ⟨kX5_does_167 z, ⟨kX5_does_168 z, ⟨kX5_does_169 z, ⟨kX5_does_170 z, ⟨kX5_does_173 z, ⟨kX5_does_176 z, ⟨kX5_does_177 z, ⟨kX5_does_178 z, ⟨kX5_does_181 z, ⟨kX5_does_182 z, ⟨kX5_does_183 z, ⟨kX5_does_184 z, ⟨kX5_does_187 z, ⟨kX5_does_188 z, ⟨kX5_does_189 z, ⟨kX5_does_190 z, ⟨kX5_does_193 z, ⟨kX5_does_196 z, ⟨kX5_does_197 z, ⟨kX5_does_198 z, ⟨kX5_does_201 z, ⟨kX5_does_204 z, ⟨kX5_does_205 z, ⟨kX5_does_206 z, ⟨kX5_does_209 z, ⟨kX5_does_210 z, ⟨kX5_does_211 z, ⟨kX5_does_212 z, ⟨kX5_does_215 z, trivial⟩⟩⟩⟩⟩⟩⟩⟩⟩⟩⟩⟩⟩⟩⟩⟩⟩⟩⟩⟩⟩⟩⟩⟩⟩⟩⟩⟩⟩⟩⟩⟩⟩⟩⟩⟩⟩⟩⟩⟩⟩⟩⟩⟩⟩⟩⟩⟩⟩⟩⟩⟩⟩⟩⟩⟩⟩⟩⟩⟩⟩⟩⟩⟩⟩⟩⟩⟩⟩⟩⟩⟩⟩⟩⟩⟩⟩⟩⟩⟩⟩⟩⟩⟩⟩⟩⟩⟩⟩⟩⟩⟩⟩⟩⟩⟩⟩⟩⟩⟩⟩⟩⟩) (hd_X5_does z) rfl rfl (by decide +kernel)
theorem hd_X5_dryIn (z : XKT) : XHd z Y_X5_dryIn := xHd_none rfl (xhd0 rfl)
theorem kX5_dryIn_0 (z : XKT) : XOi z xInf Y_X5_dryIn 0 (.inl (i_aload 0 1)) := ok_aload_n dX5_dryIn_0 rfl
theorem kX5_dryIn_1 (z : XKT) : XOi z xInf Y_X5_dryIn 1 (.inl (i_aload 0 2)) := ok_aload_n dX5_dryIn_1 rfl
theorem kX5_dryIn_2 (z : XKT) : XOi z xInf Y_X5_dryIn 2 (.inl (i_iload 1 3)) := ok_iload_n dX5_dryIn_2 rfl
theorem kX5_dryIn_3 (z : XKT) : XOi z xInf Y_X5_dryIn 3 (.inr (.inl (6, g_virt [(4, 232)] 1))) := show XOkC z xInf Y_X5_dryIn 3 6 (g_virt [(4, 232)] 1) from okc_V (q := Y_X5_dryIn) (List.forall_mem_cons.mpr ⟨(show XOkV z xInf Y_X5_dryIn 3 6 1 (4, 232) from okv_V (q := Y_X5_dryIn) (q1 := Y_X5_isGood) Z_X5_isGood rfl (by decide) ⟨by decide, by decide, Or.inl ⟨_, _, (List.mem_of_getElem? (l := xCls) (i := 3) rfl)⟩⟩ dX5_dryIn_3 q2654 q2656 qs56 q153 q2657 hy_272), (fun _ h => absurd h List.not_mem_nil)⟩)
theorem kX5_dryIn_6 (z : XKT) : XOi z xInf Y_X5_dryIn 6 (.inr (.inl (9, g_virt [(4, 240)] 1))) := show XOkC z xInf Y_X5_dryIn 6 9 (g_virt [(4, 240)] 1) from okc_V (q := Y_X5_dryIn) (List.forall_mem_cons.mpr ⟨(show XOkV z xInf Y_X5_dryIn 6 9 1 (4, 240) from okv_V (q := Y_X5_dryIn) (q1 := Y_X5_lacks) Z_X5_lacks rfl (by decide) ⟨by decide, by decide, Or.inl ⟨_, _, (List.mem_of_getElem? (l := xCls) (i := 3) rfl)⟩⟩ dX5_dryIn_6 q2606 q2608 qs46 q153 q2609 hy_262), (fun _ h => absurd h List.not_mem_nil)⟩)
theorem kX5_dryIn_9 (z : XKT) : XOi z xInf Y_X5_dryIn 9 (.inl (i_if (fun x => x = 0) 16 12)) := ok_if_eq dX5_dryIn_9 rfl
theorem kX5_dryIn_12 (z : XKT) : XOi z xInf Y_X5_dryIn 12 (.inl (i_push (vI 0) 13)) := ok_iconst dX5_dryIn_12 rfl
theorem kX5_dryIn_13 (z : XKT) : XOi z xInf Y_X5_dryIn 13 (.inl (i_goto 21)) := ok_goto dX5_dryIn_13 rfl
theorem kX5_dryIn_16 (z : XKT) : XOi z xInf Y_X5_dryIn 16 (.inl (i_aload 0 17)) := ok_aload_n dX5_dryIn_16 rfl
theorem kX5_dryIn_17 (z : XKT) : XOi z xInf Y_X5_dryIn 17 (.inl (i_iload 1 18)) := ok_iload_n dX5_dryIn_17 rfl
theorem kX5_dryIn_18 (z : XKT) : XOi z xInf Y_X5_dryIn 18 (.inr (.inl (21, g_virt [(4, 295)] 1))) := show XOkC z xInf Y_X5_dryIn 18 21 (g_virt [(4, 295)] 1) from okc_V (q := Y_X5_dryIn) (List.forall_mem_cons.mpr ⟨(show XOkV z xInf Y_X5_dryIn 18 21 1 (4, 295) from okv_V (q := Y_X5_dryIn) (q1 := Y_X5_ticksToDry) Z_X5_ticksToDry rfl (by decide) ⟨by decide, by decide, Or.inl ⟨_, _, (List.mem_of_getElem? (l := xCls) (i := 3) rfl)⟩⟩ dX5_dryIn_18 q2774 q2776 qs73 q153 q2777 hy_274), (fun _ h => absurd h List.not_mem_nil)⟩)
theorem kX5_dryIn_21 (z : XKT) : XOi z xInf Y_X5_dryIn 21 (.inr (.inr (.inl (r_i .int)))) := show XOkR Y_X5_dryIn 21 ((r_i .int)) from okr_i (q := Y_X5_dryIn) (ty := .int) rfl rfl dX5_dryIn_21
theorem o_X5_dryIn (z : XKT) : XMi z xInf Y_X5_dryIn := XMi.mk9 (T := T_X5_dryIn z) rfl (⟨kX5_dryIn_0 z, ⟨kX5_dryIn_1 z, ⟨kX5_dryIn_2 z, ⟨kX5_dryIn_3 z, ⟨kX5_dryIn_6 z, ⟨kX5_dryIn_9 z, ⟨kX5_dryIn_12 z, ⟨kX5_dryIn_13 z, ⟨kX5_dryIn_16 z, ⟨kX5_dryIn_17 z, ⟨kX5_dryIn_18 z, ⟨kX5_dryIn_21 z, trivial⟩⟩⟩⟩⟩⟩⟩⟩⟩⟩⟩⟩) (hd_X5_dryIn z) rfl rfl (by decide +kernel)
theorem hd_X5_dryTicks (z : XKT) : XHd z Y_X5_dryTicks := xHd_none rfl (xhd0 rfl)
theorem kX5_dryTicks_0 (z : XKT) : XOi z xInf Y_X5_dryTicks 0 (.inl (i_aload 0 1)) := ok_aload_n dX5_dryTicks_0 rfl
theorem kX5_dryTicks_1 (z : XKT) : XOi z xInf Y_X5_dryTicks 1 (.inl (i_aload 0 2)) := ok_aload_n dX5_dryTicks_1 rfl
theorem kX5_dryTicks_2 (z : XKT) : XOi z xInf Y_X5_dryTicks 2 (.inl (i_iload 1 3)) := ok_iload_n dX5_dryTicks_2 rfl
theorem kX5_dryTicks_3 (z : XKT) : XOi z xInf Y_X5_dryTicks 3 (.inr (.inl (6, g_virt [(4, 232)] 1))) := show XOkC z xInf Y_X5_dryTicks 3 6 (g_virt [(4, 232)] 1) from okc_V (q := Y_X5_dryTicks) (List.forall_mem_cons.mpr ⟨(show XOkV z xInf Y_X5_dryTicks 3 6 1 (4, 232) from okv_V (q := Y_X5_dryTicks) (q1 := Y_X5_isGood) Z_X5_isGood rfl (by decide) ⟨by decide, by decide, Or.inl ⟨_, _, (List.mem_of_getElem? (l := xCls) (i := 3) rfl)⟩⟩ dX5_dryTicks_3 q2654 q2656 qs56 q153 q2657 hy_272), (fun _ h => absurd h List.not_mem_nil)⟩)
theorem kX5_dryTicks_6 (z : XKT) : XOi z xInf Y_X5_dryTicks 6 (.inr (.inl (9, g_virt [(4, 240)] 1))) := show XOkC z xInf Y_X5_dryTicks 6 9 (g_virt [(4, 240)] 1) from okc_V (q := Y_X5_dryTicks) (List.forall_mem_cons.mpr ⟨(show XOkV z xInf Y_X5_dryTicks 6 9 1 (4, 240) from okv_V (q := Y_X5_dryTicks) (q1 := Y_X5_lacks) Z_X5_lacks rfl (by decide) ⟨by decide, by decide, Or.inl ⟨_, _, (List.mem_of_getElem? (l := xCls) (i := 3) rfl)⟩⟩ dX5_dryTicks_6 q2606 q2608 qs46 q153 q2609 hy_262), (fun _ h => absurd h List.not_mem_nil)⟩)
theorem kX5_dryTicks_9 (z : XKT) : XOi z xInf Y_X5_dryTicks 9 (.inl (i_if (fun x => x = 0) 16 12)) := ok_if_eq dX5_dryTicks_9 rfl
theorem kX5_dryTicks_12 (z : XKT) : XOi z xInf Y_X5_dryTicks 12 (.inl (i_push (vI 0) 13)) := ok_iconst dX5_dryTicks_12 rfl
theorem kX5_dryTicks_13 (z : XKT) : XOi z xInf Y_X5_dryTicks 13 (.inl (i_goto 21)) := ok_goto dX5_dryTicks_13 rfl
theorem kX5_dryTicks_16 (z : XKT) : XOi z xInf Y_X5_dryTicks 16 (.inl (i_aload 0 17)) := ok_aload_n dX5_dryTicks_16 rfl
theorem kX5_dryTicks_17 (z : XKT) : XOi z xInf Y_X5_dryTicks 17 (.inl (i_iload 1 18)) := ok_iload_n dX5_dryTicks_17 rfl
theorem kX5_dryTicks_18 (z : XKT) : XOi z xInf Y_X5_dryTicks 18 (.inr (.inl (21, g_virt [(4, 185)] 1))) := show XOkC z xInf Y_X5_dryTicks 18 21 (g_virt [(4, 185)] 1) from okc_V (q := Y_X5_dryTicks) (List.forall_mem_cons.mpr ⟨(show XOkV z xInf Y_X5_dryTicks 18 21 1 (4, 185) from okv_V (q := Y_X5_dryTicks) (q1 := Y_X5_countDry) Z_X5_countDry rfl (by decide) ⟨by decide, by decide, Or.inl ⟨_, _, (List.mem_of_getElem? (l := xCls) (i := 3) rfl)⟩⟩ dX5_dryTicks_18 q2782 q2784 qs74 q153 q2785 hy_304), (fun _ h => absurd h List.not_mem_nil)⟩)
theorem kX5_dryTicks_21 (z : XKT) : XOi z xInf Y_X5_dryTicks 21 (.inr (.inr (.inl (r_i .int)))) := show XOkR Y_X5_dryTicks 21 ((r_i .int)) from okr_i (q := Y_X5_dryTicks) (ty := .int) rfl rfl dX5_dryTicks_21
theorem o_X5_dryTicks (z : XKT) : XMi z xInf Y_X5_dryTicks := XMi.mk9 (T := T_X5_dryTicks z) rfl (⟨kX5_dryTicks_0 z, ⟨kX5_dryTicks_1 z, ⟨kX5_dryTicks_2 z, ⟨kX5_dryTicks_3 z, ⟨kX5_dryTicks_6 z, ⟨kX5_dryTicks_9 z, ⟨kX5_dryTicks_12 z, ⟨kX5_dryTicks_13 z, ⟨kX5_dryTicks_16 z, ⟨kX5_dryTicks_17 z, ⟨kX5_dryTicks_18 z, ⟨kX5_dryTicks_21 z, trivial⟩⟩⟩⟩⟩⟩⟩⟩⟩⟩⟩⟩) (hd_X5_dryTicks z) rfl rfl (by decide +kernel)
theorem hd_X5_earned (z : XKT) : XHd z Y_X5_earned := xHd_none rfl (xhd0 rfl)
theorem kX5_earned_0 (z : XKT) : XOi z xInf Y_X5_earned 0 (.inl (i_aload 0 1)) := ok_aload_n dX5_earned_0 rfl
theorem kX5_earned_1 (z : XKT) : XOi z xInf Y_X5_earned 1 (.inl (i_aload 0 2)) := ok_aload_n dX5_earned_1 rfl
theorem kX5_earned_2 (z : XKT) : XOi z xInf Y_X5_earned 2 (.inl (i_iload 1 3)) := ok_iload_n dX5_earned_2 rfl
theorem kX5_earned_3 (z : XKT) : XOi z xInf Y_X5_earned 3 (.inr (.inl (6, g_virt [(4, 231)] 1))) := show XOkC z xInf Y_X5_earned 3 6 (g_virt [(4, 231)] 1) from okc_V (q := Y_X5_earned) (List.forall_mem_cons.mpr ⟨(show XOkV z xInf Y_X5_earned 3 6 1 (4, 231) from okv_V (q := Y_X5_earned) (q1 := Y_X5_isFinder) Z_X5_isFinder rfl (by decide) ⟨by decide, by decide, Or.inl ⟨_, _, (List.mem_of_getElem? (l := xCls) (i := 3) rfl)⟩⟩ dX5_earned_3 q2666 q2668 qs58 q153 q2669 hy_298), (fun _ h => absurd h List.not_mem_nil)⟩)
theorem kX5_earned_6 (z : XKT) : XOi z xInf Y_X5_earned 6 (.inr (.inl (9, g_virt [(4, 240)] 1))) := show XOkC z xInf Y_X5_earned 6 9 (g_virt [(4, 240)] 1) from okc_V (q := Y_X5_earned) (List.forall_mem_cons.mpr ⟨(show XOkV z xInf Y_X5_earned 6 9 1 (4, 240) from okv_V (q := Y_X5_earned) (q1 := Y_X5_lacks) Z_X5_lacks rfl (by decide) ⟨by decide, by decide, Or.inl ⟨_, _, (List.mem_of_getElem? (l := xCls) (i := 3) rfl)⟩⟩ dX5_earned_6 q2606 q2608 qs46 q153 q2609 hy_262), (fun _ h => absurd h List.not_mem_nil)⟩)
theorem kX5_earned_9 (z : XKT) : XOi z xInf Y_X5_earned 9 (.inl (i_if (fun x => x = 0) 14 12)) := ok_if_eq dX5_earned_9 rfl
theorem kX5_earned_12 (z : XKT) : XOi z xInf Y_X5_earned 12 (.inl (i_push (vI 0) 13)) := ok_iconst dX5_earned_12 rfl
theorem kX5_earned_13 (z : XKT) : XOi z xInf Y_X5_earned 13 (.inr (.inr (.inl (r_i .int)))) := show XOkR Y_X5_earned 13 ((r_i .int)) from okr_i (q := Y_X5_earned) (ty := .int) rfl rfl dX5_earned_13
theorem kX5_earned_14 (z : XKT) : XOi z xInf Y_X5_earned 14 (.inl (i_push (vI 0) 15)) := ok_iconst dX5_earned_14 rfl
theorem kX5_earned_15 (z : XKT) : XOi z xInf Y_X5_earned 15 (.inl (i_istore 2 16)) := ok_istore_n dX5_earned_15 rfl
theorem kX5_earned_16 (z : XKT) : XOi z xInf Y_X5_earned 16 (.inl (i_push (vI 0) 17)) := ok_iconst dX5_earned_16 rfl
theorem kX5_earned_17 (z : XKT) : XOi z xInf Y_X5_earned 17 (.inl (i_istore 3 18)) := ok_istore_n dX5_earned_17 rfl
theorem kX5_earned_18 (z : XKT) : XOi z xInf Y_X5_earned 18 (.inl (i_iload 3 19)) := ok_iload_n dX5_earned_18 rfl
theorem kX5_earned_19 (z : XKT) : XOi z xInf Y_X5_earned 19 (.inl (i_aload 0 20)) := ok_aload_n dX5_earned_19 rfl
theorem kX5_earned_20 (z : XKT) : XOi z xInf Y_X5_earned 20 (.inl (i_getr [4] 40 23)) := ok_getr dX5_earned_20 q2517 (List.forall_mem_cons.mpr ⟨⟨_, _, _, _, fd_40_4_0⟩, (fun _ h => absurd h List.not_mem_nil)⟩)
theorem kX5_earned_23 (z : XKT) : XOi z xInf Y_X5_earned 23 (.inl (i_push (vI 5) 24)) := ok_iconst dX5_earned_23 rfl
theorem kX5_earned_24 (z : XKT) : XOi z xInf Y_X5_earned 24 (.inl (i_ald 1000 25)) := ok_iald dX5_earned_24
theorem kX5_earned_25 (z : XKT) : XOi z xInf Y_X5_earned 25 (.inl (i_icmp (fun x y => y ≤ x) 56 28)) := ok_icmp_ge dX5_earned_25 rfl
theorem kX5_earned_28 (z : XKT) : XOi z xInf Y_X5_earned 28 (.inl (i_iload 2 29)) := ok_iload_n dX5_earned_28 rfl
theorem kX5_earned_29 (z : XKT) : XOi z xInf Y_X5_earned 29 (.inl (i_aload 0 30)) := ok_aload_n dX5_earned_29 rfl
theorem kX5_earned_30 (z : XKT) : XOi z xInf Y_X5_earned 30 (.inl (i_iload 3 31)) := ok_iload_n dX5_earned_30 rfl
theorem kX5_earned_31 (z : XKT) : XOi z xInf Y_X5_earned 31 (.inl (i_push (vI 2) 32)) := ok_iconst dX5_earned_31 rfl
theorem kX5_earned_32 (z : XKT) : XOi z xInf Y_X5_earned 32 (.inr (.inl (35, g_virt [(4, 233)] 2))) := show XOkC z xInf Y_X5_earned 32 35 (g_virt [(4, 233)] 2) from okc_V (q := Y_X5_earned) (List.forall_mem_cons.mpr ⟨(show XOkV z xInf Y_X5_earned 32 35 2 (4, 233) from okv_V (q := Y_X5_earned) (q1 := Y_X5_isIn) Z_X5_isIn rfl (by decide) ⟨by decide, by decide, Or.inl ⟨_, _, (List.mem_of_getElem? (l := xCls) (i := 3) rfl)⟩⟩ dX5_earned_32 q2618 q2620 qs49 q153 q2621 hy_270), (fun _ h => absurd h List.not_mem_nil)⟩)
theorem kX5_earned_35 (z : XKT) : XOi z xInf Y_X5_earned 35 (.inl (i_if (fun x => x = 0) 47 38)) := ok_if_eq dX5_earned_35 rfl
theorem kX5_earned_38 (z : XKT) : XOi z xInf Y_X5_earned 38 (.inl (i_aload 0 39)) := ok_aload_n dX5_earned_38 rfl
theorem kX5_earned_39 (z : XKT) : XOi z xInf Y_X5_earned 39 (.inl (i_iload 3 40)) := ok_iload_n dX5_earned_39 rfl
theorem kX5_earned_40 (z : XKT) : XOi z xInf Y_X5_earned 40 (.inl (i_iload 1 41)) := ok_iload_n dX5_earned_40 rfl
theorem kX5_earned_41 (z : XKT) : XOi z xInf Y_X5_earned 41 (.inr (.inl (44, g_virt [(4, 287)] 2))) := show XOkC z xInf Y_X5_earned 41 44 (g_virt [(4, 287)] 2) from okc_V (q := Y_X5_earned) (List.forall_mem_cons.mpr ⟨(show XOkV z xInf Y_X5_earned 41 44 2 (4, 287) from okv_V (q := Y_X5_earned) (q1 := Y_X5_shareOf) Z_X5_shareOf rfl (by decide) ⟨by decide, by decide, Or.inl ⟨_, _, (List.mem_of_getElem? (l := xCls) (i := 3) rfl)⟩⟩ dX5_earned_41 q2713 q2715 qs63 q153 q2716 hy_305), (fun _ h => absurd h List.not_mem_nil)⟩)
theorem kX5_earned_44 (z : XKT) : XOi z xInf Y_X5_earned 44 (.inl (i_goto 48)) := ok_goto dX5_earned_44 rfl
theorem kX5_earned_47 (z : XKT) : XOi z xInf Y_X5_earned 47 (.inl (i_push (vI 0) 48)) := ok_iconst dX5_earned_47 rfl
theorem kX5_earned_48 (z : XKT) : XOi z xInf Y_X5_earned 48 (.inl (i_bin (fun x y => x + y) 49)) := ok_iadd dX5_earned_48
theorem kX5_earned_49 (z : XKT) : XOi z xInf Y_X5_earned 49 (.inl (i_istore 2 50)) := ok_istore_n dX5_earned_49 rfl
theorem kX5_earned_50 (z : XKT) : XOi z xInf Y_X5_earned 50 (.inl (i_iinc 3 1 53)) := ok_iinc dX5_earned_50 rfl
theorem kX5_earned_53 (z : XKT) : XOi z xInf Y_X5_earned 53 (.inl (i_goto 18)) := ok_goto dX5_earned_53 rfl
theorem kX5_earned_56 (z : XKT) : XOi z xInf Y_X5_earned 56 (.inl (i_iload 2 57)) := ok_iload_n dX5_earned_56 rfl
theorem kX5_earned_57 (z : XKT) : XOi z xInf Y_X5_earned 57 (.inr (.inr (.inl (r_i .int)))) := show XOkR Y_X5_earned 57 ((r_i .int)) from okr_i (q := Y_X5_earned) (ty := .int) rfl rfl dX5_earned_57
theorem o_X5_earned (z : XKT) : XMi z xInf Y_X5_earned := XMi.mk9 (T := T_X5_earned z) rfl (⟨kX5_earned_0 z, ⟨kX5_earned_1 z, ⟨kX5_earned_2 z, ⟨kX5_earned_3 z, ⟨kX5_earned_6 z, ⟨kX5_earned_9 z, ⟨kX5_earned_12 z, ⟨kX5_earned_13 z, ⟨kX5_earned_14 z, ⟨kX5_earned_15 z, ⟨kX5_earned_16 z, ⟨kX5_earned_17 z, ⟨kX5_earned_18 z, ⟨kX5_earned_19 z, ⟨kX5_earned_20 z, ⟨kX5_earned_23 z, ⟨kX5_earned_24 z, ⟨kX5_earned_25 z, ⟨kX5_earned_28 z, ⟨kX5_earned_29 z, ⟨kX5_earned_30 z, ⟨kX5_earned_31 z, ⟨kX5_earned_32 z, ⟨kX5_earned_35 z, ⟨kX5_earned_38 z, ⟨kX5_earned_39 z, ⟨kX5_earned_40 z, ⟨kX5_earned_41 z, ⟨kX5_earned_44 z, ⟨kX5_earned_47 z, ⟨kX5_earned_48 z, ⟨kX5_earned_49 z, ⟨kX5_earned_50 z, ⟨kX5_earned_53 z, ⟨kX5_earned_56 z, ⟨kX5_earned_57 z, trivial⟩⟩⟩⟩⟩⟩⟩⟩⟩⟩⟩⟩⟩⟩⟩⟩⟩⟩⟩⟩⟩⟩⟩⟩⟩⟩⟩⟩⟩⟩⟩⟩⟩⟩⟩⟩) (hd_X5_earned z) rfl rfl (by decide +kernel)
theorem hd_X5_ends (z : XKT) : XHd z Y_X5_ends := xHd_none rfl (xhd0 rfl)
theorem kX5_ends_0 (z : XKT) : XOi z xInf Y_X5_ends 0 (.inl (i_aload 0 1)) := ok_aload_n dX5_ends_0 rfl
theorem kX5_ends_1 (z : XKT) : XOi z xInf Y_X5_ends 1 (.inl (i_getr [4] 35 4)) := ok_getr dX5_ends_1 q2512 (List.forall_mem_cons.mpr ⟨⟨_, _, _, _, fd_35_4_0⟩, (fun _ h => absurd h List.not_mem_nil)⟩)
theorem kX5_ends_4 (z : XKT) : XOi z xInf Y_X5_ends 4 (.inl (i_iload 1 5)) := ok_iload_n dX5_ends_4 rfl
theorem kX5_ends_5 (z : XKT) : XOi z xInf Y_X5_ends 5 (.inl (i_if (fun x => 0 ≤ x) 12 8)) := ok_if_ge dX5_ends_5 rfl
theorem kX5_ends_8 (z : XKT) : XOi z xInf Y_X5_ends 8 (.inl (i_push (vI 1) 9)) := ok_iconst dX5_ends_8 rfl
theorem kX5_ends_9 (z : XKT) : XOi z xInf Y_X5_ends 9 (.inl (i_goto 13)) := ok_goto dX5_ends_9 rfl
theorem kX5_ends_12 (z : XKT) : XOi z xInf Y_X5_ends 12 (.inl (i_push (vI 0) 13)) := ok_iconst dX5_ends_12 rfl
theorem kX5_ends_13 (z : XKT) : XOi z xInf Y_X5_ends 13 (.inl (i_dup2 14)) := ok_dup2 dX5_ends_13
theorem kX5_ends_14 (z : XKT) : XOi z xInf Y_X5_ends 14 (.inl (i_ald 1000 15)) := ok_iald dX5_ends_14
theorem kX5_ends_15 (z : XKT) : XOi z xInf Y_X5_ends 15 (.inl (i_push (vI 1) 16)) := ok_iconst dX5_ends_15 rfl
theorem kX5_ends_16 (z : XKT) : XOi z xInf Y_X5_ends 16 (.inl (i_bin (fun x y => x + y) 17)) := ok_iadd dX5_ends_16
theorem kX5_ends_17 (z : XKT) : XOi z xInf Y_X5_ends 17 (.inl (i_ast z.1 1000 (fun x => x) 18)) := ok_iast dX5_ends_17
theorem kX5_ends_18 (z : XKT) : XOi z xInf Y_X5_ends 18 (.inl (i_iload 1 19)) := ok_iload_n dX5_ends_18 rfl
theorem kX5_ends_19 (z : XKT) : XOi z xInf Y_X5_ends 19 (.inr (.inr (.inl (r_i .int)))) := show XOkR Y_X5_ends 19 ((r_i .int)) from okr_i (q := Y_X5_ends) (ty := .int) rfl rfl dX5_ends_19
theorem o_X5_ends (z : XKT) : XMi z xInf Y_X5_ends := XMi.mk9 (T := T_X5_ends z) rfl (⟨kX5_ends_0 z, ⟨kX5_ends_1 z, ⟨kX5_ends_4 z, ⟨kX5_ends_5 z, ⟨kX5_ends_8 z, ⟨kX5_ends_9 z, ⟨kX5_ends_12 z, ⟨kX5_ends_13 z, ⟨kX5_ends_14 z, ⟨kX5_ends_15 z, ⟨kX5_ends_16 z, ⟨kX5_ends_17 z, ⟨kX5_ends_18 z, ⟨kX5_ends_19 z, trivial⟩⟩⟩⟩⟩⟩⟩⟩⟩⟩⟩⟩⟩⟩) (hd_X5_ends z) rfl rfl (by decide +kernel)
theorem hd_X5_errorPosition (z : XKT) : XHd z Y_X5_errorPosition := xHd_none rfl (xhd0 rfl)
theorem kX5_errorPosition_0 (z : XKT) : XOi z xInf Y_X5_errorPosition 0 (.inl (i_aload 0 1)) := ok_aload_n dX5_errorPosition_0 rfl
theorem kX5_errorPosition_1 (z : XKT) : XOi z xInf Y_X5_errorPosition 1 (.inl (i_push (vI 0) 2)) := ok_iconst dX5_errorPosition_1 rfl
theorem kX5_errorPosition_2 (z : XKT) : XOi z xInf Y_X5_errorPosition 2 (.inl (i_puti z.1 [4] .int 42 5)) := ok_puti dX5_errorPosition_2 q2519 rfl (List.forall_mem_cons.mpr ⟨⟨_, _, _, _, tyX5, fd_42_4_0, ⟨tyX5_ok, nmX5, (Or.inl rfl)⟩, rfl⟩, (fun _ h => absurd h List.not_mem_nil)⟩)
theorem kX5_errorPosition_5 (z : XKT) : XOi z xInf Y_X5_errorPosition 5 (.inl (i_aload 0 6)) := ok_aload_n dX5_errorPosition_5 rfl
theorem kX5_errorPosition_6 (z : XKT) : XOi z xInf Y_X5_errorPosition 6 (.inl (i_geti [4] 54 9)) := ok_geti dX5_errorPosition_6 q2531 (List.forall_mem_cons.mpr ⟨⟨_, _, _, _, fd_54_4_0⟩, (fun _ h => absurd h List.not_mem_nil)⟩)
theorem kX5_errorPosition_9 (z : XKT) : XOi z xInf Y_X5_errorPosition 9 (.inr (.inr (.inl (r_i .int)))) := show XOkR Y_X5_errorPosition 9 ((r_i .int)) from okr_i (q := Y_X5_errorPosition) (ty := .int) rfl rfl dX5_errorPosition_9
theorem o_X5_errorPosition (z : XKT) : XMi z xInf Y_X5_errorPosition := XMi.mk9 (T := T_X5_errorPosition z) rfl (⟨kX5_errorPosition_0 z, ⟨kX5_errorPosition_1 z, ⟨kX5_errorPosition_2 z, ⟨kX5_errorPosition_5 z, ⟨kX5_errorPosition_6 z, ⟨kX5_errorPosition_9 z, trivial⟩⟩⟩⟩⟩⟩) (hd_X5_errorPosition z) rfl rfl (by decide +kernel)
theorem hd_X5_expect (z : XKT) : XHd z Y_X5_expect := xHd_none rfl (xhd0 rfl)
theorem kX5_expect_0 (z : XKT) : XOi z xInf Y_X5_expect 0 (.inl (i_aload 0 1)) := ok_aload_n dX5_expect_0 rfl
theorem kX5_expect_1 (z : XKT) : XOi z xInf Y_X5_expect 1 (.inl (i_aload 0 2)) := ok_aload_n dX5_expect_1 rfl
theorem kX5_expect_2 (z : XKT) : XOi z xInf Y_X5_expect 2 (.inl (i_iload 1 3)) := ok_iload_n dX5_expect_2 rfl
theorem kX5_expect_3 (z : XKT) : XOi z xInf Y_X5_expect 3 (.inr (.inl (6, g_virt [(4, 236)] 1))) := show XOkC z xInf Y_X5_expect 3 6 (g_virt [(4, 236)] 1) from okc_V (q := Y_X5_expect) (List.forall_mem_cons.mpr ⟨(show XOkV z xInf Y_X5_expect 3 6 1 (4, 236) from okv_V (q := Y_X5_expect) (q1 := Y_X5_isSymbol) Z_X5_isSymbol rfl (by decide) ⟨by decide, by decide, Or.inl ⟨_, _, (List.mem_of_getElem? (l := xCls) (i := 3) rfl)⟩⟩ dX5_expect_3 q3098 q3100 qs115 q153 q3101 hy_306), (fun _ h => absurd h List.not_mem_nil)⟩)
theorem kX5_expect_6 (z : XKT) : XOi z xInf Y_X5_expect 6 (.inl (i_push (vI 1) 7)) := ok_iconst dX5_expect_6 rfl
theorem kX5_expect_7 (z : XKT) : XOi z xInf Y_X5_expect 7 (.inr (.inl (10, g_virt [(4, 178)] 2))) := show XOkC z xInf Y_X5_expect 7 10 (g_virt [(4, 178)] 2) from okc_V (q := Y_X5_expect) (List.forall_mem_cons.mpr ⟨(show XOkV z xInf Y_X5_expect 7 10 2 (4, 178) from okv_V (q := Y_X5_expect) (q1 := Y_X5_check) Z_X5_check rfl (by decide) ⟨by decide, by decide, Or.inl ⟨_, _, (List.mem_of_getElem? (l := xCls) (i := 3) rfl)⟩⟩ dX5_expect_7 q3073 q3075 qs109 q153 q3076 hy_307), (fun _ h => absurd h List.not_mem_nil)⟩)
theorem kX5_expect_10 (z : XKT) : XOi z xInf Y_X5_expect 10 (.inl (i_aload 0 11)) := ok_aload_n dX5_expect_10 rfl
theorem kX5_expect_11 (z : XKT) : XOi z xInf Y_X5_expect 11 (.inr (.inl (14, g_virt [(4, 171)] 0))) := show XOkC z xInf Y_X5_expect 11 14 (g_virt [(4, 171)] 0) from okc_V (q := Y_X5_expect) (List.forall_mem_cons.mpr ⟨(show XOkV z xInf Y_X5_expect 11 14 0 (4, 171) from okv_V (q := Y_X5_expect) (q1 := Y_X5_advance) Z_X5_advance rfl (by decide) ⟨by decide, by decide, Or.inl ⟨_, _, (List.mem_of_getElem? (l := xCls) (i := 3) rfl)⟩⟩ dX5_expect_11 q3077 q3079 qs110 q153 q3080 hy_308), (fun _ h => absurd h List.not_mem_nil)⟩)
theorem kX5_expect_14 (z : XKT) : XOi z xInf Y_X5_expect 14 (.inr (.inr (.inl r_v))) := show XOkR Y_X5_expect 14 (r_v) from okr_v (q := Y_X5_expect) rfl dX5_expect_14
theorem o_X5_expect (z : XKT) : XMi z xInf Y_X5_expect := XMi.mk9 (T := T_X5_expect z) rfl (⟨kX5_expect_0 z, ⟨kX5_expect_1 z, ⟨kX5_expect_2 z, ⟨kX5_expect_3 z, ⟨kX5_expect_6 z, ⟨kX5_expect_7 z, ⟨kX5_expect_10 z, ⟨kX5_expect_11 z, ⟨kX5_expect_14 z, trivial⟩⟩⟩⟩⟩⟩⟩⟩⟩) (hd_X5_expect z) rfl rfl (by decide +kernel)
theorem hd_X5_feed (z : XKT) : XHd z Y_X5_feed := xHd_none rfl (xhd0 rfl)
theorem kX5_feed_0 (z : XKT) : XOi z xInf Y_X5_feed 0 (.inl (i_aload 0 1)) := ok_aload_n dX5_feed_0 rfl
theorem kX5_feed_1 (z : XKT) : XOi z xInf Y_X5_feed 1 (.inl (i_push (vI 0) 2)) := ok_iconst dX5_feed_1 rfl
theorem kX5_feed_2 (z : XKT) : XOi z xInf Y_X5_feed 2 (.inl (i_puti z.1 [4] .int 42 5)) := ok_puti dX5_feed_2 q2519 rfl (List.forall_mem_cons.mpr ⟨⟨_, _, _, _, tyX5, fd_42_4_0, ⟨tyX5_ok, nmX5, (Or.inl rfl)⟩, rfl⟩, (fun _ h => absurd h List.not_mem_nil)⟩)
theorem kX5_feed_5 (z : XKT) : XOi z xInf Y_X5_feed 5 (.inl (i_aload 0 6)) := ok_aload_n dX5_feed_5 rfl
theorem kX5_feed_6 (z : XKT) : XOi z xInf Y_X5_feed 6 (.inl (i_geti [4] 47 9)) := ok_geti dX5_feed_6 q2524 (List.forall_mem_cons.mpr ⟨⟨_, _, _, _, fd_47_4_0⟩, (fun _ h => absurd h List.not_mem_nil)⟩)
theorem kX5_feed_9 (z : XKT) : XOi z xInf Y_X5_feed 9 (.inl (i_push (vI 20) 11)) := ok_bipush dX5_feed_9 rfl
theorem kX5_feed_11 (z : XKT) : XOi z xInf Y_X5_feed 11 (.inl (i_bin (fun x y => x + y) 12)) := ok_iadd dX5_feed_11
theorem kX5_feed_12 (z : XKT) : XOi z xInf Y_X5_feed 12 (.inl (i_push (vI 700) 15)) := ok_sipush dX5_feed_12 rfl
theorem kX5_feed_15 (z : XKT) : XOi z xInf Y_X5_feed 15 (.inl (i_icmp (fun x y => x ≤ y) 20 18)) := ok_icmp_le dX5_feed_15 rfl
theorem kX5_feed_18 (z : XKT) : XOi z xInf Y_X5_feed 18 (.inl (i_push (vI (-1)) 19)) := ok_iconst dX5_feed_18 rfl
theorem kX5_feed_19 (z : XKT) : XOi z xInf Y_X5_feed 19 (.inr (.inr (.inl (r_i .int)))) := show XOkR Y_X5_feed 19 ((r_i .int)) from okr_i (q := Y_X5_feed) (ty := .int) rfl rfl dX5_feed_19
theorem kX5_feed_20 (z : XKT) : XOi z xInf Y_X5_feed 20 (.inl (i_push (vI 0) 21)) := ok_iconst dX5_feed_20 rfl
theorem kX5_feed_21 (z : XKT) : XOi z xInf Y_X5_feed 21 (.inl (i_istore 6 23)) := ok_istore dX5_feed_21
theorem kX5_feed_23 (z : XKT) : XOi z xInf Y_X5_feed 23 (.inl (i_iload 6 25)) := ok_iload dX5_feed_23
theorem kX5_feed_25 (z : XKT) : XOi z xInf Y_X5_feed 25 (.inl (i_push (vI 20) 27)) := ok_bipush dX5_feed_25 rfl
theorem kX5_feed_27 (z : XKT) : XOi z xInf Y_X5_feed 27 (.inl (i_icmp (fun x y => y ≤ x) 120 30)) := ok_icmp_ge dX5_feed_27 rfl
theorem kX5_feed_30 (z : XKT) : XOi z xInf Y_X5_feed 30 (.inl (i_iload 6 32)) := ok_iload dX5_feed_30
theorem kX5_feed_32 (z : XKT) : XOi z xInf Y_X5_feed 32 (.inl (i_push (vI 4) 33)) := ok_iconst dX5_feed_32 rfl
theorem kX5_feed_33 (z : XKT) : XOi z xInf Y_X5_feed 33 (.inl (i_icmp (fun x y => y ≤ x) 40 36)) := ok_icmp_ge dX5_feed_33 rfl
theorem kX5_feed_36 (z : XKT) : XOi z xInf Y_X5_feed 36 (.inl (i_iload 1 37)) := ok_iload_n dX5_feed_36 rfl
theorem kX5_feed_37 (z : XKT) : XOi z xInf Y_X5_feed 37 (.inl (i_goto 76)) := ok_goto dX5_feed_37 rfl
theorem kX5_feed_40 (z : XKT) : XOi z xInf Y_X5_feed 40 (.inl (i_iload 6 42)) := ok_iload dX5_feed_40
theorem kX5_feed_42 (z : XKT) : XOi z xInf Y_X5_feed 42 (.inl (i_push (vI 8) 44)) := ok_bipush dX5_feed_42 rfl
theorem kX5_feed_44 (z : XKT) : XOi z xInf Y_X5_feed 44 (.inl (i_icmp (fun x y => y ≤ x) 51 47)) := ok_icmp_ge dX5_feed_44 rfl
theorem kX5_feed_47 (z : XKT) : XOi z xInf Y_X5_feed 47 (.inl (i_iload 2 48)) := ok_iload_n dX5_feed_47 rfl
theorem kX5_feed_48 (z : XKT) : XOi z xInf Y_X5_feed 48 (.inl (i_goto 76)) := ok_goto dX5_feed_48 rfl
theorem kX5_feed_51 (z : XKT) : XOi z xInf Y_X5_feed 51 (.inl (i_iload 6 53)) := ok_iload dX5_feed_51
theorem kX5_feed_53 (z : XKT) : XOi z xInf Y_X5_feed 53 (.inl (i_push (vI 12) 55)) := ok_bipush dX5_feed_53 rfl
theorem kX5_feed_55 (z : XKT) : XOi z xInf Y_X5_feed 55 (.inl (i_icmp (fun x y => y ≤ x) 62 58)) := ok_icmp_ge dX5_feed_55 rfl
theorem kX5_feed_58 (z : XKT) : XOi z xInf Y_X5_feed 58 (.inl (i_iload 3 59)) := ok_iload_n dX5_feed_58 rfl
theorem kX5_feed_59 (z : XKT) : XOi z xInf Y_X5_feed 59 (.inl (i_goto 76)) := ok_goto dX5_feed_59 rfl
theorem kX5_feed_62 (z : XKT) : XOi z xInf Y_X5_feed 62 (.inl (i_iload 6 64)) := ok_iload dX5_feed_62
theorem kX5_feed_64 (z : XKT) : XOi z xInf Y_X5_feed 64 (.inl (i_push (vI 16) 66)) := ok_bipush dX5_feed_64 rfl
theorem kX5_feed_66 (z : XKT) : XOi z xInf Y_X5_feed 66 (.inl (i_icmp (fun x y => y ≤ x) 74 69)) := ok_icmp_ge dX5_feed_66 rfl
theorem kX5_feed_69 (z : XKT) : XOi z xInf Y_X5_feed 69 (.inl (i_iload 4 71)) := ok_iload dX5_feed_69
theorem kX5_feed_71 (z : XKT) : XOi z xInf Y_X5_feed 71 (.inl (i_goto 76)) := ok_goto dX5_feed_71 rfl
theorem kX5_feed_74 (z : XKT) : XOi z xInf Y_X5_feed 74 (.inl (i_iload 5 76)) := ok_iload dX5_feed_74
theorem kX5_feed_76 (z : XKT) : XOi z xInf Y_X5_feed 76 (.inl (i_istore 7 78)) := ok_istore dX5_feed_76
theorem kX5_feed_78 (z : XKT) : XOi z xInf Y_X5_feed 78 (.inl (i_aload 0 79)) := ok_aload_n dX5_feed_78 rfl
theorem kX5_feed_79 (z : XKT) : XOi z xInf Y_X5_feed 79 (.inl (i_getr [4] 46 82)) := ok_getr dX5_feed_79 q2523 (List.forall_mem_cons.mpr ⟨⟨_, _, _, _, fd_46_4_0⟩, (fun _ h => absurd h List.not_mem_nil)⟩)
theorem kX5_feed_82 (z : XKT) : XOi z xInf Y_X5_feed 82 (.inl (i_aload 0 83)) := ok_aload_n dX5_feed_82 rfl
theorem kX5_feed_83 (z : XKT) : XOi z xInf Y_X5_feed 83 (.inl (i_geti [4] 47 86)) := ok_geti dX5_feed_83 q2524 (List.forall_mem_cons.mpr ⟨⟨_, _, _, _, fd_47_4_0⟩, (fun _ h => absurd h List.not_mem_nil)⟩)
theorem kX5_feed_86 (z : XKT) : XOi z xInf Y_X5_feed 86 (.inl (i_iload 7 88)) := ok_iload dX5_feed_86
theorem kX5_feed_88 (z : XKT) : XOi z xInf Y_X5_feed 88 (.inl (i_push (vI 24) 90)) := ok_bipush dX5_feed_88 rfl
theorem kX5_feed_90 (z : XKT) : XOi z xInf Y_X5_feed 90 (.inl (i_push (vI 8) 92)) := ok_bipush dX5_feed_90 rfl
theorem kX5_feed_92 (z : XKT) : XOi z xInf Y_X5_feed 92 (.inl (i_iload 6 94)) := ok_iload dX5_feed_92
theorem kX5_feed_94 (z : XKT) : XOi z xInf Y_X5_feed 94 (.inl (i_push (vI 4) 95)) := ok_iconst dX5_feed_94 rfl
theorem kX5_feed_95 (z : XKT) : XOi z xInf Y_X5_feed 95 (.inl (i_quo (fun x y => x - x / y * y) 96)) := ok_irem dX5_feed_95
theorem kX5_feed_96 (z : XKT) : XOi z xInf Y_X5_feed 96 (.inl (i_bin (fun x y => x * y) 97)) := ok_imul dX5_feed_96
theorem kX5_feed_97 (z : XKT) : XOi z xInf Y_X5_feed 97 (.inl (i_bin (fun x y => x - y) 98)) := ok_isub dX5_feed_97
theorem kX5_feed_98 (z : XKT) : XOi z xInf Y_X5_feed 98 (.inl (i_bin (fun x y => x >>> (y &&& 31)) 99)) := ok_ishr dX5_feed_98
theorem kX5_feed_99 (z : XKT) : XOi z xInf Y_X5_feed 99 (.inl (i_push (vI 255) 102)) := ok_sipush dX5_feed_99 rfl
theorem kX5_feed_102 (z : XKT) : XOi z xInf Y_X5_feed 102 (.inl (i_bin (fun x y => x &&& y) 103)) := ok_iand dX5_feed_102
theorem kX5_feed_103 (z : XKT) : XOi z xInf Y_X5_feed 103 (.inl (i_ast z.1 1000 (fun x => x) 104)) := ok_iast dX5_feed_103
theorem kX5_feed_104 (z : XKT) : XOi z xInf Y_X5_feed 104 (.inl (i_aload 0 105)) := ok_aload_n dX5_feed_104 rfl
theorem kX5_feed_105 (z : XKT) : XOi z xInf Y_X5_feed 105 (.inl (i_dup 106)) := ok_dup dX5_feed_105
theorem kX5_feed_106 (z : XKT) : XOi z xInf Y_X5_feed 106 (.inl (i_geti [4] 47 109)) := ok_geti dX5_feed_106 q2524 (List.forall_mem_cons.mpr ⟨⟨_, _, _, _, fd_47_4_0⟩, (fun _ h => absurd h List.not_mem_nil)⟩)
theorem kX5_feed_109 (z : XKT) : XOi z xInf Y_X5_feed 109 (.inl (i_push (vI 1) 110)) := ok_iconst dX5_feed_109 rfl
theorem kX5_feed_110 (z : XKT) : XOi z xInf Y_X5_feed 110 (.inl (i_bin (fun x y => x + y) 111)) := ok_iadd dX5_feed_110
theorem kX5_feed_111 (z : XKT) : XOi z xInf Y_X5_feed 111 (.inl (i_puti z.1 [4] .int 47 114)) := ok_puti dX5_feed_111 q2524 rfl (List.forall_mem_cons.mpr ⟨⟨_, _, _, _, tyX5, fd_47_4_0, ⟨tyX5_ok, nmX5, (Or.inl rfl)⟩, rfl⟩, (fun _ h => absurd h List.not_mem_nil)⟩)
theorem kX5_feed_114 (z : XKT) : XOi z xInf Y_X5_feed 114 (.inl (i_iinc 6 1 117)) := ok_iinc dX5_feed_114 rfl
theorem kX5_feed_117 (z : XKT) : XOi z xInf Y_X5_feed 117 (.inl (i_goto 23)) := ok_goto dX5_feed_117 rfl
theorem kX5_feed_120 (z : XKT) : XOi z xInf Y_X5_feed 120 (.inl (i_aload 0 121)) := ok_aload_n dX5_feed_120 rfl
theorem kX5_feed_121 (z : XKT) : XOi z xInf Y_X5_feed 121 (.inl (i_geti [4] 47 124)) := ok_geti dX5_feed_121 q2524 (List.forall_mem_cons.mpr ⟨⟨_, _, _, _, fd_47_4_0⟩, (fun _ h => absurd h List.not_mem_nil)⟩)
theorem kX5_feed_124 (z : XKT) : XOi z xInf Y_X5_feed 124 (.inr (.inr (.inl (r_i .int)))) := show XOkR Y_X5_feed 124 ((r_i .int)) from okr_i (q := Y_X5_feed) (ty := .int) rfl rfl dX5_feed_124
theorem o_X5_feed (z : XKT) : XMi z xInf Y_X5_feed := XMi.mk9 (T := T_X5_feed z) rfl (⟨kX5_feed_0 z, ⟨kX5_feed_1 z, ⟨kX5_feed_2 z, ⟨kX5_feed_5 z, ⟨kX5_feed_6 z, ⟨kX5_feed_9 z, ⟨kX5_feed_11 z, ⟨kX5_feed_12 z, ⟨kX5_feed_15 z, ⟨kX5_feed_18 z, ⟨kX5_feed_19 z, ⟨kX5_feed_20 z, ⟨kX5_feed_21 z, ⟨kX5_feed_23 z, ⟨kX5_feed_25 z, ⟨kX5_feed_27 z, ⟨kX5_feed_30 z, ⟨kX5_feed_32 z, ⟨kX5_feed_33 z, ⟨kX5_feed_36 z, ⟨kX5_feed_37 z, ⟨kX5_feed_40 z, ⟨kX5_feed_42 z, ⟨kX5_feed_44 z, ⟨kX5_feed_47 z, ⟨kX5_feed_48 z, ⟨kX5_feed_51 z, ⟨kX5_feed_53 z, ⟨kX5_feed_55 z, ⟨kX5_feed_58 z, ⟨kX5_feed_59 z, ⟨kX5_feed_62 z, ⟨kX5_feed_64 z, ⟨kX5_feed_66 z, ⟨kX5_feed_69 z, ⟨kX5_feed_71 z, ⟨kX5_feed_74 z, ⟨kX5_feed_76 z, ⟨kX5_feed_78 z, ⟨kX5_feed_79 z, ⟨kX5_feed_82 z, ⟨kX5_feed_83 z, ⟨kX5_feed_86 z, ⟨kX5_feed_88 z, ⟨kX5_feed_90 z, ⟨kX5_feed_92 z, ⟨kX5_feed_94 z, ⟨kX5_feed_95 z, ⟨kX5_feed_96 z, ⟨kX5_feed_97 z, ⟨kX5_feed_98 z, ⟨kX5_feed_99 z, ⟨kX5_feed_102 z, ⟨kX5_feed_103 z, ⟨kX5_feed_104 z, ⟨kX5_feed_105 z, ⟨kX5_feed_106 z, ⟨kX5_feed_109 z, ⟨kX5_feed_110 z, ⟨kX5_feed_111 z, ⟨kX5_feed_114 z, ⟨kX5_feed_117 z, ⟨kX5_feed_120 z, ⟨kX5_feed_121 z, ⟨kX5_feed_124 z, trivial⟩⟩⟩⟩⟩⟩⟩⟩⟩⟩⟩⟩⟩⟩⟩⟩⟩⟩⟩⟩⟩⟩⟩⟩⟩⟩⟩⟩⟩⟩⟩⟩⟩⟩⟩⟩⟩⟩⟩⟩⟩⟩⟩⟩⟩⟩⟩⟩⟩⟩⟩⟩⟩⟩⟩⟩⟩⟩⟩⟩⟩⟩⟩⟩⟩) (hd_X5_feed z) rfl rfl (by decide +kernel)
theorem hd_X5_finder (z : XKT) : XHd z Y_X5_finder := xHd_none rfl (xhd0 rfl)
theorem kX5_finder_0 (z : XKT) : XOi z xInf Y_X5_finder 0 (.inl (i_aload 0 1)) := ok_aload_n dX5_finder_0 rfl
theorem kX5_finder_1 (z : XKT) : XOi z xInf Y_X5_finder 1 (.inl (i_aload 0 2)) := ok_aload_n dX5_finder_1 rfl
theorem kX5_finder_2 (z : XKT) : XOi z xInf Y_X5_finder 2 (.inl (i_iload 1 3)) := ok_iload_n dX5_finder_2 rfl
theorem kX5_finder_3 (z : XKT) : XOi z xInf Y_X5_finder 3 (.inr (.inl (6, g_virt [(4, 231)] 1))) := show XOkC z xInf Y_X5_finder 3 6 (g_virt [(4, 231)] 1) from okc_V (q := Y_X5_finder) (List.forall_mem_cons.mpr ⟨(show XOkV z xInf Y_X5_finder 3 6 1 (4, 231) from okv_V (q := Y_X5_finder) (q1 := Y_X5_isFinder) Z_X5_isFinder rfl (by decide) ⟨by decide, by decide, Or.inl ⟨_, _, (List.mem_of_getElem? (l := xCls) (i := 3) rfl)⟩⟩ dX5_finder_3 q2666 q2668 qs58 q153 q2669 hy_298), (fun _ h => absurd h List.not_mem_nil)⟩)
theorem kX5_finder_6 (z : XKT) : XOi z xInf Y_X5_finder 6 (.inr (.inl (9, g_virt [(4, 240)] 1))) := show XOkC z xInf Y_X5_finder 6 9 (g_virt [(4, 240)] 1) from okc_V (q := Y_X5_finder) (List.forall_mem_cons.mpr ⟨(show XOkV z xInf Y_X5_finder 6 9 1 (4, 240) from okv_V (q := Y_X5_finder) (q1 := Y_X5_lacks) Z_X5_lacks rfl (by decide) ⟨by decide, by decide, Or.inl ⟨_, _, (List.mem_of_getElem? (l := xCls) (i := 3) rfl)⟩⟩ dX5_finder_6 q2606 q2608 qs46 q153 q2609 hy_262), (fun _ h => absurd h List.not_mem_nil)⟩)
theorem kX5_finder_9 (z : XKT) : XOi z xInf Y_X5_finder 9 (.inl (i_if (fun x => x = 0) 14 12)) := ok_if_eq dX5_finder_9 rfl
theorem kX5_finder_12 (z : XKT) : XOi z xInf Y_X5_finder 12 (.inl (i_push (vI 0) 13)) := ok_iconst dX5_finder_12 rfl
theorem kX5_finder_13 (z : XKT) : XOi z xInf Y_X5_finder 13 (.inr (.inr (.inl (r_i .int)))) := show XOkR Y_X5_finder 13 ((r_i .int)) from okr_i (q := Y_X5_finder) (ty := .int) rfl rfl dX5_finder_13
theorem kX5_finder_14 (z : XKT) : XOi z xInf Y_X5_finder 14 (.inl (i_aload 0 15)) := ok_aload_n dX5_finder_14 rfl
theorem kX5_finder_15 (z : XKT) : XOi z xInf Y_X5_finder 15 (.inl (i_iload 1 16)) := ok_iload_n dX5_finder_15 rfl
theorem kX5_finder_16 (z : XKT) : XOi z xInf Y_X5_finder 16 (.inl (i_push (vI 1) 17)) := ok_iconst dX5_finder_16 rfl
theorem kX5_finder_17 (z : XKT) : XOi z xInf Y_X5_finder 17 (.inr (.inl (20, g_virt [(4, 254)] 2))) := show XOkC z xInf Y_X5_finder 17 20 (g_virt [(4, 254)] 2) from okc_V (q := Y_X5_finder) (List.forall_mem_cons.mpr ⟨(show XOkV z xInf Y_X5_finder 17 20 2 (4, 254) from okv_V (q := Y_X5_finder) (q1 := Y_X5_ofFinder) Z_X5_ofFinder rfl (by decide) ⟨by decide, by decide, Or.inl ⟨_, _, (List.mem_of_getElem? (l := xCls) (i := 3) rfl)⟩⟩ dX5_finder_17 q2630 q2632 qs52 q153 q2633 hy_267), (fun _ h => absurd h List.not_mem_nil)⟩)
theorem kX5_finder_20 (z : XKT) : XOi z xInf Y_X5_finder 20 (.inl (i_istore 3 21)) := ok_istore_n dX5_finder_20 rfl
theorem kX5_finder_21 (z : XKT) : XOi z xInf Y_X5_finder 21 (.inl (i_iload 2 22)) := ok_iload_n dX5_finder_21 rfl
theorem kX5_finder_22 (z : XKT) : XOi z xInf Y_X5_finder 22 (.inl (i_swt [(0, 52), (1, 59), (2, 61), (3, 77)] 83)) := ok_table dX5_finder_22 rfl rfl (by decide +kernel)
theorem kX5_finder_52 (z : XKT) : XOi z xInf Y_X5_finder 52 (.inl (i_aload 0 53)) := ok_aload_n dX5_finder_52 rfl
theorem kX5_finder_53 (z : XKT) : XOi z xInf Y_X5_finder 53 (.inl (i_iload 1 54)) := ok_iload_n dX5_finder_53 rfl
theorem kX5_finder_54 (z : XKT) : XOi z xInf Y_X5_finder 54 (.inl (i_push (vI 0) 55)) := ok_iconst dX5_finder_54 rfl
theorem kX5_finder_55 (z : XKT) : XOi z xInf Y_X5_finder 55 (.inr (.inl (58, g_virt [(4, 254)] 2))) := show XOkC z xInf Y_X5_finder 55 58 (g_virt [(4, 254)] 2) from okc_V (q := Y_X5_finder) (List.forall_mem_cons.mpr ⟨(show XOkV z xInf Y_X5_finder 55 58 2 (4, 254) from okv_V (q := Y_X5_finder) (q1 := Y_X5_ofFinder) Z_X5_ofFinder rfl (by decide) ⟨by decide, by decide, Or.inl ⟨_, _, (List.mem_of_getElem? (l := xCls) (i := 3) rfl)⟩⟩ dX5_finder_55 q2630 q2632 qs52 q153 q2633 hy_267), (fun _ h => absurd h List.not_mem_nil)⟩)
theorem kX5_finder_58 (z : XKT) : XOi z xInf Y_X5_finder 58 (.inr (.inr (.inl (r_i .int)))) := show XOkR Y_X5_finder 58 ((r_i .int)) from okr_i (q := Y_X5_finder) (ty := .int) rfl rfl dX5_finder_58
theorem kX5_finder_59 (z : XKT) : XOi z xInf Y_X5_finder 59 (.inl (i_iload 3 60)) := ok_iload_n dX5_finder_59 rfl
theorem kX5_finder_60 (z : XKT) : XOi z xInf Y_X5_finder 60 (.inr (.inr (.inl (r_i .int)))) := show XOkR Y_X5_finder 60 ((r_i .int)) from okr_i (q := Y_X5_finder) (ty := .int) rfl rfl dX5_finder_60
theorem kX5_finder_61 (z : XKT) : XOi z xInf Y_X5_finder 61 (.inl (i_iload 3 62)) := ok_iload_n dX5_finder_61 rfl
theorem kX5_finder_62 (z : XKT) : XOi z xInf Y_X5_finder 62 (.inl (i_push (vI (-1)) 63)) := ok_iconst dX5_finder_62 rfl
theorem kX5_finder_63 (z : XKT) : XOi z xInf Y_X5_finder 63 (.inl (i_icmp (fun x y => ¬ x = y) 70 66)) := ok_icmp_ne dX5_finder_63 rfl
theorem kX5_finder_66 (z : XKT) : XOi z xInf Y_X5_finder 66 (.inl (i_push (vI (-1)) 67)) := ok_iconst dX5_finder_66 rfl
theorem kX5_finder_67 (z : XKT) : XOi z xInf Y_X5_finder 67 (.inl (i_goto 76)) := ok_goto dX5_finder_67 rfl
theorem kX5_finder_70 (z : XKT) : XOi z xInf Y_X5_finder 70 (.inl (i_aload 0 71)) := ok_aload_n dX5_finder_70 rfl
theorem kX5_finder_71 (z : XKT) : XOi z xInf Y_X5_finder 71 (.inl (i_iload 3 72)) := ok_iload_n dX5_finder_71 rfl
theorem kX5_finder_72 (z : XKT) : XOi z xInf Y_X5_finder 72 (.inl (i_iload 1 73)) := ok_iload_n dX5_finder_72 rfl
theorem kX5_finder_73 (z : XKT) : XOi z xInf Y_X5_finder 73 (.inr (.inl (76, g_virt [(4, 263)] 2))) := show XOkC z xInf Y_X5_finder 73 76 (g_virt [(4, 263)] 2) from okc_V (q := Y_X5_finder) (List.forall_mem_cons.mpr ⟨(show XOkV z xInf Y_X5_finder 73 76 2 (4, 263) from okv_V (q := Y_X5_finder) (q1 := Y_X5_placeOf) Z_X5_placeOf rfl (by decide) ⟨by decide, by decide, Or.inl ⟨_, _, (List.mem_of_getElem? (l := xCls) (i := 3) rfl)⟩⟩ dX5_finder_73 q2670 q2672 qs59 q153 q2673 hy_283), (fun _ h => absurd h List.not_mem_nil)⟩)
theorem kX5_finder_76 (z : XKT) : XOi z xInf Y_X5_finder 76 (.inr (.inr (.inl (r_i .int)))) := show XOkR Y_X5_finder 76 ((r_i .int)) from okr_i (q := Y_X5_finder) (ty := .int) rfl rfl dX5_finder_76
theorem kX5_finder_77 (z : XKT) : XOi z xInf Y_X5_finder 77 (.inl (i_aload 0 78)) := ok_aload_n dX5_finder_77 rfl
theorem kX5_finder_78 (z : XKT) : XOi z xInf Y_X5_finder 78 (.inl (i_iload 1 79)) := ok_iload_n dX5_finder_78 rfl
theorem kX5_finder_79 (z : XKT) : XOi z xInf Y_X5_finder 79 (.inr (.inl (82, g_virt [(4, 190)] 1))) := show XOkC z xInf Y_X5_finder 79 82 (g_virt [(4, 190)] 1) from okc_V (q := Y_X5_finder) (List.forall_mem_cons.mpr ⟨(show XOkV z xInf Y_X5_finder 79 82 1 (4, 190) from okv_V (q := Y_X5_finder) (q1 := Y_X5_crewsWith) Z_X5_crewsWith rfl (by decide) ⟨by decide, by decide, Or.inl ⟨_, _, (List.mem_of_getElem? (l := xCls) (i := 3) rfl)⟩⟩ dX5_finder_79 q2678 q2680 qs61 q153 q2681 hy_309), (fun _ h => absurd h List.not_mem_nil)⟩)
theorem kX5_finder_82 (z : XKT) : XOi z xInf Y_X5_finder 82 (.inr (.inr (.inl (r_i .int)))) := show XOkR Y_X5_finder 82 ((r_i .int)) from okr_i (q := Y_X5_finder) (ty := .int) rfl rfl dX5_finder_82
theorem kX5_finder_83 (z : XKT) : XOi z xInf Y_X5_finder 83 (.inl (i_aload 0 84)) := ok_aload_n dX5_finder_83 rfl
theorem kX5_finder_84 (z : XKT) : XOi z xInf Y_X5_finder 84 (.inl (i_push (vI 2) 85)) := ok_iconst dX5_finder_84 rfl
theorem kX5_finder_85 (z : XKT) : XOi z xInf Y_X5_finder 85 (.inr (.inl (88, g_virt [(4, 266)] 1))) := show XOkC z xInf Y_X5_finder 85 88 (g_virt [(4, 266)] 1) from okc_V (q := Y_X5_finder) (List.forall_mem_cons.mpr ⟨(show XOkV z xInf Y_X5_finder 85 88 1 (4, 266) from okv_V (q := Y_X5_finder) (q1 := Y_X5_raise) Z_X5_raise rfl (by decide) ⟨by decide, by decide, Or.inl ⟨_, _, (List.mem_of_getElem? (l := xCls) (i := 3) rfl)⟩⟩ dX5_finder_85 q2658 q2660 qs57 q153 q2661 hy_310), (fun _ h => absurd h List.not_mem_nil)⟩)
theorem kX5_finder_88 (z : XKT) : XOi z xInf Y_X5_finder 88 (.inr (.inr (.inl (r_i .int)))) := show XOkR Y_X5_finder 88 ((r_i .int)) from okr_i (q := Y_X5_finder) (ty := .int) rfl rfl dX5_finder_88
theorem o_X5_finder (z : XKT) : XMi z xInf Y_X5_finder := XMi.mk9 (T := T_X5_finder z) rfl (⟨kX5_finder_0 z, ⟨kX5_finder_1 z, ⟨kX5_finder_2 z, ⟨kX5_finder_3 z, ⟨kX5_finder_6 z, ⟨kX5_finder_9 z, ⟨kX5_finder_12 z, ⟨kX5_finder_13 z, ⟨kX5_finder_14 z, ⟨kX5_finder_15 z, ⟨kX5_finder_16 z, ⟨kX5_finder_17 z, ⟨kX5_finder_20 z, ⟨kX5_finder_21 z, ⟨kX5_finder_22 z, ⟨kX5_finder_52 z, ⟨kX5_finder_53 z, ⟨kX5_finder_54 z, ⟨kX5_finder_55 z, ⟨kX5_finder_58 z, ⟨kX5_finder_59 z, ⟨kX5_finder_60 z, ⟨kX5_finder_61 z, ⟨kX5_finder_62 z, ⟨kX5_finder_63 z, ⟨kX5_finder_66 z, ⟨kX5_finder_67 z, ⟨kX5_finder_70 z, ⟨kX5_finder_71 z, ⟨kX5_finder_72 z, ⟨kX5_finder_73 z, ⟨kX5_finder_76 z, ⟨kX5_finder_77 z, ⟨kX5_finder_78 z, ⟨kX5_finder_79 z, ⟨kX5_finder_82 z, ⟨kX5_finder_83 z, ⟨kX5_finder_84 z, ⟨kX5_finder_85 z, ⟨kX5_finder_88 z, trivial⟩⟩⟩⟩⟩⟩⟩⟩⟩⟩⟩⟩⟩⟩⟩⟩⟩⟩⟩⟩⟩⟩⟩⟩⟩⟩⟩⟩⟩⟩⟩⟩⟩⟩⟩⟩⟩⟩⟩⟩) (hd_X5_finder z) rfl rfl (by decide +kernel)
theorem hd_X5_finish (z : XKT) : XHd z Y_X5_finish := xHd_none rfl (xhd0 rfl)
theorem kX5_finish_0 (z : XKT) : XOi z xInf Y_X5_finish 0 (.inl (i_aload 0 1)) := ok_aload_n dX5_finish_0 rfl
theorem kX5_finish_1 (z : XKT) : XOi z xInf Y_X5_finish 1 (.inl (i_push (vI 0) 2)) := ok_iconst dX5_finish_1 rfl
theorem kX5_finish_2 (z : XKT) : XOi z xInf Y_X5_finish 2 (.inl (i_puti z.1 [4] .int 47 5)) := ok_puti dX5_finish_2 q2524 rfl (List.forall_mem_cons.mpr ⟨⟨_, _, _, _, tyX5, fd_47_4_0, ⟨tyX5_ok, nmX5, (Or.inl rfl)⟩, rfl⟩, (fun _ h => absurd h List.not_mem_nil)⟩)
theorem kX5_finish_5 (z : XKT) : XOi z xInf Y_X5_finish 5 (.inl (i_aload 0 6)) := ok_aload_n dX5_finish_5 rfl
theorem kX5_finish_6 (z : XKT) : XOi z xInf Y_X5_finish 6 (.inl (i_aload 0 7)) := ok_aload_n dX5_finish_6 rfl
theorem kX5_finish_7 (z : XKT) : XOi z xInf Y_X5_finish 7 (.inl (i_geti [4] 52 10)) := ok_geti dX5_finish_7 q2529 (List.forall_mem_cons.mpr ⟨⟨_, _, _, _, fd_52_4_0⟩, (fun _ h => absurd h List.not_mem_nil)⟩)
theorem kX5_finish_10 (z : XKT) : XOi z xInf Y_X5_finish 10 (.inl (i_if (fun x => ¬ x = 0) 17 13)) := ok_if_ne dX5_finish_10 rfl
theorem kX5_finish_13 (z : XKT) : XOi z xInf Y_X5_finish 13 (.inl (i_push (vI (-1)) 14)) := ok_iconst dX5_finish_13 rfl
theorem kX5_finish_14 (z : XKT) : XOi z xInf Y_X5_finish 14 (.inl (i_goto 21)) := ok_goto dX5_finish_14 rfl
theorem kX5_finish_17 (z : XKT) : XOi z xInf Y_X5_finish 17 (.inl (i_aload 0 18)) := ok_aload_n dX5_finish_17 rfl
theorem kX5_finish_18 (z : XKT) : XOi z xInf Y_X5_finish 18 (.inl (i_geti [4] 53 21)) := ok_geti dX5_finish_18 q2530 (List.forall_mem_cons.mpr ⟨⟨_, _, _, _, fd_53_4_0⟩, (fun _ h => absurd h List.not_mem_nil)⟩)
theorem kX5_finish_21 (z : XKT) : XOi z xInf Y_X5_finish 21 (.inl (i_puti z.1 [4] .int 54 24)) := ok_puti dX5_finish_21 q2531 rfl (List.forall_mem_cons.mpr ⟨⟨_, _, _, _, tyX5, fd_54_4_0, ⟨tyX5_ok, nmX5, (Or.inl rfl)⟩, rfl⟩, (fun _ h => absurd h List.not_mem_nil)⟩)
theorem kX5_finish_24 (z : XKT) : XOi z xInf Y_X5_finish 24 (.inl (i_aload 0 25)) := ok_aload_n dX5_finish_24 rfl
theorem kX5_finish_25 (z : XKT) : XOi z xInf Y_X5_finish 25 (.inl (i_geti [4] 52 28)) := ok_geti dX5_finish_25 q2529 (List.forall_mem_cons.mpr ⟨⟨_, _, _, _, fd_52_4_0⟩, (fun _ h => absurd h List.not_mem_nil)⟩)
theorem kX5_finish_28 (z : XKT) : XOi z xInf Y_X5_finish 28 (.inr (.inr (.inl (r_i .int)))) := show XOkR Y_X5_finish 28 ((r_i .int)) from okr_i (q := Y_X5_finish) (ty := .int) rfl rfl dX5_finish_28
theorem o_X5_finish (z : XKT) : XMi z xInf Y_X5_finish := XMi.mk9 (T := T_X5_finish z) rfl (⟨kX5_finish_0 z, ⟨kX5_finish_1 z, ⟨kX5_finish_2 z, ⟨kX5_finish_5 z, ⟨kX5_finish_6 z, ⟨kX5_finish_7 z, ⟨kX5_finish_10 z, ⟨kX5_finish_13 z, ⟨kX5_finish_14 z, ⟨kX5_finish_17 z, ⟨kX5_finish_18 z, ⟨kX5_finish_21 z, ⟨kX5_finish_24 z, ⟨kX5_finish_25 z, ⟨kX5_finish_28 z, trivial⟩⟩⟩⟩⟩⟩⟩⟩⟩⟩⟩⟩⟩⟩⟩) (hd_X5_finish z) rfl rfl (by decide +kernel)
theorem hd_X5_firstDue (z : XKT) : XHd z Y_X5_firstDue := xHd_none rfl (xhd0 rfl)
theorem kX5_firstDue_0 (z : XKT) : XOi z xInf Y_X5_firstDue 0 (.inl (i_aload 0 1)) := ok_aload_n dX5_firstDue_0 rfl
theorem kX5_firstDue_1 (z : XKT) : XOi z xInf Y_X5_firstDue 1 (.inl (i_push (vI 0) 2)) := ok_iconst dX5_firstDue_1 rfl
theorem kX5_firstDue_2 (z : XKT) : XOi z xInf Y_X5_firstDue 2 (.inl (i_puti z.1 [4] .int 42 5)) := ok_puti dX5_firstDue_2 q2519 rfl (List.forall_mem_cons.mpr ⟨⟨_, _, _, _, tyX5, fd_42_4_0, ⟨tyX5_ok, nmX5, (Or.inl rfl)⟩, rfl⟩, (fun _ h => absurd h List.not_mem_nil)⟩)
theorem kX5_firstDue_5 (z : XKT) : XOi z xInf Y_X5_firstDue 5 (.inl (i_push (vI (-1)) 6)) := ok_iconst dX5_firstDue_5 rfl
theorem kX5_firstDue_6 (z : XKT) : XOi z xInf Y_X5_firstDue 6 (.inl (i_istore 1 7)) := ok_istore_n dX5_firstDue_6 rfl
theorem kX5_firstDue_7 (z : XKT) : XOi z xInf Y_X5_firstDue 7 (.inl (i_push (vI 0) 8)) := ok_iconst dX5_firstDue_7 rfl
theorem kX5_firstDue_8 (z : XKT) : XOi z xInf Y_X5_firstDue 8 (.inl (i_istore 2 9)) := ok_istore_n dX5_firstDue_8 rfl
theorem kX5_firstDue_9 (z : XKT) : XOi z xInf Y_X5_firstDue 9 (.inl (i_iload 2 10)) := ok_iload_n dX5_firstDue_9 rfl
theorem kX5_firstDue_10 (z : XKT) : XOi z xInf Y_X5_firstDue 10 (.inl (i_aload 0 11)) := ok_aload_n dX5_firstDue_10 rfl
theorem kX5_firstDue_11 (z : XKT) : XOi z xInf Y_X5_firstDue 11 (.inl (i_getr [4] 40 14)) := ok_getr dX5_firstDue_11 q2517 (List.forall_mem_cons.mpr ⟨⟨_, _, _, _, fd_40_4_0⟩, (fun _ h => absurd h List.not_mem_nil)⟩)
theorem kX5_firstDue_14 (z : XKT) : XOi z xInf Y_X5_firstDue 14 (.inl (i_push (vI 5) 15)) := ok_iconst dX5_firstDue_14 rfl
theorem kX5_firstDue_15 (z : XKT) : XOi z xInf Y_X5_firstDue 15 (.inl (i_ald 1000 16)) := ok_iald dX5_firstDue_15
theorem kX5_firstDue_16 (z : XKT) : XOi z xInf Y_X5_firstDue 16 (.inl (i_icmp (fun x y => y ≤ x) 80 19)) := ok_icmp_ge dX5_firstDue_16 rfl
theorem kX5_firstDue_19 (z : XKT) : XOi z xInf Y_X5_firstDue 19 (.inl (i_aload 0 20)) := ok_aload_n dX5_firstDue_19 rfl
theorem kX5_firstDue_20 (z : XKT) : XOi z xInf Y_X5_firstDue 20 (.inl (i_iload 2 21)) := ok_iload_n dX5_firstDue_20 rfl
theorem kX5_firstDue_21 (z : XKT) : XOi z xInf Y_X5_firstDue 21 (.inl (i_push (vI 1) 22)) := ok_iconst dX5_firstDue_21 rfl
theorem kX5_firstDue_22 (z : XKT) : XOi z xInf Y_X5_firstDue 22 (.inr (.inl (25, g_virt [(4, 233)] 2))) := show XOkC z xInf Y_X5_firstDue 22 25 (g_virt [(4, 233)] 2) from okc_V (q := Y_X5_firstDue) (List.forall_mem_cons.mpr ⟨(show XOkV z xInf Y_X5_firstDue 22 25 2 (4, 233) from okv_V (q := Y_X5_firstDue) (q1 := Y_X5_isIn) Z_X5_isIn rfl (by decide) ⟨by decide, by decide, Or.inl ⟨_, _, (List.mem_of_getElem? (l := xCls) (i := 3) rfl)⟩⟩ dX5_firstDue_22 q2618 q2620 qs49 q153 q2621 hy_270), (fun _ h => absurd h List.not_mem_nil)⟩)
theorem kX5_firstDue_25 (z : XKT) : XOi z xInf Y_X5_firstDue 25 (.inl (i_if (fun x => x = 0) 40 28)) := ok_if_eq dX5_firstDue_25 rfl
theorem kX5_firstDue_28 (z : XKT) : XOi z xInf Y_X5_firstDue 28 (.inl (i_aload 0 29)) := ok_aload_n dX5_firstDue_28 rfl
theorem kX5_firstDue_29 (z : XKT) : XOi z xInf Y_X5_firstDue 29 (.inl (i_iload 2 30)) := ok_iload_n dX5_firstDue_29 rfl
theorem kX5_firstDue_30 (z : XKT) : XOi z xInf Y_X5_firstDue 30 (.inr (.inl (33, g_virt [(4, 228)] 1))) := show XOkC z xInf Y_X5_firstDue 30 33 (g_virt [(4, 228)] 1) from okc_V (q := Y_X5_firstDue) (List.forall_mem_cons.mpr ⟨(show XOkV z xInf Y_X5_firstDue 30 33 1 (4, 228) from okv_V (q := Y_X5_firstDue) (q1 := Y_X5_isClaimed) Z_X5_isClaimed rfl (by decide) ⟨by decide, by decide, Or.inl ⟨_, _, (List.mem_of_getElem? (l := xCls) (i := 3) rfl)⟩⟩ dX5_firstDue_30 q2725 q2727 qs66 q153 q2728 hy_280), (fun _ h => absurd h List.not_mem_nil)⟩)
theorem kX5_firstDue_33 (z : XKT) : XOi z xInf Y_X5_firstDue 33 (.inl (i_if (fun x => ¬ x = 0) 40 36)) := ok_if_ne dX5_firstDue_33 rfl
theorem kX5_firstDue_36 (z : XKT) : XOi z xInf Y_X5_firstDue 36 (.inl (i_push (vI 1) 37)) := ok_iconst dX5_firstDue_36 rfl
theorem kX5_firstDue_37 (z : XKT) : XOi z xInf Y_X5_firstDue 37 (.inl (i_goto 41)) := ok_goto dX5_firstDue_37 rfl
theorem kX5_firstDue_40 (z : XKT) : XOi z xInf Y_X5_firstDue 40 (.inl (i_push (vI 0) 41)) := ok_iconst dX5_firstDue_40 rfl
theorem kX5_firstDue_41 (z : XKT) : XOi z xInf Y_X5_firstDue 41 (.inl (i_istore 3 42)) := ok_istore_n dX5_firstDue_41 rfl
theorem kX5_firstDue_42 (z : XKT) : XOi z xInf Y_X5_firstDue 42 (.inl (i_iload 3 43)) := ok_iload_n dX5_firstDue_42 rfl
theorem kX5_firstDue_43 (z : XKT) : XOi z xInf Y_X5_firstDue 43 (.inl (i_if (fun x => x = 0) 72 46)) := ok_if_eq dX5_firstDue_43 rfl
theorem kX5_firstDue_46 (z : XKT) : XOi z xInf Y_X5_firstDue 46 (.inl (i_iload 1 47)) := ok_iload_n dX5_firstDue_46 rfl
theorem kX5_firstDue_47 (z : XKT) : XOi z xInf Y_X5_firstDue 47 (.inl (i_push (vI (-1)) 48)) := ok_iconst dX5_firstDue_47 rfl
theorem kX5_firstDue_48 (z : XKT) : XOi z xInf Y_X5_firstDue 48 (.inl (i_icmp (fun x y => x = y) 68 51)) := ok_icmp_eq dX5_firstDue_48 rfl
theorem kX5_firstDue_51 (z : XKT) : XOi z xInf Y_X5_firstDue 51 (.inl (i_aload 0 52)) := ok_aload_n dX5_firstDue_51 rfl
theorem kX5_firstDue_52 (z : XKT) : XOi z xInf Y_X5_firstDue 52 (.inl (i_iload 2 53)) := ok_iload_n dX5_firstDue_52 rfl
theorem kX5_firstDue_53 (z : XKT) : XOi z xInf Y_X5_firstDue 53 (.inl (i_push (vI 7) 55)) := ok_bipush dX5_firstDue_53 rfl
theorem kX5_firstDue_55 (z : XKT) : XOi z xInf Y_X5_firstDue 55 (.inr (.inl (58, g_virt [(4, 253)] 2))) := show XOkC z xInf Y_X5_firstDue 55 58 (g_virt [(4, 253)] 2) from okc_V (q := Y_X5_firstDue) (List.forall_mem_cons.mpr ⟨(show XOkV z xInf Y_X5_firstDue 55 58 2 (4, 253) from okv_V (q := Y_X5_firstDue) (q1 := Y_X5_of) Z_X5_of rfl (by decide) ⟨by decide, by decide, Or.inl ⟨_, _, (List.mem_of_getElem? (l := xCls) (i := 3) rfl)⟩⟩ dX5_firstDue_55 q2622 q2624 qs50 q153 q2625 hy_265), (fun _ h => absurd h List.not_mem_nil)⟩)
theorem kX5_firstDue_58 (z : XKT) : XOi z xInf Y_X5_firstDue 58 (.inl (i_aload 0 59)) := ok_aload_n dX5_firstDue_58 rfl
theorem kX5_firstDue_59 (z : XKT) : XOi z xInf Y_X5_firstDue 59 (.inl (i_iload 1 60)) := ok_iload_n dX5_firstDue_59 rfl
theorem kX5_firstDue_60 (z : XKT) : XOi z xInf Y_X5_firstDue 60 (.inl (i_push (vI 7) 62)) := ok_bipush dX5_firstDue_60 rfl
theorem kX5_firstDue_62 (z : XKT) : XOi z xInf Y_X5_firstDue 62 (.inr (.inl (65, g_virt [(4, 253)] 2))) := show XOkC z xInf Y_X5_firstDue 62 65 (g_virt [(4, 253)] 2) from okc_V (q := Y_X5_firstDue) (List.forall_mem_cons.mpr ⟨(show XOkV z xInf Y_X5_firstDue 62 65 2 (4, 253) from okv_V (q := Y_X5_firstDue) (q1 := Y_X5_of) Z_X5_of rfl (by decide) ⟨by decide, by decide, Or.inl ⟨_, _, (List.mem_of_getElem? (l := xCls) (i := 3) rfl)⟩⟩ dX5_firstDue_62 q2622 q2624 qs50 q153 q2625 hy_265), (fun _ h => absurd h List.not_mem_nil)⟩)
theorem kX5_firstDue_65 (z : XKT) : XOi z xInf Y_X5_firstDue 65 (.inl (i_icmp (fun x y => y ≤ x) 72 68)) := ok_icmp_ge dX5_firstDue_65 rfl
theorem kX5_firstDue_68 (z : XKT) : XOi z xInf Y_X5_firstDue 68 (.inl (i_iload 2 69)) := ok_iload_n dX5_firstDue_68 rfl
theorem kX5_firstDue_69 (z : XKT) : XOi z xInf Y_X5_firstDue 69 (.inl (i_goto 73)) := ok_goto dX5_firstDue_69 rfl
theorem kX5_firstDue_72 (z : XKT) : XOi z xInf Y_X5_firstDue 72 (.inl (i_iload 1 73)) := ok_iload_n dX5_firstDue_72 rfl
theorem kX5_firstDue_73 (z : XKT) : XOi z xInf Y_X5_firstDue 73 (.inl (i_istore 1 74)) := ok_istore_n dX5_firstDue_73 rfl
theorem kX5_firstDue_74 (z : XKT) : XOi z xInf Y_X5_firstDue 74 (.inl (i_iinc 2 1 77)) := ok_iinc dX5_firstDue_74 rfl
theorem kX5_firstDue_77 (z : XKT) : XOi z xInf Y_X5_firstDue 77 (.inl (i_goto 9)) := ok_goto dX5_firstDue_77 rfl
theorem kX5_firstDue_80 (z : XKT) : XOi z xInf Y_X5_firstDue 80 (.inl (i_iload 1 81)) := ok_iload_n dX5_firstDue_80 rfl
theorem kX5_firstDue_81 (z : XKT) : XOi z xInf Y_X5_firstDue 81 (.inr (.inr (.inl (r_i .int)))) := show XOkR Y_X5_firstDue 81 ((r_i .int)) from okr_i (q := Y_X5_firstDue) (ty := .int) rfl rfl dX5_firstDue_81
theorem o_X5_firstDue (z : XKT) : XMi z xInf Y_X5_firstDue := XMi.mk9 (T := T_X5_firstDue z) rfl (⟨kX5_firstDue_0 z, ⟨kX5_firstDue_1 z, ⟨kX5_firstDue_2 z, ⟨kX5_firstDue_5 z, ⟨kX5_firstDue_6 z, ⟨kX5_firstDue_7 z, ⟨kX5_firstDue_8 z, ⟨kX5_firstDue_9 z, ⟨kX5_firstDue_10 z, ⟨kX5_firstDue_11 z, ⟨kX5_firstDue_14 z, ⟨kX5_firstDue_15 z, ⟨kX5_firstDue_16 z, ⟨kX5_firstDue_19 z, ⟨kX5_firstDue_20 z, ⟨kX5_firstDue_21 z, ⟨kX5_firstDue_22 z, ⟨kX5_firstDue_25 z, ⟨kX5_firstDue_28 z, ⟨kX5_firstDue_29 z, ⟨kX5_firstDue_30 z, ⟨kX5_firstDue_33 z, ⟨kX5_firstDue_36 z, ⟨kX5_firstDue_37 z, ⟨kX5_firstDue_40 z, ⟨kX5_firstDue_41 z, ⟨kX5_firstDue_42 z, ⟨kX5_firstDue_43 z, ⟨kX5_firstDue_46 z, ⟨kX5_firstDue_47 z, ⟨kX5_firstDue_48 z, ⟨kX5_firstDue_51 z, ⟨kX5_firstDue_52 z, ⟨kX5_firstDue_53 z, ⟨kX5_firstDue_55 z, ⟨kX5_firstDue_58 z, ⟨kX5_firstDue_59 z, ⟨kX5_firstDue_60 z, ⟨kX5_firstDue_62 z, ⟨kX5_firstDue_65 z, ⟨kX5_firstDue_68 z, ⟨kX5_firstDue_69 z, ⟨kX5_firstDue_72 z, ⟨kX5_firstDue_73 z, ⟨kX5_firstDue_74 z, ⟨kX5_firstDue_77 z, ⟨kX5_firstDue_80 z, ⟨kX5_firstDue_81 z, trivial⟩⟩⟩⟩⟩⟩⟩⟩⟩⟩⟩⟩⟩⟩⟩⟩⟩⟩⟩⟩⟩⟩⟩⟩⟩⟩⟩⟩⟩⟩⟩⟩⟩⟩⟩⟩⟩⟩⟩⟩⟩⟩⟩⟩⟩⟩⟩⟩) (hd_X5_firstDue z) rfl rfl (by decide +kernel)
theorem hd_X5_format (z : XKT) : XHd z Y_X5_format := xHd_none rfl (xhd0 rfl)
theorem kX5_format_0 (z : XKT) : XOi z xInf Y_X5_format 0 (.inl (i_aload 0 1)) := ok_aload_n dX5_format_0 rfl
theorem kX5_format_1 (z : XKT) : XOi z xInf Y_X5_format 1 (.inl (i_aload 0 2)) := ok_aload_n dX5_format_1 rfl
theorem kX5_format_2 (z : XKT) : XOi z xInf Y_X5_format 2 (.inl (i_iload 1 3)) := ok_iload_n dX5_format_2 rfl
theorem kX5_format_3 (z : XKT) : XOi z xInf Y_X5_format 3 (.inr (.inl (6, g_virt [(4, 232)] 1))) := show XOkC z xInf Y_X5_format 3 6 (g_virt [(4, 232)] 1) from okc_V (q := Y_X5_format) (List.forall_mem_cons.mpr ⟨(show XOkV z xInf Y_X5_format 3 6 1 (4, 232) from okv_V (q := Y_X5_format) (q1 := Y_X5_isGood) Z_X5_isGood rfl (by decide) ⟨by decide, by decide, Or.inl ⟨_, _, (List.mem_of_getElem? (l := xCls) (i := 3) rfl)⟩⟩ dX5_format_3 q2654 q2656 qs56 q153 q2657 hy_272), (fun _ h => absurd h List.not_mem_nil)⟩)
theorem kX5_format_6 (z : XKT) : XOi z xInf Y_X5_format 6 (.inr (.inl (9, g_virt [(4, 240)] 1))) := show XOkC z xInf Y_X5_format 6 9 (g_virt [(4, 240)] 1) from okc_V (q := Y_X5_format) (List.forall_mem_cons.mpr ⟨(show XOkV z xInf Y_X5_format 6 9 1 (4, 240) from okv_V (q := Y_X5_format) (q1 := Y_X5_lacks) Z_X5_lacks rfl (by decide) ⟨by decide, by decide, Or.inl ⟨_, _, (List.mem_of_getElem? (l := xCls) (i := 3) rfl)⟩⟩ dX5_format_6 q2606 q2608 qs46 q153 q2609 hy_262), (fun _ h => absurd h List.not_mem_nil)⟩)
theorem kX5_format_9 (z : XKT) : XOi z xInf Y_X5_format 9 (.inl (i_if (fun x => x = 0) 14 12)) := ok_if_eq dX5_format_9 rfl
theorem kX5_format_12 (z : XKT) : XOi z xInf Y_X5_format 12 (.inl (i_push (vI 0) 13)) := ok_iconst dX5_format_12 rfl
theorem kX5_format_13 (z : XKT) : XOi z xInf Y_X5_format 13 (.inr (.inr (.inl (r_i .int)))) := show XOkR Y_X5_format 13 ((r_i .int)) from okr_i (q := Y_X5_format) (ty := .int) rfl rfl dX5_format_13
theorem kX5_format_14 (z : XKT) : XOi z xInf Y_X5_format 14 (.inl (i_aload 0 15)) := ok_aload_n dX5_format_14 rfl
theorem kX5_format_15 (z : XKT) : XOi z xInf Y_X5_format 15 (.inl (i_push (vI 0) 16)) := ok_iconst dX5_format_15 rfl
theorem kX5_format_16 (z : XKT) : XOi z xInf Y_X5_format 16 (.inl (i_puti z.1 [4] .int 45 19)) := ok_puti dX5_format_16 q2522 rfl (List.forall_mem_cons.mpr ⟨⟨_, _, _, _, tyX5, fd_45_4_0, ⟨tyX5_ok, nmX5, (Or.inl rfl)⟩, rfl⟩, (fun _ h => absurd h List.not_mem_nil)⟩)
theorem kX5_format_19 (z : XKT) : XOi z xInf Y_X5_format 19 (.inl (i_aload 0 20)) := ok_aload_n dX5_format_19 rfl
theorem kX5_format_20 (z : XKT) : XOi z xInf Y_X5_format 20 (.inl (i_aload 0 21)) := ok_aload_n dX5_format_20 rfl
theorem kX5_format_21 (z : XKT) : XOi z xInf Y_X5_format 21 (.inl (i_getr [4] 37 24)) := ok_getr dX5_format_21 q2514 (List.forall_mem_cons.mpr ⟨⟨_, _, _, _, fd_37_4_0⟩, (fun _ h => absurd h List.not_mem_nil)⟩)
theorem kX5_format_24 (z : XKT) : XOi z xInf Y_X5_format 24 (.inl (i_aload 0 25)) := ok_aload_n dX5_format_24 rfl
theorem kX5_format_25 (z : XKT) : XOi z xInf Y_X5_format 25 (.inl (i_iload 1 26)) := ok_iload_n dX5_format_25 rfl
theorem kX5_format_26 (z : XKT) : XOi z xInf Y_X5_format 26 (.inl (i_push (vI 0) 27)) := ok_iconst dX5_format_26 rfl
theorem kX5_format_27 (z : XKT) : XOi z xInf Y_X5_format 27 (.inr (.inl (30, g_virt [(4, 253)] 2))) := show XOkC z xInf Y_X5_format 27 30 (g_virt [(4, 253)] 2) from okc_V (q := Y_X5_format) (List.forall_mem_cons.mpr ⟨(show XOkV z xInf Y_X5_format 27 30 2 (4, 253) from okv_V (q := Y_X5_format) (q1 := Y_X5_of) Z_X5_of rfl (by decide) ⟨by decide, by decide, Or.inl ⟨_, _, (List.mem_of_getElem? (l := xCls) (i := 3) rfl)⟩⟩ dX5_format_27 q2622 q2624 qs50 q153 q2625 hy_265), (fun _ h => absurd h List.not_mem_nil)⟩)
theorem kX5_format_30 (z : XKT) : XOi z xInf Y_X5_format 30 (.inl (i_ald 1000 31)) := ok_iald dX5_format_30
theorem kX5_format_31 (z : XKT) : XOi z xInf Y_X5_format 31 (.inr (.inl (34, g_virt [(4, 305)] 1))) := show XOkC z xInf Y_X5_format 31 34 (g_virt [(4, 305)] 1) from okc_V (q := Y_X5_format) (List.forall_mem_cons.mpr ⟨(show XOkV z xInf Y_X5_format 31 34 1 (4, 305) from okv_V (q := Y_X5_format) (q1 := Y_X5_write) Z_X5_write rfl (by decide) ⟨by decide, by decide, Or.inl ⟨_, _, (List.mem_of_getElem? (l := xCls) (i := 3) rfl)⟩⟩ dX5_format_31 q3002 q3004 qs100 q153 q3005 hy_311), (fun _ h => absurd h List.not_mem_nil)⟩)
theorem kX5_format_34 (z : XKT) : XOi z xInf Y_X5_format 34 (.inl (i_aload 0 35)) := ok_aload_n dX5_format_34 rfl
theorem kX5_format_35 (z : XKT) : XOi z xInf Y_X5_format 35 (.inl (i_aload 0 36)) := ok_aload_n dX5_format_35 rfl
theorem kX5_format_36 (z : XKT) : XOi z xInf Y_X5_format 36 (.inl (i_iload 1 37)) := ok_iload_n dX5_format_36 rfl
theorem kX5_format_37 (z : XKT) : XOi z xInf Y_X5_format 37 (.inl (i_push (vI 1) 38)) := ok_iconst dX5_format_37 rfl
theorem kX5_format_38 (z : XKT) : XOi z xInf Y_X5_format 38 (.inr (.inl (41, g_virt [(4, 253)] 2))) := show XOkC z xInf Y_X5_format 38 41 (g_virt [(4, 253)] 2) from okc_V (q := Y_X5_format) (List.forall_mem_cons.mpr ⟨(show XOkV z xInf Y_X5_format 38 41 2 (4, 253) from okv_V (q := Y_X5_format) (q1 := Y_X5_of) Z_X5_of rfl (by decide) ⟨by decide, by decide, Or.inl ⟨_, _, (List.mem_of_getElem? (l := xCls) (i := 3) rfl)⟩⟩ dX5_format_38 q2622 q2624 qs50 q153 q2625 hy_265), (fun _ h => absurd h List.not_mem_nil)⟩)
theorem kX5_format_41 (z : XKT) : XOi z xInf Y_X5_format 41 (.inr (.inl (44, g_virt [(4, 306)] 1))) := show XOkC z xInf Y_X5_format 41 44 (g_virt [(4, 306)] 1) from okc_V (q := Y_X5_format) (List.forall_mem_cons.mpr ⟨(show XOkV z xInf Y_X5_format 41 44 1 (4, 306) from okv_V (q := Y_X5_format) (q1 := Y_X5_writeNumber) Z_X5_writeNumber rfl (by decide) ⟨by decide, by decide, Or.inl ⟨_, _, (List.mem_of_getElem? (l := xCls) (i := 3) rfl)⟩⟩ dX5_format_41 q3006 q3008 qs101 q153 q3009 hy_312), (fun _ h => absurd h List.not_mem_nil)⟩)
theorem kX5_format_44 (z : XKT) : XOi z xInf Y_X5_format 44 (.inl (i_aload 0 45)) := ok_aload_n dX5_format_44 rfl
theorem kX5_format_45 (z : XKT) : XOi z xInf Y_X5_format 45 (.inl (i_aload 0 46)) := ok_aload_n dX5_format_45 rfl
theorem kX5_format_46 (z : XKT) : XOi z xInf Y_X5_format 46 (.inl (i_getr [4] 38 49)) := ok_getr dX5_format_46 q2515 (List.forall_mem_cons.mpr ⟨⟨_, _, _, _, fd_38_4_0⟩, (fun _ h => absurd h List.not_mem_nil)⟩)
theorem kX5_format_49 (z : XKT) : XOi z xInf Y_X5_format 49 (.inl (i_aload 0 50)) := ok_aload_n dX5_format_49 rfl
theorem kX5_format_50 (z : XKT) : XOi z xInf Y_X5_format 50 (.inl (i_iload 1 51)) := ok_iload_n dX5_format_50 rfl
theorem kX5_format_51 (z : XKT) : XOi z xInf Y_X5_format 51 (.inl (i_push (vI 5) 52)) := ok_iconst dX5_format_51 rfl
theorem kX5_format_52 (z : XKT) : XOi z xInf Y_X5_format 52 (.inr (.inl (55, g_virt [(4, 253)] 2))) := show XOkC z xInf Y_X5_format 52 55 (g_virt [(4, 253)] 2) from okc_V (q := Y_X5_format) (List.forall_mem_cons.mpr ⟨(show XOkV z xInf Y_X5_format 52 55 2 (4, 253) from okv_V (q := Y_X5_format) (q1 := Y_X5_of) Z_X5_of rfl (by decide) ⟨by decide, by decide, Or.inl ⟨_, _, (List.mem_of_getElem? (l := xCls) (i := 3) rfl)⟩⟩ dX5_format_52 q2622 q2624 qs50 q153 q2625 hy_265), (fun _ h => absurd h List.not_mem_nil)⟩)
theorem kX5_format_55 (z : XKT) : XOi z xInf Y_X5_format 55 (.inl (i_ald 1000 56)) := ok_iald dX5_format_55
theorem kX5_format_56 (z : XKT) : XOi z xInf Y_X5_format 56 (.inr (.inl (59, g_virt [(4, 305)] 1))) := show XOkC z xInf Y_X5_format 56 59 (g_virt [(4, 305)] 1) from okc_V (q := Y_X5_format) (List.forall_mem_cons.mpr ⟨(show XOkV z xInf Y_X5_format 56 59 1 (4, 305) from okv_V (q := Y_X5_format) (q1 := Y_X5_write) Z_X5_write rfl (by decide) ⟨by decide, by decide, Or.inl ⟨_, _, (List.mem_of_getElem? (l := xCls) (i := 3) rfl)⟩⟩ dX5_format_56 q3002 q3004 qs100 q153 q3005 hy_311), (fun _ h => absurd h List.not_mem_nil)⟩)
theorem kX5_format_59 (z : XKT) : XOi z xInf Y_X5_format 59 (.inl (i_push (vI 0) 60)) := ok_iconst dX5_format_59 rfl
theorem kX5_format_60 (z : XKT) : XOi z xInf Y_X5_format 60 (.inl (i_istore 2 61)) := ok_istore_n dX5_format_60 rfl
theorem kX5_format_61 (z : XKT) : XOi z xInf Y_X5_format 61 (.inl (i_iload 2 62)) := ok_iload_n dX5_format_61 rfl
theorem kX5_format_62 (z : XKT) : XOi z xInf Y_X5_format 62 (.inl (i_aload 0 63)) := ok_aload_n dX5_format_62 rfl
theorem kX5_format_63 (z : XKT) : XOi z xInf Y_X5_format 63 (.inl (i_iload 1 64)) := ok_iload_n dX5_format_63 rfl
theorem kX5_format_64 (z : XKT) : XOi z xInf Y_X5_format 64 (.inl (i_push (vI 9) 66)) := ok_bipush dX5_format_64 rfl
theorem kX5_format_66 (z : XKT) : XOi z xInf Y_X5_format 66 (.inr (.inl (69, g_virt [(4, 253)] 2))) := show XOkC z xInf Y_X5_format 66 69 (g_virt [(4, 253)] 2) from okc_V (q := Y_X5_format) (List.forall_mem_cons.mpr ⟨(show XOkV z xInf Y_X5_format 66 69 2 (4, 253) from okv_V (q := Y_X5_format) (q1 := Y_X5_of) Z_X5_of rfl (by decide) ⟨by decide, by decide, Or.inl ⟨_, _, (List.mem_of_getElem? (l := xCls) (i := 3) rfl)⟩⟩ dX5_format_66 q2622 q2624 qs50 q153 q2625 hy_265), (fun _ h => absurd h List.not_mem_nil)⟩)
theorem kX5_format_69 (z : XKT) : XOi z xInf Y_X5_format 69 (.inl (i_icmp (fun x y => y ≤ x) 98 72)) := ok_icmp_ge dX5_format_69 rfl
theorem kX5_format_72 (z : XKT) : XOi z xInf Y_X5_format 72 (.inl (i_iload 2 73)) := ok_iload_n dX5_format_72 rfl
theorem kX5_format_73 (z : XKT) : XOi z xInf Y_X5_format 73 (.inl (i_if (fun x => x ≤ 0) 82 76)) := ok_if_le dX5_format_73 rfl
theorem kX5_format_76 (z : XKT) : XOi z xInf Y_X5_format 76 (.inl (i_aload 0 77)) := ok_aload_n dX5_format_76 rfl
theorem kX5_format_77 (z : XKT) : XOi z xInf Y_X5_format 77 (.inl (i_push (vI 44) 79)) := ok_bipush dX5_format_77 rfl
theorem kX5_format_79 (z : XKT) : XOi z xInf Y_X5_format 79 (.inr (.inl (82, g_virt [(4, 305)] 1))) := show XOkC z xInf Y_X5_format 79 82 (g_virt [(4, 305)] 1) from okc_V (q := Y_X5_format) (List.forall_mem_cons.mpr ⟨(show XOkV z xInf Y_X5_format 79 82 1 (4, 305) from okv_V (q := Y_X5_format) (q1 := Y_X5_write) Z_X5_write rfl (by decide) ⟨by decide, by decide, Or.inl ⟨_, _, (List.mem_of_getElem? (l := xCls) (i := 3) rfl)⟩⟩ dX5_format_79 q3002 q3004 qs100 q153 q3005 hy_311), (fun _ h => absurd h List.not_mem_nil)⟩)
theorem kX5_format_82 (z : XKT) : XOi z xInf Y_X5_format 82 (.inl (i_aload 0 83)) := ok_aload_n dX5_format_82 rfl
theorem kX5_format_83 (z : XKT) : XOi z xInf Y_X5_format 83 (.inl (i_aload 0 84)) := ok_aload_n dX5_format_83 rfl
theorem kX5_format_84 (z : XKT) : XOi z xInf Y_X5_format 84 (.inl (i_iload 1 85)) := ok_iload_n dX5_format_84 rfl
theorem kX5_format_85 (z : XKT) : XOi z xInf Y_X5_format 85 (.inl (i_iload 2 86)) := ok_iload_n dX5_format_85 rfl
theorem kX5_format_86 (z : XKT) : XOi z xInf Y_X5_format 86 (.inr (.inl (89, g_virt [(4, 223)] 2))) := show XOkC z xInf Y_X5_format 86 89 (g_virt [(4, 223)] 2) from okc_V (q := Y_X5_format) (List.forall_mem_cons.mpr ⟨(show XOkV z xInf Y_X5_format 86 89 2 (4, 223) from okv_V (q := Y_X5_format) (q1 := Y_X5_handOf) Z_X5_handOf rfl (by decide) ⟨by decide, by decide, Or.inl ⟨_, _, (List.mem_of_getElem? (l := xCls) (i := 3) rfl)⟩⟩ dX5_format_86 q2674 q2676 qs60 q153 q2677 hy_287), (fun _ h => absurd h List.not_mem_nil)⟩)
theorem kX5_format_89 (z : XKT) : XOi z xInf Y_X5_format 89 (.inr (.inl (92, g_virt [(4, 306)] 1))) := show XOkC z xInf Y_X5_format 89 92 (g_virt [(4, 306)] 1) from okc_V (q := Y_X5_format) (List.forall_mem_cons.mpr ⟨(show XOkV z xInf Y_X5_format 89 92 1 (4, 306) from okv_V (q := Y_X5_format) (q1 := Y_X5_writeNumber) Z_X5_writeNumber rfl (by decide) ⟨by decide, by decide, Or.inl ⟨_, _, (List.mem_of_getElem? (l := xCls) (i := 3) rfl)⟩⟩ dX5_format_89 q3006 q3008 qs101 q153 q3009 hy_312), (fun _ h => absurd h List.not_mem_nil)⟩)
theorem kX5_format_92 (z : XKT) : XOi z xInf Y_X5_format 92 (.inl (i_iinc 2 1 95)) := ok_iinc dX5_format_92 rfl
theorem kX5_format_95 (z : XKT) : XOi z xInf Y_X5_format 95 (.inl (i_goto 61)) := ok_goto dX5_format_95 rfl
theorem kX5_format_98 (z : XKT) : XOi z xInf Y_X5_format 98 (.inl (i_aload 0 99)) := ok_aload_n dX5_format_98 rfl
theorem kX5_format_99 (z : XKT) : XOi z xInf Y_X5_format 99 (.inl (i_iload 1 100)) := ok_iload_n dX5_format_99 rfl
theorem kX5_format_100 (z : XKT) : XOi z xInf Y_X5_format 100 (.inr (.inl (103, g_virt [(4, 228)] 1))) := show XOkC z xInf Y_X5_format 100 103 (g_virt [(4, 228)] 1) from okc_V (q := Y_X5_format) (List.forall_mem_cons.mpr ⟨(show XOkV z xInf Y_X5_format 100 103 1 (4, 228) from okv_V (q := Y_X5_format) (q1 := Y_X5_isClaimed) Z_X5_isClaimed rfl (by decide) ⟨by decide, by decide, Or.inl ⟨_, _, (List.mem_of_getElem? (l := xCls) (i := 3) rfl)⟩⟩ dX5_format_100 q2725 q2727 qs66 q153 q2728 hy_280), (fun _ h => absurd h List.not_mem_nil)⟩)
theorem kX5_format_103 (z : XKT) : XOi z xInf Y_X5_format 103 (.inl (i_if (fun x => x = 0) 112 106)) := ok_if_eq dX5_format_103 rfl
theorem kX5_format_106 (z : XKT) : XOi z xInf Y_X5_format 106 (.inl (i_aload 0 107)) := ok_aload_n dX5_format_106 rfl
theorem kX5_format_107 (z : XKT) : XOi z xInf Y_X5_format 107 (.inl (i_push (vI 42) 109)) := ok_bipush dX5_format_107 rfl
theorem kX5_format_109 (z : XKT) : XOi z xInf Y_X5_format 109 (.inr (.inl (112, g_virt [(4, 305)] 1))) := show XOkC z xInf Y_X5_format 109 112 (g_virt [(4, 305)] 1) from okc_V (q := Y_X5_format) (List.forall_mem_cons.mpr ⟨(show XOkV z xInf Y_X5_format 109 112 1 (4, 305) from okv_V (q := Y_X5_format) (q1 := Y_X5_write) Z_X5_write rfl (by decide) ⟨by decide, by decide, Or.inl ⟨_, _, (List.mem_of_getElem? (l := xCls) (i := 3) rfl)⟩⟩ dX5_format_109 q3002 q3004 qs100 q153 q3005 hy_311), (fun _ h => absurd h List.not_mem_nil)⟩)
theorem kX5_format_112 (z : XKT) : XOi z xInf Y_X5_format 112 (.inl (i_aload 0 113)) := ok_aload_n dX5_format_112 rfl
theorem kX5_format_113 (z : XKT) : XOi z xInf Y_X5_format 113 (.inl (i_geti [4] 45 116)) := ok_geti dX5_format_113 q2522 (List.forall_mem_cons.mpr ⟨⟨_, _, _, _, fd_45_4_0⟩, (fun _ h => absurd h List.not_mem_nil)⟩)
theorem kX5_format_116 (z : XKT) : XOi z xInf Y_X5_format 116 (.inr (.inr (.inl (r_i .int)))) := show XOkR Y_X5_format 116 ((r_i .int)) from okr_i (q := Y_X5_format) (ty := .int) rfl rfl dX5_format_116
theorem o_X5_format (z : XKT) : XMi z xInf Y_X5_format := XMi.mk9 (T := T_X5_format z) rfl (⟨kX5_format_0 z, ⟨kX5_format_1 z, ⟨kX5_format_2 z, ⟨kX5_format_3 z, ⟨kX5_format_6 z, ⟨kX5_format_9 z, ⟨kX5_format_12 z, ⟨kX5_format_13 z, ⟨kX5_format_14 z, ⟨kX5_format_15 z, ⟨kX5_format_16 z, ⟨kX5_format_19 z, ⟨kX5_format_20 z, ⟨kX5_format_21 z, ⟨kX5_format_24 z, ⟨kX5_format_25 z, ⟨kX5_format_26 z, ⟨kX5_format_27 z, ⟨kX5_format_30 z, ⟨kX5_format_31 z, ⟨kX5_format_34 z, ⟨kX5_format_35 z, ⟨kX5_format_36 z, ⟨kX5_format_37 z, ⟨kX5_format_38 z, ⟨kX5_format_41 z, ⟨kX5_format_44 z, ⟨kX5_format_45 z, ⟨kX5_format_46 z, ⟨kX5_format_49 z, ⟨kX5_format_50 z, ⟨kX5_format_51 z, ⟨kX5_format_52 z, ⟨kX5_format_55 z, ⟨kX5_format_56 z, ⟨kX5_format_59 z, ⟨kX5_format_60 z, ⟨kX5_format_61 z, ⟨kX5_format_62 z, ⟨kX5_format_63 z, ⟨kX5_format_64 z, ⟨kX5_format_66 z, ⟨kX5_format_69 z, ⟨kX5_format_72 z, ⟨kX5_format_73 z, ⟨kX5_format_76 z, ⟨kX5_format_77 z, ⟨kX5_format_79 z, ⟨kX5_format_82 z, ⟨kX5_format_83 z, ⟨kX5_format_84 z, ⟨kX5_format_85 z, ⟨kX5_format_86 z, ⟨kX5_format_89 z, ⟨kX5_format_92 z, ⟨kX5_format_95 z, ⟨kX5_format_98 z, ⟨kX5_format_99 z, ⟨kX5_format_100 z, ⟨kX5_format_103 z, ⟨kX5_format_106 z, ⟨kX5_format_107 z, ⟨kX5_format_109 z, ⟨kX5_format_112 z, ⟨kX5_format_113 z, ⟨kX5_format_116 z, trivial⟩⟩⟩⟩⟩⟩⟩⟩⟩⟩⟩⟩⟩⟩⟩⟩⟩⟩⟩⟩⟩⟩⟩⟩⟩⟩⟩⟩⟩⟩⟩⟩⟩⟩⟩⟩⟩⟩⟩⟩⟩⟩⟩⟩⟩⟩⟩⟩⟩⟩⟩⟩⟩⟩⟩⟩⟩⟩⟩⟩⟩⟩⟩⟩⟩⟩) (hd_X5_format z) rfl rfl (by decide +kernel)
theorem hd_X5_formattedByte (z : XKT) : XHd z Y_X5_formattedByte := xHd_none rfl (xhd0 rfl)
theorem kX5_formattedByte_0 (z : XKT) : XOi z xInf Y_X5_formattedByte 0 (.inl (i_aload 0 1)) := ok_aload_n dX5_formattedByte_0 rfl
theorem kX5_formattedByte_1 (z : XKT) : XOi z xInf Y_X5_formattedByte 1 (.inl (i_push (vI 0) 2)) := ok_iconst dX5_formattedByte_1 rfl
theorem kX5_formattedByte_2 (z : XKT) : XOi z xInf Y_X5_formattedByte 2 (.inl (i_puti z.1 [4] .int 42 5)) := ok_puti dX5_formattedByte_2 q2519 rfl (List.forall_mem_cons.mpr ⟨⟨_, _, _, _, tyX5, fd_42_4_0, ⟨tyX5_ok, nmX5, (Or.inl rfl)⟩, rfl⟩, (fun _ h => absurd h List.not_mem_nil)⟩)
theorem kX5_formattedByte_5 (z : XKT) : XOi z xInf Y_X5_formattedByte 5 (.inl (i_iload 1 6)) := ok_iload_n dX5_formattedByte_5 rfl
theorem kX5_formattedByte_6 (z : XKT) : XOi z xInf Y_X5_formattedByte 6 (.inl (i_push (vI 0) 7)) := ok_iconst dX5_formattedByte_6 rfl
theorem kX5_formattedByte_7 (z : XKT) : XOi z xInf Y_X5_formattedByte 7 (.inl (i_aload 0 8)) := ok_aload_n dX5_formattedByte_7 rfl
theorem kX5_formattedByte_8 (z : XKT) : XOi z xInf Y_X5_formattedByte 8 (.inl (i_geti [4] 45 11)) := ok_geti dX5_formattedByte_8 q2522 (List.forall_mem_cons.mpr ⟨⟨_, _, _, _, fd_45_4_0⟩, (fun _ h => absurd h List.not_mem_nil)⟩)
theorem kX5_formattedByte_11 (z : XKT) : XOi z xInf Y_X5_formattedByte 11 (.inl (i_push (vI 1) 12)) := ok_iconst dX5_formattedByte_11 rfl
theorem kX5_formattedByte_12 (z : XKT) : XOi z xInf Y_X5_formattedByte 12 (.inl (i_bin (fun x y => x - y) 13)) := ok_isub dX5_formattedByte_12
theorem kX5_formattedByte_13 (z : XKT) : XOi z xInf Y_X5_formattedByte 13 (.inr (.inl (16, g_stat 226 3))) := show XOkC z xInf Y_X5_formattedByte 13 16 (g_stat 226 3) from okc_S (q := Y_X5_formattedByte) (q1 := Y_X5_inRange) Z_X5_inRange rfl (by decide) dX5_formattedByte_13 q2603 q2604 q153 q2605 hy_261
theorem kX5_formattedByte_16 (z : XKT) : XOi z xInf Y_X5_formattedByte 16 (.inl (i_if (fun x => x = 0) 28 19)) := ok_if_eq dX5_formattedByte_16 rfl
theorem kX5_formattedByte_19 (z : XKT) : XOi z xInf Y_X5_formattedByte 19 (.inl (i_aload 0 20)) := ok_aload_n dX5_formattedByte_19 rfl
theorem kX5_formattedByte_20 (z : XKT) : XOi z xInf Y_X5_formattedByte 20 (.inl (i_getr [4] 44 23)) := ok_getr dX5_formattedByte_20 q2521 (List.forall_mem_cons.mpr ⟨⟨_, _, _, _, fd_44_4_0⟩, (fun _ h => absurd h List.not_mem_nil)⟩)
theorem kX5_formattedByte_23 (z : XKT) : XOi z xInf Y_X5_formattedByte 23 (.inl (i_iload 1 24)) := ok_iload_n dX5_formattedByte_23 rfl
theorem kX5_formattedByte_24 (z : XKT) : XOi z xInf Y_X5_formattedByte 24 (.inl (i_ald 1000 25)) := ok_iald dX5_formattedByte_24
theorem kX5_formattedByte_25 (z : XKT) : XOi z xInf Y_X5_formattedByte 25 (.inl (i_goto 29)) := ok_goto dX5_formattedByte_25 rfl
theorem kX5_formattedByte_28 (z : XKT) : XOi z xInf Y_X5_formattedByte 28 (.inl (i_push (vI (-1)) 29)) := ok_iconst dX5_formattedByte_28 rfl
theorem kX5_formattedByte_29 (z : XKT) : XOi z xInf Y_X5_formattedByte 29 (.inr (.inr (.inl (r_i .int)))) := show XOkR Y_X5_formattedByte 29 ((r_i .int)) from okr_i (q := Y_X5_formattedByte) (ty := .int) rfl rfl dX5_formattedByte_29
theorem o_X5_formattedByte (z : XKT) : XMi z xInf Y_X5_formattedByte := XMi.mk9 (T := T_X5_formattedByte z) rfl (⟨kX5_formattedByte_0 z, ⟨kX5_formattedByte_1 z, ⟨kX5_formattedByte_2 z, ⟨kX5_formattedByte_5 z, ⟨kX5_formattedByte_6 z, ⟨kX5_formattedByte_7 z, ⟨kX5_formattedByte_8 z, ⟨kX5_formattedByte_11 z, ⟨kX5_formattedByte_12 z, ⟨kX5_formattedByte_13 z, ⟨kX5_formattedByte_16 z, ⟨kX5_formattedByte_19 z, ⟨kX5_formattedByte_20 z, ⟨kX5_formattedByte_23 z, ⟨kX5_formattedByte_24 z, ⟨kX5_formattedByte_25 z, ⟨kX5_formattedByte_28 z, ⟨kX5_formattedByte_29 z, trivial⟩⟩⟩⟩⟩⟩⟩⟩⟩⟩⟩⟩⟩⟩⟩⟩⟩⟩) (hd_X5_formattedByte z) rfl rfl (by decide +kernel)
theorem hd_X5_gap (z : XKT) : XHd z Y_X5_gap := xHd_none rfl (xhd0 rfl)
theorem kX5_gap_0 (z : XKT) : XOi z xInf Y_X5_gap 0 (.inl (i_aload 0 1)) := ok_aload_n dX5_gap_0 rfl
theorem kX5_gap_1 (z : XKT) : XOi z xInf Y_X5_gap 1 (.inl (i_push (vI 0) 2)) := ok_iconst dX5_gap_1 rfl
theorem kX5_gap_2 (z : XKT) : XOi z xInf Y_X5_gap 2 (.inl (i_puti z.1 [4] .int 42 5)) := ok_puti dX5_gap_2 q2519 rfl (List.forall_mem_cons.mpr ⟨⟨_, _, _, _, tyX5, fd_42_4_0, ⟨tyX5_ok, nmX5, (Or.inl rfl)⟩, rfl⟩, (fun _ h => absurd h List.not_mem_nil)⟩)
theorem kX5_gap_5 (z : XKT) : XOi z xInf Y_X5_gap 5 (.inl (i_aload 0 6)) := ok_aload_n dX5_gap_5 rfl
theorem kX5_gap_6 (z : XKT) : XOi z xInf Y_X5_gap 6 (.inr (.inl (9, g_virt [(4, 172)] 0))) := show XOkC z xInf Y_X5_gap 6 9 (g_virt [(4, 172)] 0) from okc_V (q := Y_X5_gap) (List.forall_mem_cons.mpr ⟨(show XOkV z xInf Y_X5_gap 6 9 0 (4, 172) from okv_V (q := Y_X5_gap) (q1 := Y_X5_allPurses) Z_X5_allPurses rfl (by decide) ⟨by decide, by decide, Or.inl ⟨_, _, (List.mem_of_getElem? (l := xCls) (i := 3) rfl)⟩⟩ dX5_gap_6 q2757 q2759 qs72 q153 q2760 hy_313), (fun _ h => absurd h List.not_mem_nil)⟩)
theorem kX5_gap_9 (z : XKT) : XOi z xInf Y_X5_gap 9 (.inl (i_aload 0 10)) := ok_aload_n dX5_gap_9 rfl
theorem kX5_gap_10 (z : XKT) : XOi z xInf Y_X5_gap 10 (.inl (i_push (vI 6) 12)) := ok_bipush dX5_gap_10 rfl
theorem kX5_gap_12 (z : XKT) : XOi z xInf Y_X5_gap 12 (.inr (.inl (15, g_virt [(4, 290)] 1))) := show XOkC z xInf Y_X5_gap 12 15 (g_virt [(4, 290)] 1) from okc_V (q := Y_X5_gap) (List.forall_mem_cons.mpr ⟨(show XOkV z xInf Y_X5_gap 12 15 1 (4, 290) from okv_V (q := Y_X5_gap) (q1 := Y_X5_tallied) Z_X5_tallied rfl (by decide) ⟨by decide, by decide, Or.inl ⟨_, _, (List.mem_of_getElem? (l := xCls) (i := 3) rfl)⟩⟩ dX5_gap_12 q2646 q2648 qs55 q153 q2649 hy_263), (fun _ h => absurd h List.not_mem_nil)⟩)
theorem kX5_gap_15 (z : XKT) : XOi z xInf Y_X5_gap 15 (.inl (i_bin (fun x y => x - y) 16)) := ok_isub dX5_gap_15
theorem kX5_gap_16 (z : XKT) : XOi z xInf Y_X5_gap 16 (.inl (i_istore 1 17)) := ok_istore_n dX5_gap_16 rfl
theorem kX5_gap_17 (z : XKT) : XOi z xInf Y_X5_gap 17 (.inl (i_push (vI 0) 18)) := ok_iconst dX5_gap_17 rfl
theorem kX5_gap_18 (z : XKT) : XOi z xInf Y_X5_gap 18 (.inl (i_istore 2 19)) := ok_istore_n dX5_gap_18 rfl
theorem kX5_gap_19 (z : XKT) : XOi z xInf Y_X5_gap 19 (.inl (i_iload 2 20)) := ok_iload_n dX5_gap_19 rfl
theorem kX5_gap_20 (z : XKT) : XOi z xInf Y_X5_gap 20 (.inl (i_aload 0 21)) := ok_aload_n dX5_gap_20 rfl
theorem kX5_gap_21 (z : XKT) : XOi z xInf Y_X5_gap 21 (.inl (i_getr [4] 40 24)) := ok_getr dX5_gap_21 q2517 (List.forall_mem_cons.mpr ⟨⟨_, _, _, _, fd_40_4_0⟩, (fun _ h => absurd h List.not_mem_nil)⟩)
theorem kX5_gap_24 (z : XKT) : XOi z xInf Y_X5_gap 24 (.inl (i_push (vI 4) 25)) := ok_iconst dX5_gap_24 rfl
theorem kX5_gap_25 (z : XKT) : XOi z xInf Y_X5_gap 25 (.inl (i_ald 1000 26)) := ok_iald dX5_gap_25
theorem kX5_gap_26 (z : XKT) : XOi z xInf Y_X5_gap 26 (.inl (i_icmp (fun x y => y ≤ x) 64 29)) := ok_icmp_ge dX5_gap_26 rfl
theorem kX5_gap_29 (z : XKT) : XOi z xInf Y_X5_gap 29 (.inl (i_aload 0 30)) := ok_aload_n dX5_gap_29 rfl
theorem kX5_gap_30 (z : XKT) : XOi z xInf Y_X5_gap 30 (.inl (i_iload 2 31)) := ok_iload_n dX5_gap_30 rfl
theorem kX5_gap_31 (z : XKT) : XOi z xInf Y_X5_gap 31 (.inl (i_push (vI 1) 32)) := ok_iconst dX5_gap_31 rfl
theorem kX5_gap_32 (z : XKT) : XOi z xInf Y_X5_gap 32 (.inr (.inl (35, g_virt [(4, 254)] 2))) := show XOkC z xInf Y_X5_gap 32 35 (g_virt [(4, 254)] 2) from okc_V (q := Y_X5_gap) (List.forall_mem_cons.mpr ⟨(show XOkV z xInf Y_X5_gap 32 35 2 (4, 254) from okv_V (q := Y_X5_gap) (q1 := Y_X5_ofFinder) Z_X5_ofFinder rfl (by decide) ⟨by decide, by decide, Or.inl ⟨_, _, (List.mem_of_getElem? (l := xCls) (i := 3) rfl)⟩⟩ dX5_gap_32 q2630 q2632 qs52 q153 q2633 hy_267), (fun _ h => absurd h List.not_mem_nil)⟩)
theorem kX5_gap_35 (z : XKT) : XOi z xInf Y_X5_gap 35 (.inl (i_istore 3 36)) := ok_istore_n dX5_gap_35 rfl
theorem kX5_gap_36 (z : XKT) : XOi z xInf Y_X5_gap 36 (.inl (i_iload 1 37)) := ok_iload_n dX5_gap_36 rfl
theorem kX5_gap_37 (z : XKT) : XOi z xInf Y_X5_gap 37 (.inl (i_iload 3 38)) := ok_iload_n dX5_gap_37 rfl
theorem kX5_gap_38 (z : XKT) : XOi z xInf Y_X5_gap 38 (.inl (i_push (vI (-1)) 39)) := ok_iconst dX5_gap_38 rfl
theorem kX5_gap_39 (z : XKT) : XOi z xInf Y_X5_gap 39 (.inl (i_icmp (fun x y => x = y) 55 42)) := ok_icmp_eq dX5_gap_39 rfl
theorem kX5_gap_42 (z : XKT) : XOi z xInf Y_X5_gap 42 (.inl (i_aload 0 43)) := ok_aload_n dX5_gap_42 rfl
theorem kX5_gap_43 (z : XKT) : XOi z xInf Y_X5_gap 43 (.inl (i_iload 3 44)) := ok_iload_n dX5_gap_43 rfl
theorem kX5_gap_44 (z : XKT) : XOi z xInf Y_X5_gap 44 (.inl (i_push (vI 0) 45)) := ok_iconst dX5_gap_44 rfl
theorem kX5_gap_45 (z : XKT) : XOi z xInf Y_X5_gap 45 (.inr (.inl (48, g_virt [(4, 233)] 2))) := show XOkC z xInf Y_X5_gap 45 48 (g_virt [(4, 233)] 2) from okc_V (q := Y_X5_gap) (List.forall_mem_cons.mpr ⟨(show XOkV z xInf Y_X5_gap 45 48 2 (4, 233) from okv_V (q := Y_X5_gap) (q1 := Y_X5_isIn) Z_X5_isIn rfl (by decide) ⟨by decide, by decide, Or.inl ⟨_, _, (List.mem_of_getElem? (l := xCls) (i := 3) rfl)⟩⟩ dX5_gap_45 q2618 q2620 qs49 q153 q2621 hy_270), (fun _ h => absurd h List.not_mem_nil)⟩)
theorem kX5_gap_48 (z : XKT) : XOi z xInf Y_X5_gap 48 (.inl (i_if (fun x => ¬ x = 0) 55 51)) := ok_if_ne dX5_gap_48 rfl
theorem kX5_gap_51 (z : XKT) : XOi z xInf Y_X5_gap 51 (.inl (i_push (vI 1) 52)) := ok_iconst dX5_gap_51 rfl
theorem kX5_gap_52 (z : XKT) : XOi z xInf Y_X5_gap 52 (.inl (i_goto 56)) := ok_goto dX5_gap_52 rfl
theorem kX5_gap_55 (z : XKT) : XOi z xInf Y_X5_gap 55 (.inl (i_push (vI 0) 56)) := ok_iconst dX5_gap_55 rfl
theorem kX5_gap_56 (z : XKT) : XOi z xInf Y_X5_gap 56 (.inl (i_bin (fun x y => x + y) 57)) := ok_iadd dX5_gap_56
theorem kX5_gap_57 (z : XKT) : XOi z xInf Y_X5_gap 57 (.inl (i_istore 1 58)) := ok_istore_n dX5_gap_57 rfl
theorem kX5_gap_58 (z : XKT) : XOi z xInf Y_X5_gap 58 (.inl (i_iinc 2 1 61)) := ok_iinc dX5_gap_58 rfl
theorem kX5_gap_61 (z : XKT) : XOi z xInf Y_X5_gap 61 (.inl (i_goto 19)) := ok_goto dX5_gap_61 rfl
theorem kX5_gap_64 (z : XKT) : XOi z xInf Y_X5_gap 64 (.inl (i_push (vI 0) 65)) := ok_iconst dX5_gap_64 rfl
theorem kX5_gap_65 (z : XKT) : XOi z xInf Y_X5_gap 65 (.inl (i_istore 2 66)) := ok_istore_n dX5_gap_65 rfl
theorem kX5_gap_66 (z : XKT) : XOi z xInf Y_X5_gap 66 (.inl (i_iload 2 67)) := ok_iload_n dX5_gap_66 rfl
theorem kX5_gap_67 (z : XKT) : XOi z xInf Y_X5_gap 67 (.inl (i_aload 0 68)) := ok_aload_n dX5_gap_67 rfl
theorem kX5_gap_68 (z : XKT) : XOi z xInf Y_X5_gap 68 (.inl (i_getr [4] 40 71)) := ok_getr dX5_gap_68 q2517 (List.forall_mem_cons.mpr ⟨⟨_, _, _, _, fd_40_4_0⟩, (fun _ h => absurd h List.not_mem_nil)⟩)
theorem kX5_gap_71 (z : XKT) : XOi z xInf Y_X5_gap 71 (.inl (i_push (vI 5) 72)) := ok_iconst dX5_gap_71 rfl
theorem kX5_gap_72 (z : XKT) : XOi z xInf Y_X5_gap 72 (.inl (i_ald 1000 73)) := ok_iald dX5_gap_72
theorem kX5_gap_73 (z : XKT) : XOi z xInf Y_X5_gap 73 (.inl (i_icmp (fun x y => y ≤ x) 115 76)) := ok_icmp_ge dX5_gap_73 rfl
theorem kX5_gap_76 (z : XKT) : XOi z xInf Y_X5_gap 76 (.inl (i_iload 1 77)) := ok_iload_n dX5_gap_76 rfl
theorem kX5_gap_77 (z : XKT) : XOi z xInf Y_X5_gap 77 (.inl (i_aload 0 78)) := ok_aload_n dX5_gap_77 rfl
theorem kX5_gap_78 (z : XKT) : XOi z xInf Y_X5_gap 78 (.inl (i_iload 2 79)) := ok_iload_n dX5_gap_78 rfl
theorem kX5_gap_79 (z : XKT) : XOi z xInf Y_X5_gap 79 (.inl (i_push (vI 0) 80)) := ok_iconst dX5_gap_79 rfl
theorem kX5_gap_80 (z : XKT) : XOi z xInf Y_X5_gap 80 (.inr (.inl (83, g_virt [(4, 233)] 2))) := show XOkC z xInf Y_X5_gap 80 83 (g_virt [(4, 233)] 2) from okc_V (q := Y_X5_gap) (List.forall_mem_cons.mpr ⟨(show XOkV z xInf Y_X5_gap 80 83 2 (4, 233) from okv_V (q := Y_X5_gap) (q1 := Y_X5_isIn) Z_X5_isIn rfl (by decide) ⟨by decide, by decide, Or.inl ⟨_, _, (List.mem_of_getElem? (l := xCls) (i := 3) rfl)⟩⟩ dX5_gap_80 q2618 q2620 qs49 q153 q2621 hy_270), (fun _ h => absurd h List.not_mem_nil)⟩)
theorem kX5_gap_83 (z : XKT) : XOi z xInf Y_X5_gap 83 (.inl (i_if (fun x => x = 0) 106 86)) := ok_if_eq dX5_gap_83 rfl
theorem kX5_gap_86 (z : XKT) : XOi z xInf Y_X5_gap 86 (.inl (i_aload 0 87)) := ok_aload_n dX5_gap_86 rfl
theorem kX5_gap_87 (z : XKT) : XOi z xInf Y_X5_gap 87 (.inl (i_iload 2 88)) := ok_iload_n dX5_gap_87 rfl
theorem kX5_gap_88 (z : XKT) : XOi z xInf Y_X5_gap 88 (.inl (i_push (vI 6) 90)) := ok_bipush dX5_gap_88 rfl
theorem kX5_gap_90 (z : XKT) : XOi z xInf Y_X5_gap 90 (.inr (.inl (93, g_virt [(4, 253)] 2))) := show XOkC z xInf Y_X5_gap 90 93 (g_virt [(4, 253)] 2) from okc_V (q := Y_X5_gap) (List.forall_mem_cons.mpr ⟨(show XOkV z xInf Y_X5_gap 90 93 2 (4, 253) from okv_V (q := Y_X5_gap) (q1 := Y_X5_of) Z_X5_of rfl (by decide) ⟨by decide, by decide, Or.inl ⟨_, _, (List.mem_of_getElem? (l := xCls) (i := 3) rfl)⟩⟩ dX5_gap_90 q2622 q2624 qs50 q153 q2625 hy_265), (fun _ h => absurd h List.not_mem_nil)⟩)
theorem kX5_gap_93 (z : XKT) : XOi z xInf Y_X5_gap 93 (.inl (i_aload 0 94)) := ok_aload_n dX5_gap_93 rfl
theorem kX5_gap_94 (z : XKT) : XOi z xInf Y_X5_gap 94 (.inl (i_getr [4] 40 97)) := ok_getr dX5_gap_94 q2517 (List.forall_mem_cons.mpr ⟨⟨_, _, _, _, fd_40_4_0⟩, (fun _ h => absurd h List.not_mem_nil)⟩)
theorem kX5_gap_97 (z : XKT) : XOi z xInf Y_X5_gap 97 (.inl (i_push (vI 2) 98)) := ok_iconst dX5_gap_97 rfl
theorem kX5_gap_98 (z : XKT) : XOi z xInf Y_X5_gap 98 (.inl (i_ald 1000 99)) := ok_iald dX5_gap_98
theorem kX5_gap_99 (z : XKT) : XOi z xInf Y_X5_gap 99 (.inl (i_icmp (fun x y => x < y) 106 102)) := ok_icmp_lt dX5_gap_99 rfl
theorem kX5_gap_102 (z : XKT) : XOi z xInf Y_X5_gap 102 (.inl (i_push (vI 1) 103)) := ok_iconst dX5_gap_102 rfl
theorem kX5_gap_103 (z : XKT) : XOi z xInf Y_X5_gap 103 (.inl (i_goto 107)) := ok_goto dX5_gap_103 rfl
theorem kX5_gap_106 (z : XKT) : XOi z xInf Y_X5_gap 106 (.inl (i_push (vI 0) 107)) := ok_iconst dX5_gap_106 rfl
theorem kX5_gap_107 (z : XKT) : XOi z xInf Y_X5_gap 107 (.inl (i_bin (fun x y => x + y) 108)) := ok_iadd dX5_gap_107
theorem kX5_gap_108 (z : XKT) : XOi z xInf Y_X5_gap 108 (.inl (i_istore 1 109)) := ok_istore_n dX5_gap_108 rfl
theorem kX5_gap_109 (z : XKT) : XOi z xInf Y_X5_gap 109 (.inl (i_iinc 2 1 112)) := ok_iinc dX5_gap_109 rfl
theorem kX5_gap_112 (z : XKT) : XOi z xInf Y_X5_gap 112 (.inl (i_goto 66)) := ok_goto dX5_gap_112 rfl
theorem kX5_gap_115 (z : XKT) : XOi z xInf Y_X5_gap 115 (.inl (i_iload 1 116)) := ok_iload_n dX5_gap_115 rfl
theorem kX5_gap_116 (z : XKT) : XOi z xInf Y_X5_gap 116 (.inr (.inr (.inl (r_i .int)))) := show XOkR Y_X5_gap 116 ((r_i .int)) from okr_i (q := Y_X5_gap) (ty := .int) rfl rfl dX5_gap_116
theorem o_X5_gap (z : XKT) : XMi z xInf Y_X5_gap := XMi.mk9 (T := T_X5_gap z) rfl (⟨kX5_gap_0 z, ⟨kX5_gap_1 z, ⟨kX5_gap_2 z, ⟨kX5_gap_5 z, ⟨kX5_gap_6 z, ⟨kX5_gap_9 z, ⟨kX5_gap_10 z, ⟨kX5_gap_12 z, ⟨kX5_gap_15 z, ⟨kX5_gap_16 z, ⟨kX5_gap_17 z, ⟨kX5_gap_18 z, ⟨kX5_gap_19 z, ⟨kX5_gap_20 z, ⟨kX5_gap_21 z, ⟨kX5_gap_24 z, ⟨kX5_gap_25 z, ⟨kX5_gap_26 z, ⟨kX5_gap_29 z, ⟨kX5_gap_30 z, ⟨kX5_gap_31 z, ⟨kX5_gap_32 z, ⟨kX5_gap_35 z, ⟨kX5_gap_36 z, ⟨kX5_gap_37 z, ⟨kX5_gap_38 z, ⟨kX5_gap_39 z, ⟨kX5_gap_42 z, ⟨kX5_gap_43 z, ⟨kX5_gap_44 z, ⟨kX5_gap_45 z, ⟨kX5_gap_48 z, ⟨kX5_gap_51 z, ⟨kX5_gap_52 z, ⟨kX5_gap_55 z, ⟨kX5_gap_56 z, ⟨kX5_gap_57 z, ⟨kX5_gap_58 z, ⟨kX5_gap_61 z, ⟨kX5_gap_64 z, ⟨kX5_gap_65 z, ⟨kX5_gap_66 z, ⟨kX5_gap_67 z, ⟨kX5_gap_68 z, ⟨kX5_gap_71 z, ⟨kX5_gap_72 z, ⟨kX5_gap_73 z, ⟨kX5_gap_76 z, ⟨kX5_gap_77 z, ⟨kX5_gap_78 z, ⟨kX5_gap_79 z, ⟨kX5_gap_80 z, ⟨kX5_gap_83 z, ⟨kX5_gap_86 z, ⟨kX5_gap_87 z, ⟨kX5_gap_88 z, ⟨kX5_gap_90 z, ⟨kX5_gap_93 z, ⟨kX5_gap_94 z, ⟨kX5_gap_97 z, ⟨kX5_gap_98 z, ⟨kX5_gap_99 z, ⟨kX5_gap_102 z, ⟨kX5_gap_103 z, ⟨kX5_gap_106 z, ⟨kX5_gap_107 z, ⟨kX5_gap_108 z, ⟨kX5_gap_109 z, ⟨kX5_gap_112 z, ⟨kX5_gap_115 z, ⟨kX5_gap_116 z, trivial⟩⟩⟩⟩⟩⟩⟩⟩⟩⟩⟩⟩⟩⟩⟩⟩⟩⟩⟩⟩⟩⟩⟩⟩⟩⟩⟩⟩⟩⟩⟩⟩⟩⟩⟩⟩⟩⟩⟩⟩⟩⟩⟩⟩⟩⟩⟩⟩⟩⟩⟩⟩⟩⟩⟩⟩⟩⟩⟩⟩⟩⟩⟩⟩⟩⟩⟩⟩⟩⟩⟩) (hd_X5_gap z) rfl rfl (by decide +kernel)
theorem hd_X5_good (z : XKT) : XHd z Y_X5_good := xHd_none rfl (xhd0 rfl)
theorem kX5_good_0 (z : XKT) : XOi z xInf Y_X5_good 0 (.inl (i_aload 0 1)) := ok_aload_n dX5_good_0 rfl
theorem kX5_good_1 (z : XKT) : XOi z xInf Y_X5_good 1 (.inl (i_aload 0 2)) := ok_aload_n dX5_good_1 rfl
theorem kX5_good_2 (z : XKT) : XOi z xInf Y_X5_good 2 (.inl (i_iload 1 3)) := ok_iload_n dX5_good_2 rfl
theorem kX5_good_3 (z : XKT) : XOi z xInf Y_X5_good 3 (.inr (.inl (6, g_virt [(4, 232)] 1))) := show XOkC z xInf Y_X5_good 3 6 (g_virt [(4, 232)] 1) from okc_V (q := Y_X5_good) (List.forall_mem_cons.mpr ⟨(show XOkV z xInf Y_X5_good 3 6 1 (4, 232) from okv_V (q := Y_X5_good) (q1 := Y_X5_isGood) Z_X5_isGood rfl (by decide) ⟨by decide, by decide, Or.inl ⟨_, _, (List.mem_of_getElem? (l := xCls) (i := 3) rfl)⟩⟩ dX5_good_3 q2654 q2656 qs56 q153 q2657 hy_272), (fun _ h => absurd h List.not_mem_nil)⟩)
theorem kX5_good_6 (z : XKT) : XOi z xInf Y_X5_good 6 (.inr (.inl (9, g_virt [(4, 240)] 1))) := show XOkC z xInf Y_X5_good 6 9 (g_virt [(4, 240)] 1) from okc_V (q := Y_X5_good) (List.forall_mem_cons.mpr ⟨(show XOkV z xInf Y_X5_good 6 9 1 (4, 240) from okv_V (q := Y_X5_good) (q1 := Y_X5_lacks) Z_X5_lacks rfl (by decide) ⟨by decide, by decide, Or.inl ⟨_, _, (List.mem_of_getElem? (l := xCls) (i := 3) rfl)⟩⟩ dX5_good_6 q2606 q2608 qs46 q153 q2609 hy_262), (fun _ h => absurd h List.not_mem_nil)⟩)
theorem kX5_good_9 (z : XKT) : XOi z xInf Y_X5_good 9 (.inl (i_if (fun x => x = 0) 14 12)) := ok_if_eq dX5_good_9 rfl
theorem kX5_good_12 (z : XKT) : XOi z xInf Y_X5_good 12 (.inl (i_push (vI 0) 13)) := ok_iconst dX5_good_12 rfl
theorem kX5_good_13 (z : XKT) : XOi z xInf Y_X5_good 13 (.inr (.inr (.inl (r_i .int)))) := show XOkR Y_X5_good 13 ((r_i .int)) from okr_i (q := Y_X5_good) (ty := .int) rfl rfl dX5_good_13
theorem kX5_good_14 (z : XKT) : XOi z xInf Y_X5_good 14 (.inl (i_iload 2 15)) := ok_iload_n dX5_good_14 rfl
theorem kX5_good_15 (z : XKT) : XOi z xInf Y_X5_good 15 (.inl (i_push (vI 0) 16)) := ok_iconst dX5_good_15 rfl
theorem kX5_good_16 (z : XKT) : XOi z xInf Y_X5_good 16 (.inl (i_push (vI 10) 18)) := ok_bipush dX5_good_16 rfl
theorem kX5_good_18 (z : XKT) : XOi z xInf Y_X5_good 18 (.inr (.inl (21, g_stat 226 3))) := show XOkC z xInf Y_X5_good 18 21 (g_stat 226 3) from okc_S (q := Y_X5_good) (q1 := Y_X5_inRange) Z_X5_inRange rfl (by decide) dX5_good_18 q2603 q2604 q153 q2605 hy_261
theorem kX5_good_21 (z : XKT) : XOi z xInf Y_X5_good 21 (.inl (i_if (fun x => ¬ x = 0) 30 24)) := ok_if_ne dX5_good_21 rfl
theorem kX5_good_24 (z : XKT) : XOi z xInf Y_X5_good 24 (.inl (i_aload 0 25)) := ok_aload_n dX5_good_24 rfl
theorem kX5_good_25 (z : XKT) : XOi z xInf Y_X5_good 25 (.inl (i_push (vI 2) 26)) := ok_iconst dX5_good_25 rfl
theorem kX5_good_26 (z : XKT) : XOi z xInf Y_X5_good 26 (.inr (.inl (29, g_virt [(4, 266)] 1))) := show XOkC z xInf Y_X5_good 26 29 (g_virt [(4, 266)] 1) from okc_V (q := Y_X5_good) (List.forall_mem_cons.mpr ⟨(show XOkV z xInf Y_X5_good 26 29 1 (4, 266) from okv_V (q := Y_X5_good) (q1 := Y_X5_raise) Z_X5_raise rfl (by decide) ⟨by decide, by decide, Or.inl ⟨_, _, (List.mem_of_getElem? (l := xCls) (i := 3) rfl)⟩⟩ dX5_good_26 q2658 q2660 qs57 q153 q2661 hy_310), (fun _ h => absurd h List.not_mem_nil)⟩)
theorem kX5_good_29 (z : XKT) : XOi z xInf Y_X5_good 29 (.inr (.inr (.inl (r_i .int)))) := show XOkR Y_X5_good 29 ((r_i .int)) from okr_i (q := Y_X5_good) (ty := .int) rfl rfl dX5_good_29
theorem kX5_good_30 (z : XKT) : XOi z xInf Y_X5_good 30 (.inl (i_iload 2 31)) := ok_iload_n dX5_good_30 rfl
theorem kX5_good_31 (z : XKT) : XOi z xInf Y_X5_good 31 (.inl (i_swt [(8, 56), (9, 77), (10, 98)] 106)) := ok_table dX5_good_31 rfl rfl (by decide +kernel)
theorem kX5_good_56 (z : XKT) : XOi z xInf Y_X5_good 56 (.inl (i_aload 0 57)) := ok_aload_n dX5_good_56 rfl
theorem kX5_good_57 (z : XKT) : XOi z xInf Y_X5_good 57 (.inl (i_iload 1 58)) := ok_iload_n dX5_good_57 rfl
theorem kX5_good_58 (z : XKT) : XOi z xInf Y_X5_good 58 (.inl (i_push (vI 0) 59)) := ok_iconst dX5_good_58 rfl
theorem kX5_good_59 (z : XKT) : XOi z xInf Y_X5_good 59 (.inr (.inl (62, g_virt [(4, 233)] 2))) := show XOkC z xInf Y_X5_good 59 62 (g_virt [(4, 233)] 2) from okc_V (q := Y_X5_good) (List.forall_mem_cons.mpr ⟨(show XOkV z xInf Y_X5_good 59 62 2 (4, 233) from okv_V (q := Y_X5_good) (q1 := Y_X5_isIn) Z_X5_isIn rfl (by decide) ⟨by decide, by decide, Or.inl ⟨_, _, (List.mem_of_getElem? (l := xCls) (i := 3) rfl)⟩⟩ dX5_good_59 q2618 q2620 qs49 q153 q2621 hy_270), (fun _ h => absurd h List.not_mem_nil)⟩)
theorem kX5_good_62 (z : XKT) : XOi z xInf Y_X5_good 62 (.inl (i_if (fun x => x = 0) 75 65)) := ok_if_eq dX5_good_62 rfl
theorem kX5_good_65 (z : XKT) : XOi z xInf Y_X5_good 65 (.inl (i_aload 0 66)) := ok_aload_n dX5_good_65 rfl
theorem kX5_good_66 (z : XKT) : XOi z xInf Y_X5_good 66 (.inl (i_iload 1 67)) := ok_iload_n dX5_good_66 rfl
theorem kX5_good_67 (z : XKT) : XOi z xInf Y_X5_good 67 (.inl (i_push (vI 9) 69)) := ok_bipush dX5_good_67 rfl
theorem kX5_good_69 (z : XKT) : XOi z xInf Y_X5_good 69 (.inr (.inl (72, g_virt [(4, 253)] 2))) := show XOkC z xInf Y_X5_good 69 72 (g_virt [(4, 253)] 2) from okc_V (q := Y_X5_good) (List.forall_mem_cons.mpr ⟨(show XOkV z xInf Y_X5_good 69 72 2 (4, 253) from okv_V (q := Y_X5_good) (q1 := Y_X5_of) Z_X5_of rfl (by decide) ⟨by decide, by decide, Or.inl ⟨_, _, (List.mem_of_getElem? (l := xCls) (i := 3) rfl)⟩⟩ dX5_good_69 q2622 q2624 qs50 q153 q2625 hy_265), (fun _ h => absurd h List.not_mem_nil)⟩)
theorem kX5_good_72 (z : XKT) : XOi z xInf Y_X5_good 72 (.inl (i_goto 76)) := ok_goto dX5_good_72 rfl
theorem kX5_good_75 (z : XKT) : XOi z xInf Y_X5_good 75 (.inl (i_push (vI 0) 76)) := ok_iconst dX5_good_75 rfl
theorem kX5_good_76 (z : XKT) : XOi z xInf Y_X5_good 76 (.inr (.inr (.inl (r_i .int)))) := show XOkR Y_X5_good 76 ((r_i .int)) from okr_i (q := Y_X5_good) (ty := .int) rfl rfl dX5_good_76
theorem kX5_good_77 (z : XKT) : XOi z xInf Y_X5_good 77 (.inl (i_aload 0 78)) := ok_aload_n dX5_good_77 rfl
theorem kX5_good_78 (z : XKT) : XOi z xInf Y_X5_good 78 (.inl (i_iload 1 79)) := ok_iload_n dX5_good_78 rfl
theorem kX5_good_79 (z : XKT) : XOi z xInf Y_X5_good 79 (.inl (i_push (vI 0) 80)) := ok_iconst dX5_good_79 rfl
theorem kX5_good_80 (z : XKT) : XOi z xInf Y_X5_good 80 (.inr (.inl (83, g_virt [(4, 233)] 2))) := show XOkC z xInf Y_X5_good 80 83 (g_virt [(4, 233)] 2) from okc_V (q := Y_X5_good) (List.forall_mem_cons.mpr ⟨(show XOkV z xInf Y_X5_good 80 83 2 (4, 233) from okv_V (q := Y_X5_good) (q1 := Y_X5_isIn) Z_X5_isIn rfl (by decide) ⟨by decide, by decide, Or.inl ⟨_, _, (List.mem_of_getElem? (l := xCls) (i := 3) rfl)⟩⟩ dX5_good_80 q2618 q2620 qs49 q153 q2621 hy_270), (fun _ h => absurd h List.not_mem_nil)⟩)
theorem kX5_good_83 (z : XKT) : XOi z xInf Y_X5_good 83 (.inl (i_if (fun x => x = 0) 90 86)) := ok_if_eq dX5_good_83 rfl
theorem kX5_good_86 (z : XKT) : XOi z xInf Y_X5_good 86 (.inl (i_push (vI 0) 87)) := ok_iconst dX5_good_86 rfl
theorem kX5_good_87 (z : XKT) : XOi z xInf Y_X5_good 87 (.inl (i_goto 97)) := ok_goto dX5_good_87 rfl
theorem kX5_good_90 (z : XKT) : XOi z xInf Y_X5_good 90 (.inl (i_aload 0 91)) := ok_aload_n dX5_good_90 rfl
theorem kX5_good_91 (z : XKT) : XOi z xInf Y_X5_good 91 (.inl (i_iload 1 92)) := ok_iload_n dX5_good_91 rfl
theorem kX5_good_92 (z : XKT) : XOi z xInf Y_X5_good 92 (.inl (i_push (vI 9) 94)) := ok_bipush dX5_good_92 rfl
theorem kX5_good_94 (z : XKT) : XOi z xInf Y_X5_good 94 (.inr (.inl (97, g_virt [(4, 253)] 2))) := show XOkC z xInf Y_X5_good 94 97 (g_virt [(4, 253)] 2) from okc_V (q := Y_X5_good) (List.forall_mem_cons.mpr ⟨(show XOkV z xInf Y_X5_good 94 97 2 (4, 253) from okv_V (q := Y_X5_good) (q1 := Y_X5_of) Z_X5_of rfl (by decide) ⟨by decide, by decide, Or.inl ⟨_, _, (List.mem_of_getElem? (l := xCls) (i := 3) rfl)⟩⟩ dX5_good_94 q2622 q2624 qs50 q153 q2625 hy_265), (fun _ h => absurd h List.not_mem_nil)⟩)
theorem kX5_good_97 (z : XKT) : XOi z xInf Y_X5_good 97 (.inr (.inr (.inl (r_i .int)))) := show XOkR Y_X5_good 97 ((r_i .int)) from okr_i (q := Y_X5_good) (ty := .int) rfl rfl dX5_good_97
theorem kX5_good_98 (z : XKT) : XOi z xInf Y_X5_good 98 (.inl (i_aload 0 99)) := ok_aload_n dX5_good_98 rfl
theorem kX5_good_99 (z : XKT) : XOi z xInf Y_X5_good 99 (.inl (i_iload 1 100)) := ok_iload_n dX5_good_99 rfl
theorem kX5_good_100 (z : XKT) : XOi z xInf Y_X5_good 100 (.inl (i_push (vI 8) 102)) := ok_bipush dX5_good_100 rfl
theorem kX5_good_102 (z : XKT) : XOi z xInf Y_X5_good 102 (.inr (.inl (105, g_virt [(4, 253)] 2))) := show XOkC z xInf Y_X5_good 102 105 (g_virt [(4, 253)] 2) from okc_V (q := Y_X5_good) (List.forall_mem_cons.mpr ⟨(show XOkV z xInf Y_X5_good 102 105 2 (4, 253) from okv_V (q := Y_X5_good) (q1 := Y_X5_of) Z_X5_of rfl (by decide) ⟨by decide, by decide, Or.inl ⟨_, _, (List.mem_of_getElem? (l := xCls) (i := 3) rfl)⟩⟩ dX5_good_102 q2622 q2624 qs50 q153 q2625 hy_265), (fun _ h => absurd h List.not_mem_nil)⟩)
theorem kX5_good_105 (z : XKT) : XOi z xInf Y_X5_good 105 (.inr (.inr (.inl (r_i .int)))) := show XOkR Y_X5_good 105 ((r_i .int)) from okr_i (q := Y_X5_good) (ty := .int) rfl rfl dX5_good_105
theorem kX5_good_106 (z : XKT) : XOi z xInf Y_X5_good 106 (.inl (i_aload 0 107)) := ok_aload_n dX5_good_106 rfl
theorem kX5_good_107 (z : XKT) : XOi z xInf Y_X5_good 107 (.inl (i_iload 1 108)) := ok_iload_n dX5_good_107 rfl
theorem kX5_good_108 (z : XKT) : XOi z xInf Y_X5_good 108 (.inl (i_iload 2 109)) := ok_iload_n dX5_good_108 rfl
theorem kX5_good_109 (z : XKT) : XOi z xInf Y_X5_good 109 (.inr (.inl (112, g_virt [(4, 253)] 2))) := show XOkC z xInf Y_X5_good 109 112 (g_virt [(4, 253)] 2) from okc_V (q := Y_X5_good) (List.forall_mem_cons.mpr ⟨(show XOkV z xInf Y_X5_good 109 112 2 (4, 253) from okv_V (q := Y_X5_good) (q1 := Y_X5_of) Z_X5_of rfl (by decide) ⟨by decide, by decide, Or.inl ⟨_, _, (List.mem_of_getElem? (l := xCls) (i := 3) rfl)⟩⟩ dX5_good_109 q2622 q2624 qs50 q153 q2625 hy_265), (fun _ h => absurd h List.not_mem_nil)⟩)
theorem kX5_good_112 (z : XKT) : XOi z xInf Y_X5_good 112 (.inr (.inr (.inl (r_i .int)))) := show XOkR Y_X5_good 112 ((r_i .int)) from okr_i (q := Y_X5_good) (ty := .int) rfl rfl dX5_good_112
theorem o_X5_good (z : XKT) : XMi z xInf Y_X5_good := XMi.mk9 (T := T_X5_good z) rfl (⟨kX5_good_0 z, ⟨kX5_good_1 z, ⟨kX5_good_2 z, ⟨kX5_good_3 z, ⟨kX5_good_6 z, ⟨kX5_good_9 z, ⟨kX5_good_12 z, ⟨kX5_good_13 z, ⟨kX5_good_14 z, ⟨kX5_good_15 z, ⟨kX5_good_16 z, ⟨kX5_good_18 z, ⟨kX5_good_21 z, ⟨kX5_good_24 z, ⟨kX5_good_25 z, ⟨kX5_good_26 z, ⟨kX5_good_29 z, ⟨kX5_good_30 z, ⟨kX5_good_31 z, ⟨kX5_good_56 z, ⟨kX5_good_57 z, ⟨kX5_good_58 z, ⟨kX5_good_59 z, ⟨kX5_good_62 z, ⟨kX5_good_65 z, ⟨kX5_good_66 z, ⟨kX5_good_67 z, ⟨kX5_good_69 z, ⟨kX5_good_72 z, ⟨kX5_good_75 z, ⟨kX5_good_76 z, ⟨kX5_good_77 z, ⟨kX5_good_78 z, ⟨kX5_good_79 z, ⟨kX5_good_80 z, ⟨kX5_good_83 z, ⟨kX5_good_86 z, ⟨kX5_good_87 z, ⟨kX5_good_90 z, ⟨kX5_good_91 z, ⟨kX5_good_92 z, ⟨kX5_good_94 z, ⟨kX5_good_97 z, ⟨kX5_good_98 z, ⟨kX5_good_99 z, ⟨kX5_good_100 z, ⟨kX5_good_102 z, ⟨kX5_good_105 z, ⟨kX5_good_106 z, ⟨kX5_good_107 z, ⟨kX5_good_108 z, ⟨kX5_good_109 z, ⟨kX5_good_112 z, trivial⟩⟩⟩⟩⟩⟩⟩⟩⟩⟩⟩⟩⟩⟩⟩⟩⟩⟩⟩⟩⟩⟩⟩⟩⟩⟩⟩⟩⟩⟩⟩⟩⟩⟩⟩⟩⟩⟩⟩⟩⟩⟩⟩⟩⟩⟩⟩⟩⟩⟩⟩⟩⟩) (hd_X5_good z) rfl rfl (by decide +kernel)
theorem hd_X5_hand (z : XKT) : XHd z Y_X5_hand := xHd_none rfl (xhd0 rfl)
theorem kX5_hand_0 (z : XKT) : XOi z xInf Y_X5_hand 0 (.inl (i_aload 0 1)) := ok_aload_n dX5_hand_0 rfl
theorem kX5_hand_1 (z : XKT) : XOi z xInf Y_X5_hand 1 (.inl (i_aload 0 2)) := ok_aload_n dX5_hand_1 rfl
theorem kX5_hand_2 (z : XKT) : XOi z xInf Y_X5_hand 2 (.inl (i_iload 1 3)) := ok_iload_n dX5_hand_2 rfl
theorem kX5_hand_3 (z : XKT) : XOi z xInf Y_X5_hand 3 (.inr (.inl (6, g_virt [(4, 232)] 1))) := show XOkC z xInf Y_X5_hand 3 6 (g_virt [(4, 232)] 1) from okc_V (q := Y_X5_hand) (List.forall_mem_cons.mpr ⟨(show XOkV z xInf Y_X5_hand 3 6 1 (4, 232) from okv_V (q := Y_X5_hand) (q1 := Y_X5_isGood) Z_X5_isGood rfl (by decide) ⟨by decide, by decide, Or.inl ⟨_, _, (List.mem_of_getElem? (l := xCls) (i := 3) rfl)⟩⟩ dX5_hand_3 q2654 q2656 qs56 q153 q2657 hy_272), (fun _ h => absurd h List.not_mem_nil)⟩)
theorem kX5_hand_6 (z : XKT) : XOi z xInf Y_X5_hand 6 (.inr (.inl (9, g_virt [(4, 240)] 1))) := show XOkC z xInf Y_X5_hand 6 9 (g_virt [(4, 240)] 1) from okc_V (q := Y_X5_hand) (List.forall_mem_cons.mpr ⟨(show XOkV z xInf Y_X5_hand 6 9 1 (4, 240) from okv_V (q := Y_X5_hand) (q1 := Y_X5_lacks) Z_X5_lacks rfl (by decide) ⟨by decide, by decide, Or.inl ⟨_, _, (List.mem_of_getElem? (l := xCls) (i := 3) rfl)⟩⟩ dX5_hand_6 q2606 q2608 qs46 q153 q2609 hy_262), (fun _ h => absurd h List.not_mem_nil)⟩)
theorem kX5_hand_9 (z : XKT) : XOi z xInf Y_X5_hand 9 (.inl (i_if (fun x => x = 0) 14 12)) := ok_if_eq dX5_hand_9 rfl
theorem kX5_hand_12 (z : XKT) : XOi z xInf Y_X5_hand 12 (.inl (i_push (vI 0) 13)) := ok_iconst dX5_hand_12 rfl
theorem kX5_hand_13 (z : XKT) : XOi z xInf Y_X5_hand 13 (.inr (.inr (.inl (r_i .int)))) := show XOkR Y_X5_hand 13 ((r_i .int)) from okr_i (q := Y_X5_hand) (ty := .int) rfl rfl dX5_hand_13
theorem kX5_hand_14 (z : XKT) : XOi z xInf Y_X5_hand 14 (.inl (i_aload 0 15)) := ok_aload_n dX5_hand_14 rfl
theorem kX5_hand_15 (z : XKT) : XOi z xInf Y_X5_hand 15 (.inl (i_iload 1 16)) := ok_iload_n dX5_hand_15 rfl
theorem kX5_hand_16 (z : XKT) : XOi z xInf Y_X5_hand 16 (.inl (i_push (vI 0) 17)) := ok_iconst dX5_hand_16 rfl
theorem kX5_hand_17 (z : XKT) : XOi z xInf Y_X5_hand 17 (.inr (.inl (20, g_virt [(4, 233)] 2))) := show XOkC z xInf Y_X5_hand 17 20 (g_virt [(4, 233)] 2) from okc_V (q := Y_X5_hand) (List.forall_mem_cons.mpr ⟨(show XOkV z xInf Y_X5_hand 17 20 2 (4, 233) from okv_V (q := Y_X5_hand) (q1 := Y_X5_isIn) Z_X5_isIn rfl (by decide) ⟨by decide, by decide, Or.inl ⟨_, _, (List.mem_of_getElem? (l := xCls) (i := 3) rfl)⟩⟩ dX5_hand_17 q2618 q2620 qs49 q153 q2621 hy_270), (fun _ h => absurd h List.not_mem_nil)⟩)
theorem kX5_hand_20 (z : XKT) : XOi z xInf Y_X5_hand 20 (.inl (i_iload 3 21)) := ok_iload_n dX5_hand_20 rfl
theorem kX5_hand_21 (z : XKT) : XOi z xInf Y_X5_hand 21 (.inl (i_icmp (fun x y => x = y) 45 24)) := ok_icmp_eq dX5_hand_21 rfl
theorem kX5_hand_24 (z : XKT) : XOi z xInf Y_X5_hand 24 (.inl (i_iload 2 25)) := ok_iload_n dX5_hand_24 rfl
theorem kX5_hand_25 (z : XKT) : XOi z xInf Y_X5_hand 25 (.inl (i_push (vI 0) 26)) := ok_iconst dX5_hand_25 rfl
theorem kX5_hand_26 (z : XKT) : XOi z xInf Y_X5_hand 26 (.inl (i_aload 0 27)) := ok_aload_n dX5_hand_26 rfl
theorem kX5_hand_27 (z : XKT) : XOi z xInf Y_X5_hand 27 (.inl (i_iload 1 28)) := ok_iload_n dX5_hand_27 rfl
theorem kX5_hand_28 (z : XKT) : XOi z xInf Y_X5_hand 28 (.inl (i_push (vI 9) 30)) := ok_bipush dX5_hand_28 rfl
theorem kX5_hand_30 (z : XKT) : XOi z xInf Y_X5_hand 30 (.inr (.inl (33, g_virt [(4, 253)] 2))) := show XOkC z xInf Y_X5_hand 30 33 (g_virt [(4, 253)] 2) from okc_V (q := Y_X5_hand) (List.forall_mem_cons.mpr ⟨(show XOkV z xInf Y_X5_hand 30 33 2 (4, 253) from okv_V (q := Y_X5_hand) (q1 := Y_X5_of) Z_X5_of rfl (by decide) ⟨by decide, by decide, Or.inl ⟨_, _, (List.mem_of_getElem? (l := xCls) (i := 3) rfl)⟩⟩ dX5_hand_30 q2622 q2624 qs50 q153 q2625 hy_265), (fun _ h => absurd h List.not_mem_nil)⟩)
theorem kX5_hand_33 (z : XKT) : XOi z xInf Y_X5_hand 33 (.inl (i_push (vI 1) 34)) := ok_iconst dX5_hand_33 rfl
theorem kX5_hand_34 (z : XKT) : XOi z xInf Y_X5_hand 34 (.inl (i_bin (fun x y => x - y) 35)) := ok_isub dX5_hand_34
theorem kX5_hand_35 (z : XKT) : XOi z xInf Y_X5_hand 35 (.inr (.inl (38, g_stat 226 3))) := show XOkC z xInf Y_X5_hand 35 38 (g_stat 226 3) from okc_S (q := Y_X5_hand) (q1 := Y_X5_inRange) Z_X5_inRange rfl (by decide) dX5_hand_35 q2603 q2604 q153 q2605 hy_261
theorem kX5_hand_38 (z : XKT) : XOi z xInf Y_X5_hand 38 (.inl (i_if (fun x => x = 0) 45 41)) := ok_if_eq dX5_hand_38 rfl
theorem kX5_hand_41 (z : XKT) : XOi z xInf Y_X5_hand 41 (.inl (i_push (vI 1) 42)) := ok_iconst dX5_hand_41 rfl
theorem kX5_hand_42 (z : XKT) : XOi z xInf Y_X5_hand 42 (.inl (i_goto 46)) := ok_goto dX5_hand_42 rfl
theorem kX5_hand_45 (z : XKT) : XOi z xInf Y_X5_hand 45 (.inl (i_push (vI 0) 46)) := ok_iconst dX5_hand_45 rfl
theorem kX5_hand_46 (z : XKT) : XOi z xInf Y_X5_hand 46 (.inl (i_istore 4 48)) := ok_istore dX5_hand_46
theorem kX5_hand_48 (z : XKT) : XOi z xInf Y_X5_hand 48 (.inl (i_iload 4 50)) := ok_iload dX5_hand_48
theorem kX5_hand_50 (z : XKT) : XOi z xInf Y_X5_hand 50 (.inl (i_if (fun x => x = 0) 62 53)) := ok_if_eq dX5_hand_50 rfl
theorem kX5_hand_53 (z : XKT) : XOi z xInf Y_X5_hand 53 (.inl (i_aload 0 54)) := ok_aload_n dX5_hand_53 rfl
theorem kX5_hand_54 (z : XKT) : XOi z xInf Y_X5_hand 54 (.inl (i_iload 1 55)) := ok_iload_n dX5_hand_54 rfl
theorem kX5_hand_55 (z : XKT) : XOi z xInf Y_X5_hand 55 (.inl (i_iload 2 56)) := ok_iload_n dX5_hand_55 rfl
theorem kX5_hand_56 (z : XKT) : XOi z xInf Y_X5_hand 56 (.inr (.inl (59, g_virt [(4, 223)] 2))) := show XOkC z xInf Y_X5_hand 56 59 (g_virt [(4, 223)] 2) from okc_V (q := Y_X5_hand) (List.forall_mem_cons.mpr ⟨(show XOkV z xInf Y_X5_hand 56 59 2 (4, 223) from okv_V (q := Y_X5_hand) (q1 := Y_X5_handOf) Z_X5_handOf rfl (by decide) ⟨by decide, by decide, Or.inl ⟨_, _, (List.mem_of_getElem? (l := xCls) (i := 3) rfl)⟩⟩ dX5_hand_56 q2674 q2676 qs60 q153 q2677 hy_287), (fun _ h => absurd h List.not_mem_nil)⟩)
theorem kX5_hand_59 (z : XKT) : XOi z xInf Y_X5_hand 59 (.inl (i_goto 63)) := ok_goto dX5_hand_59 rfl
theorem kX5_hand_62 (z : XKT) : XOi z xInf Y_X5_hand 62 (.inl (i_push (vI (-1)) 63)) := ok_iconst dX5_hand_62 rfl
theorem kX5_hand_63 (z : XKT) : XOi z xInf Y_X5_hand 63 (.inr (.inr (.inl (r_i .int)))) := show XOkR Y_X5_hand 63 ((r_i .int)) from okr_i (q := Y_X5_hand) (ty := .int) rfl rfl dX5_hand_63
theorem o_X5_hand (z : XKT) : XMi z xInf Y_X5_hand := XMi.mk9 (T := T_X5_hand z) rfl (⟨kX5_hand_0 z, ⟨kX5_hand_1 z, ⟨kX5_hand_2 z, ⟨kX5_hand_3 z, ⟨kX5_hand_6 z, ⟨kX5_hand_9 z, ⟨kX5_hand_12 z, ⟨kX5_hand_13 z, ⟨kX5_hand_14 z, ⟨kX5_hand_15 z, ⟨kX5_hand_16 z, ⟨kX5_hand_17 z, ⟨kX5_hand_20 z, ⟨kX5_hand_21 z, ⟨kX5_hand_24 z, ⟨kX5_hand_25 z, ⟨kX5_hand_26 z, ⟨kX5_hand_27 z, ⟨kX5_hand_28 z, ⟨kX5_hand_30 z, ⟨kX5_hand_33 z, ⟨kX5_hand_34 z, ⟨kX5_hand_35 z, ⟨kX5_hand_38 z, ⟨kX5_hand_41 z, ⟨kX5_hand_42 z, ⟨kX5_hand_45 z, ⟨kX5_hand_46 z, ⟨kX5_hand_48 z, ⟨kX5_hand_50 z, ⟨kX5_hand_53 z, ⟨kX5_hand_54 z, ⟨kX5_hand_55 z, ⟨kX5_hand_56 z, ⟨kX5_hand_59 z, ⟨kX5_hand_62 z, ⟨kX5_hand_63 z, trivial⟩⟩⟩⟩⟩⟩⟩⟩⟩⟩⟩⟩⟩⟩⟩⟩⟩⟩⟩⟩⟩⟩⟩⟩⟩⟩⟩⟩⟩⟩⟩⟩⟩⟩⟩⟩⟩) (hd_X5_hand z) rfl rfl (by decide +kernel)
theorem hd_X5_handOf (z : XKT) : XHd z Y_X5_handOf := xHd_none rfl (xhd0 rfl)
theorem kX5_handOf_0 (z : XKT) : XOi z xInf Y_X5_handOf 0 (.inl (i_aload 0 1)) := ok_aload_n dX5_handOf_0 rfl
theorem kX5_handOf_1 (z : XKT) : XOi z xInf Y_X5_handOf 1 (.inl (i_iload 1 2)) := ok_iload_n dX5_handOf_1 rfl
theorem kX5_handOf_2 (z : XKT) : XOi z xInf Y_X5_handOf 2 (.inl (i_push (vI 10) 4)) := ok_bipush dX5_handOf_2 rfl
theorem kX5_handOf_4 (z : XKT) : XOi z xInf Y_X5_handOf 4 (.inl (i_iload 2 5)) := ok_iload_n dX5_handOf_4 rfl
theorem kX5_handOf_5 (z : XKT) : XOi z xInf Y_X5_handOf 5 (.inl (i_bin (fun x y => x + y) 6)) := ok_iadd dX5_handOf_5
theorem kX5_handOf_6 (z : XKT) : XOi z xInf Y_X5_handOf 6 (.inr (.inl (9, g_virt [(4, 253)] 2))) := show XOkC z xInf Y_X5_handOf 6 9 (g_virt [(4, 253)] 2) from okc_V (q := Y_X5_handOf) (List.forall_mem_cons.mpr ⟨(show XOkV z xInf Y_X5_handOf 6 9 2 (4, 253) from okv_V (q := Y_X5_handOf) (q1 := Y_X5_of) Z_X5_of rfl (by decide) ⟨by decide, by decide, Or.inl ⟨_, _, (List.mem_of_getElem? (l := xCls) (i := 3) rfl)⟩⟩ dX5_handOf_6 q2622 q2624 qs50 q153 q2625 hy_265), (fun _ h => absurd h List.not_mem_nil)⟩)
theorem kX5_handOf_9 (z : XKT) : XOi z xInf Y_X5_handOf 9 (.inr (.inr (.inl (r_i .int)))) := show XOkR Y_X5_handOf 9 ((r_i .int)) from okr_i (q := Y_X5_handOf) (ty := .int) rfl rfl dX5_handOf_9
theorem o_X5_handOf (z : XKT) : XMi z xInf Y_X5_handOf := XMi.mk9 (T := T_X5_handOf z) rfl (⟨kX5_handOf_0 z, ⟨kX5_handOf_1 z, ⟨kX5_handOf_2 z, ⟨kX5_handOf_4 z, ⟨kX5_handOf_5 z, ⟨kX5_handOf_6 z, ⟨kX5_handOf_9 z, trivial⟩⟩⟩⟩⟩⟩⟩) (hd_X5_handOf z) rfl rfl (by decide +kernel)
theorem hd_X5_haul (z : XKT) : XHd z Y_X5_haul := xHd_none rfl (xhd0 rfl)
theorem kX5_haul_0 (z : XKT) : XOi z xInf Y_X5_haul 0 (.inl (i_aload 0 1)) := ok_aload_n dX5_haul_0 rfl
theorem kX5_haul_1 (z : XKT) : XOi z xInf Y_X5_haul 1 (.inl (i_aload 0 2)) := ok_aload_n dX5_haul_1 rfl
theorem kX5_haul_2 (z : XKT) : XOi z xInf Y_X5_haul 2 (.inl (i_iload 1 3)) := ok_iload_n dX5_haul_2 rfl
theorem kX5_haul_3 (z : XKT) : XOi z xInf Y_X5_haul 3 (.inr (.inl (6, g_virt [(4, 232)] 1))) := show XOkC z xInf Y_X5_haul 3 6 (g_virt [(4, 232)] 1) from okc_V (q := Y_X5_haul) (List.forall_mem_cons.mpr ⟨(show XOkV z xInf Y_X5_haul 3 6 1 (4, 232) from okv_V (q := Y_X5_haul) (q1 := Y_X5_isGood) Z_X5_isGood rfl (by decide) ⟨by decide, by decide, Or.inl ⟨_, _, (List.mem_of_getElem? (l := xCls) (i := 3) rfl)⟩⟩ dX5_haul_3 q2654 q2656 qs56 q153 q2657 hy_272), (fun _ h => absurd h List.not_mem_nil)⟩)
theorem kX5_haul_6 (z : XKT) : XOi z xInf Y_X5_haul 6 (.inr (.inl (9, g_virt [(4, 240)] 1))) := show XOkC z xInf Y_X5_haul 6 9 (g_virt [(4, 240)] 1) from okc_V (q := Y_X5_haul) (List.forall_mem_cons.mpr ⟨(show XOkV z xInf Y_X5_haul 6 9 1 (4, 240) from okv_V (q := Y_X5_haul) (q1 := Y_X5_lacks) Z_X5_lacks rfl (by decide) ⟨by decide, by decide, Or.inl ⟨_, _, (List.mem_of_getElem? (l := xCls) (i := 3) rfl)⟩⟩ dX5_haul_6 q2606 q2608 qs46 q153 q2609 hy_262), (fun _ h => absurd h List.not_mem_nil)⟩)
theorem kX5_haul_9 (z : XKT) : XOi z xInf Y_X5_haul 9 (.inl (i_if (fun x => x = 0) 14 12)) := ok_if_eq dX5_haul_9 rfl
theorem kX5_haul_12 (z : XKT) : XOi z xInf Y_X5_haul 12 (.inl (i_push (vI 0) 13)) := ok_iconst dX5_haul_12 rfl
theorem kX5_haul_13 (z : XKT) : XOi z xInf Y_X5_haul 13 (.inr (.inr (.inl (r_i .int)))) := show XOkR Y_X5_haul 13 ((r_i .int)) from okr_i (q := Y_X5_haul) (ty := .int) rfl rfl dX5_haul_13
theorem kX5_haul_14 (z : XKT) : XOi z xInf Y_X5_haul 14 (.inl (i_aload 0 15)) := ok_aload_n dX5_haul_14 rfl
theorem kX5_haul_15 (z : XKT) : XOi z xInf Y_X5_haul 15 (.inr (.inl (18, g_virt [(4, 238)] 0))) := show XOkC z xInf Y_X5_haul 15 18 (g_virt [(4, 238)] 0) from okc_V (q := Y_X5_haul) (List.forall_mem_cons.mpr ⟨(show XOkV z xInf Y_X5_haul 15 18 0 (4, 238) from okv_V (q := Y_X5_haul) (q1 := Y_X5_keep) Z_X5_keep rfl (by decide) ⟨by decide, by decide, Or.inl ⟨_, _, (List.mem_of_getElem? (l := xCls) (i := 3) rfl)⟩⟩ dX5_haul_15 q2878 q2880 qs79 q153 q2881 hy_276), (fun _ h => absurd h List.not_mem_nil)⟩)
theorem kX5_haul_18 (z : XKT) : XOi z xInf Y_X5_haul 18 (.inl (i_aload 0 19)) := ok_aload_n dX5_haul_18 rfl
theorem kX5_haul_19 (z : XKT) : XOi z xInf Y_X5_haul 19 (.inl (i_aload 0 20)) := ok_aload_n dX5_haul_19 rfl
theorem kX5_haul_20 (z : XKT) : XOi z xInf Y_X5_haul 20 (.inl (i_iload 1 21)) := ok_iload_n dX5_haul_20 rfl
theorem kX5_haul_21 (z : XKT) : XOi z xInf Y_X5_haul 21 (.inr (.inl (24, g_virt [(4, 201)] 1))) := show XOkC z xInf Y_X5_haul 21 24 (g_virt [(4, 201)] 1) from okc_V (q := Y_X5_haul) (List.forall_mem_cons.mpr ⟨(show XOkV z xInf Y_X5_haul 21 24 1 (4, 201) from okv_V (q := Y_X5_haul) (q1 := Y_X5_doHaul) Z_X5_doHaul rfl (by decide) ⟨by decide, by decide, Or.inl ⟨_, _, (List.mem_of_getElem? (l := xCls) (i := 3) rfl)⟩⟩ dX5_haul_21 q2938 q2940 qs89 q153 q2941 hy_301), (fun _ h => absurd h List.not_mem_nil)⟩)
theorem kX5_haul_24 (z : XKT) : XOi z xInf Y_X5_haul 24 (.inr (.inl (27, g_virt [(4, 275)] 1))) := show XOkC z xInf Y_X5_haul 24 27 (g_virt [(4, 275)] 1) from okc_V (q := Y_X5_haul) (List.forall_mem_cons.mpr ⟨(show XOkV z xInf Y_X5_haul 24 27 1 (4, 275) from okv_V (q := Y_X5_haul) (q1 := Y_X5_recorded) Z_X5_recorded rfl (by decide) ⟨by decide, by decide, Or.inl ⟨_, _, (List.mem_of_getElem? (l := xCls) (i := 3) rfl)⟩⟩ dX5_haul_24 q2902 q2904 qs84 q153 q2905 hy_278), (fun _ h => absurd h List.not_mem_nil)⟩)
theorem kX5_haul_27 (z : XKT) : XOi z xInf Y_X5_haul 27 (.inr (.inr (.inl (r_i .int)))) := show XOkR Y_X5_haul 27 ((r_i .int)) from okr_i (q := Y_X5_haul) (ty := .int) rfl rfl dX5_haul_27
theorem o_X5_haul (z : XKT) : XMi z xInf Y_X5_haul := XMi.mk9 (T := T_X5_haul z) rfl (⟨kX5_haul_0 z, ⟨kX5_haul_1 z, ⟨kX5_haul_2 z, ⟨kX5_haul_3 z, ⟨kX5_haul_6 z, ⟨kX5_haul_9 z, ⟨kX5_haul_12 z, ⟨kX5_haul_13 z, ⟨kX5_haul_14 z, ⟨kX5_haul_15 z, ⟨kX5_haul_18 z, ⟨kX5_haul_19 z, ⟨kX5_haul_20 z, ⟨kX5_haul_21 z, ⟨kX5_haul_24 z, ⟨kX5_haul_27 z, trivial⟩⟩⟩⟩⟩⟩⟩⟩⟩⟩⟩⟩⟩⟩⟩⟩) (hd_X5_haul z) rfl rfl (by decide +kernel)
theorem hd_X5_haulRefusal (z : XKT) : XHd z Y_X5_haulRefusal := xHd_none rfl (xhd0 rfl)
theorem kX5_haulRefusal_0 (z : XKT) : XOi z xInf Y_X5_haulRefusal 0 (.inl (i_aload 0 1)) := ok_aload_n dX5_haulRefusal_0 rfl
theorem kX5_haulRefusal_1 (z : XKT) : XOi z xInf Y_X5_haulRefusal 1 (.inl (i_iload 1 2)) := ok_iload_n dX5_haulRefusal_1 rfl
theorem kX5_haulRefusal_2 (z : XKT) : XOi z xInf Y_X5_haulRefusal 2 (.inl (i_push (vI 0) 3)) := ok_iconst dX5_haulRefusal_2 rfl
theorem kX5_haulRefusal_3 (z : XKT) : XOi z xInf Y_X5_haulRefusal 3 (.inr (.inl (6, g_virt [(4, 233)] 2))) := show XOkC z xInf Y_X5_haulRefusal 3 6 (g_virt [(4, 233)] 2) from okc_V (q := Y_X5_haulRefusal) (List.forall_mem_cons.mpr ⟨(show XOkV z xInf Y_X5_haulRefusal 3 6 2 (4, 233) from okv_V (q := Y_X5_haulRefusal) (q1 := Y_X5_isIn) Z_X5_isIn rfl (by decide) ⟨by decide, by decide, Or.inl ⟨_, _, (List.mem_of_getElem? (l := xCls) (i := 3) rfl)⟩⟩ dX5_haulRefusal_3 q2618 q2620 qs49 q153 q2621 hy_270), (fun _ h => absurd h List.not_mem_nil)⟩)
theorem kX5_haulRefusal_6 (z : XKT) : XOi z xInf Y_X5_haulRefusal 6 (.inl (i_if (fun x => ¬ x = 0) 12 9)) := ok_if_ne dX5_haulRefusal_6 rfl
theorem kX5_haulRefusal_9 (z : XKT) : XOi z xInf Y_X5_haulRefusal 9 (.inl (i_push (vI (-2)) 11)) := ok_bipush dX5_haulRefusal_9 rfl
theorem kX5_haulRefusal_11 (z : XKT) : XOi z xInf Y_X5_haulRefusal 11 (.inr (.inr (.inl (r_i .int)))) := show XOkR Y_X5_haulRefusal 11 ((r_i .int)) from okr_i (q := Y_X5_haulRefusal) (ty := .int) rfl rfl dX5_haulRefusal_11
theorem kX5_haulRefusal_12 (z : XKT) : XOi z xInf Y_X5_haulRefusal 12 (.inl (i_aload 0 13)) := ok_aload_n dX5_haulRefusal_12 rfl
theorem kX5_haulRefusal_13 (z : XKT) : XOi z xInf Y_X5_haulRefusal 13 (.inl (i_iload 1 14)) := ok_iload_n dX5_haulRefusal_13 rfl
theorem kX5_haulRefusal_14 (z : XKT) : XOi z xInf Y_X5_haulRefusal 14 (.inl (i_aload 0 15)) := ok_aload_n dX5_haulRefusal_14 rfl
theorem kX5_haulRefusal_15 (z : XKT) : XOi z xInf Y_X5_haulRefusal 15 (.inl (i_getr [4] 40 18)) := ok_getr dX5_haulRefusal_15 q2517 (List.forall_mem_cons.mpr ⟨⟨_, _, _, _, fd_40_4_0⟩, (fun _ h => absurd h List.not_mem_nil)⟩)
theorem kX5_haulRefusal_18 (z : XKT) : XOi z xInf Y_X5_haulRefusal 18 (.inl (i_push (vI 0) 19)) := ok_iconst dX5_haulRefusal_18 rfl
theorem kX5_haulRefusal_19 (z : XKT) : XOi z xInf Y_X5_haulRefusal 19 (.inl (i_ald 1000 20)) := ok_iald dX5_haulRefusal_19
theorem kX5_haulRefusal_20 (z : XKT) : XOi z xInf Y_X5_haulRefusal 20 (.inr (.inl (23, g_virt [(4, 230)] 2))) := show XOkC z xInf Y_X5_haulRefusal 20 23 (g_virt [(4, 230)] 2) from okc_V (q := Y_X5_haulRefusal) (List.forall_mem_cons.mpr ⟨(show XOkV z xInf Y_X5_haulRefusal 20 23 2 (4, 230) from okv_V (q := Y_X5_haulRefusal) (q1 := Y_X5_isDry) Z_X5_isDry rfl (by decide) ⟨by decide, by decide, Or.inl ⟨_, _, (List.mem_of_getElem? (l := xCls) (i := 3) rfl)⟩⟩ dX5_haulRefusal_20 q2638 q2640 qs54 q153 q2641 hy_271), (fun _ h => absurd h List.not_mem_nil)⟩)
theorem kX5_haulRefusal_23 (z : XKT) : XOi z xInf Y_X5_haulRefusal 23 (.inl (i_if (fun x => ¬ x = 0) 29 26)) := ok_if_ne dX5_haulRefusal_23 rfl
theorem kX5_haulRefusal_26 (z : XKT) : XOi z xInf Y_X5_haulRefusal 26 (.inl (i_push (vI (-3)) 28)) := ok_bipush dX5_haulRefusal_26 rfl
theorem kX5_haulRefusal_28 (z : XKT) : XOi z xInf Y_X5_haulRefusal 28 (.inr (.inr (.inl (r_i .int)))) := show XOkR Y_X5_haulRefusal 28 ((r_i .int)) from okr_i (q := Y_X5_haulRefusal) (ty := .int) rfl rfl dX5_haulRefusal_28
theorem kX5_haulRefusal_29 (z : XKT) : XOi z xInf Y_X5_haulRefusal 29 (.inl (i_aload 0 30)) := ok_aload_n dX5_haulRefusal_29 rfl
theorem kX5_haulRefusal_30 (z : XKT) : XOi z xInf Y_X5_haulRefusal 30 (.inl (i_iload 1 31)) := ok_iload_n dX5_haulRefusal_30 rfl
theorem kX5_haulRefusal_31 (z : XKT) : XOi z xInf Y_X5_haulRefusal 31 (.inl (i_push (vI 9) 33)) := ok_bipush dX5_haulRefusal_31 rfl
theorem kX5_haulRefusal_33 (z : XKT) : XOi z xInf Y_X5_haulRefusal 33 (.inr (.inl (36, g_virt [(4, 253)] 2))) := show XOkC z xInf Y_X5_haulRefusal 33 36 (g_virt [(4, 253)] 2) from okc_V (q := Y_X5_haulRefusal) (List.forall_mem_cons.mpr ⟨(show XOkV z xInf Y_X5_haulRefusal 33 36 2 (4, 253) from okv_V (q := Y_X5_haulRefusal) (q1 := Y_X5_of) Z_X5_of rfl (by decide) ⟨by decide, by decide, Or.inl ⟨_, _, (List.mem_of_getElem? (l := xCls) (i := 3) rfl)⟩⟩ dX5_haulRefusal_33 q2622 q2624 qs50 q153 q2625 hy_265), (fun _ h => absurd h List.not_mem_nil)⟩)
theorem kX5_haulRefusal_36 (z : XKT) : XOi z xInf Y_X5_haulRefusal 36 (.inl (i_aload 0 37)) := ok_aload_n dX5_haulRefusal_36 rfl
theorem kX5_haulRefusal_37 (z : XKT) : XOi z xInf Y_X5_haulRefusal 37 (.inl (i_iload 1 38)) := ok_iload_n dX5_haulRefusal_37 rfl
theorem kX5_haulRefusal_38 (z : XKT) : XOi z xInf Y_X5_haulRefusal 38 (.inl (i_push (vI 4) 39)) := ok_iconst dX5_haulRefusal_38 rfl
theorem kX5_haulRefusal_39 (z : XKT) : XOi z xInf Y_X5_haulRefusal 39 (.inr (.inl (42, g_virt [(4, 253)] 2))) := show XOkC z xInf Y_X5_haulRefusal 39 42 (g_virt [(4, 253)] 2) from okc_V (q := Y_X5_haulRefusal) (List.forall_mem_cons.mpr ⟨(show XOkV z xInf Y_X5_haulRefusal 39 42 2 (4, 253) from okv_V (q := Y_X5_haulRefusal) (q1 := Y_X5_of) Z_X5_of rfl (by decide) ⟨by decide, by decide, Or.inl ⟨_, _, (List.mem_of_getElem? (l := xCls) (i := 3) rfl)⟩⟩ dX5_haulRefusal_39 q2622 q2624 qs50 q153 q2625 hy_265), (fun _ h => absurd h List.not_mem_nil)⟩)
theorem kX5_haulRefusal_42 (z : XKT) : XOi z xInf Y_X5_haulRefusal 42 (.inl (i_icmp (fun x y => y ≤ x) 50 45)) := ok_icmp_ge dX5_haulRefusal_42 rfl
theorem kX5_haulRefusal_45 (z : XKT) : XOi z xInf Y_X5_haulRefusal 45 (.inl (i_push (vI (-4)) 47)) := ok_bipush dX5_haulRefusal_45 rfl
theorem kX5_haulRefusal_47 (z : XKT) : XOi z xInf Y_X5_haulRefusal 47 (.inl (i_goto 51)) := ok_goto dX5_haulRefusal_47 rfl
theorem kX5_haulRefusal_50 (z : XKT) : XOi z xInf Y_X5_haulRefusal 50 (.inl (i_push (vI 0) 51)) := ok_iconst dX5_haulRefusal_50 rfl
theorem kX5_haulRefusal_51 (z : XKT) : XOi z xInf Y_X5_haulRefusal 51 (.inr (.inr (.inl (r_i .int)))) := show XOkR Y_X5_haulRefusal 51 ((r_i .int)) from okr_i (q := Y_X5_haulRefusal) (ty := .int) rfl rfl dX5_haulRefusal_51
theorem o_X5_haulRefusal (z : XKT) : XMi z xInf Y_X5_haulRefusal := XMi.mk9 (T := T_X5_haulRefusal z) rfl (⟨kX5_haulRefusal_0 z, ⟨kX5_haulRefusal_1 z, ⟨kX5_haulRefusal_2 z, ⟨kX5_haulRefusal_3 z, ⟨kX5_haulRefusal_6 z, ⟨kX5_haulRefusal_9 z, ⟨kX5_haulRefusal_11 z, ⟨kX5_haulRefusal_12 z, ⟨kX5_haulRefusal_13 z, ⟨kX5_haulRefusal_14 z, ⟨kX5_haulRefusal_15 z, ⟨kX5_haulRefusal_18 z, ⟨kX5_haulRefusal_19 z, ⟨kX5_haulRefusal_20 z, ⟨kX5_haulRefusal_23 z, ⟨kX5_haulRefusal_26 z, ⟨kX5_haulRefusal_28 z, ⟨kX5_haulRefusal_29 z, ⟨kX5_haulRefusal_30 z, ⟨kX5_haulRefusal_31 z, ⟨kX5_haulRefusal_33 z, ⟨kX5_haulRefusal_36 z, ⟨kX5_haulRefusal_37 z, ⟨kX5_haulRefusal_38 z, ⟨kX5_haulRefusal_39 z, ⟨kX5_haulRefusal_42 z, ⟨kX5_haulRefusal_45 z, ⟨kX5_haulRefusal_47 z, ⟨kX5_haulRefusal_50 z, ⟨kX5_haulRefusal_51 z, trivial⟩⟩⟩⟩⟩⟩⟩⟩⟩⟩⟩⟩⟩⟩⟩⟩⟩⟩⟩⟩⟩⟩⟩⟩⟩⟩⟩⟩⟩⟩) (hd_X5_haulRefusal z) rfl rfl (by decide +kernel)
theorem hd_X5_inRange (z : XKT) : XHd z Y_X5_inRange := xHd_none rfl (xhd0 rfl)
theorem kX5_inRange_0 (z : XKT) : XOi z xInf Y_X5_inRange 0 (.inl (i_iload 0 1)) := ok_iload_n dX5_inRange_0 rfl
theorem kX5_inRange_1 (z : XKT) : XOi z xInf Y_X5_inRange 1 (.inl (i_iload 1 2)) := ok_iload_n dX5_inRange_1 rfl
theorem kX5_inRange_2 (z : XKT) : XOi z xInf Y_X5_inRange 2 (.inl (i_icmp (fun x y => x < y) 14 5)) := ok_icmp_lt dX5_inRange_2 rfl
theorem kX5_inRange_5 (z : XKT) : XOi z xInf Y_X5_inRange 5 (.inl (i_iload 0 6)) := ok_iload_n dX5_inRange_5 rfl
theorem kX5_inRange_6 (z : XKT) : XOi z xInf Y_X5_inRange 6 (.inl (i_iload 2 7)) := ok_iload_n dX5_inRange_6 rfl
theorem kX5_inRange_7 (z : XKT) : XOi z xInf Y_X5_inRange 7 (.inl (i_icmp (fun x y => y < x) 14 10)) := ok_icmp_gt dX5_inRange_7 rfl
theorem kX5_inRange_10 (z : XKT) : XOi z xInf Y_X5_inRange 10 (.inl (i_push (vI 1) 11)) := ok_iconst dX5_inRange_10 rfl
theorem kX5_inRange_11 (z : XKT) : XOi z xInf Y_X5_inRange 11 (.inl (i_goto 15)) := ok_goto dX5_inRange_11 rfl
theorem kX5_inRange_14 (z : XKT) : XOi z xInf Y_X5_inRange 14 (.inl (i_push (vI 0) 15)) := ok_iconst dX5_inRange_14 rfl
theorem kX5_inRange_15 (z : XKT) : XOi z xInf Y_X5_inRange 15 (.inr (.inr (.inl (r_i .boolean)))) := show XOkR Y_X5_inRange 15 ((r_i .boolean)) from okr_i (q := Y_X5_inRange) (ty := .boolean) rfl rfl dX5_inRange_15
theorem o_X5_inRange (z : XKT) : XMi z xInf Y_X5_inRange := XMi.mk9 (T := T_X5_inRange z) rfl (⟨kX5_inRange_0 z, ⟨kX5_inRange_1 z, ⟨kX5_inRange_2 z, ⟨kX5_inRange_5 z, ⟨kX5_inRange_6 z, ⟨kX5_inRange_7 z, ⟨kX5_inRange_10 z, ⟨kX5_inRange_11 z, ⟨kX5_inRange_14 z, ⟨kX5_inRange_15 z, trivial⟩⟩⟩⟩⟩⟩⟩⟩⟩⟩) (hd_X5_inRange z) rfl rfl (by decide +kernel)
theorem hd_X5_init (z : XKT) : XHd z Y_X5_init := xHd_none rfl (xhd0 rfl)
theorem kX5_init_0 (z : XKT) : XOi z xInf Y_X5_init 0 (.inl (i_aload 0 1)) := ok_aload_n dX5_init_0 rfl
theorem kX5_init_1 (z : XKT) : XOi z xInf Y_X5_init 1 (.inl (i_oinit 4)) := ok_oinit dX5_init_1 q2477 q179 q180
theorem kX5_init_4 (z : XKT) : XOi z xInf Y_X5_init 4 (.inl (i_aload 0 5)) := ok_aload_n dX5_init_4 rfl
theorem kX5_init_5 (z : XKT) : XOi z xInf Y_X5_init 5 (.inl (i_push (vI 468) 8)) := ok_sipush dX5_init_5 rfl
theorem kX5_init_8 (z : XKT) : XOi z xInf Y_X5_init 8 (.inl (i_nai 1000 10)) := ok_nai (ty := .int) dX5_init_8 q283 rfl (List.mem_of_getElem? (l := xArs) (i := 0) rfl) (Or.inl rfl) (by decide) (by decide) (by decide)
theorem kX5_init_10 (z : XKT) : XOi z xInf Y_X5_init 10 (.inl (i_putr z.1 [4] 30 13)) := ok_putr dX5_init_10 q2507 (List.forall_mem_cons.mpr ⟨⟨_, _, _, _, tyX5, fd_30_4_0, ⟨tyX5_ok, nmX5, (Or.inr ⟨rfl, by decide, rfl⟩)⟩, (Or.inr ⟨_, rfl⟩)⟩, (fun _ h => absurd h List.not_mem_nil)⟩)
theorem kX5_init_13 (z : XKT) : XOi z xInf Y_X5_init 13 (.inl (i_aload 0 14)) := ok_aload_n dX5_init_13 rfl
theorem kX5_init_14 (z : XKT) : XOi z xInf Y_X5_init 14 (.inl (i_push (vI 468) 17)) := ok_sipush dX5_init_14 rfl
theorem kX5_init_17 (z : XKT) : XOi z xInf Y_X5_init 17 (.inl (i_nai 1000 19)) := ok_nai (ty := .int) dX5_init_17 q283 rfl (List.mem_of_getElem? (l := xArs) (i := 0) rfl) (Or.inl rfl) (by decide) (by decide) (by decide)
theorem kX5_init_19 (z : XKT) : XOi z xInf Y_X5_init 19 (.inl (i_putr z.1 [4] 31 22)) := ok_putr dX5_init_19 q2508 (List.forall_mem_cons.mpr ⟨⟨_, _, _, _, tyX5, fd_31_4_0, ⟨tyX5_ok, nmX5, (Or.inr ⟨rfl, by decide, rfl⟩)⟩, (Or.inr ⟨_, rfl⟩)⟩, (fun _ h => absurd h List.not_mem_nil)⟩)
theorem kX5_init_22 (z : XKT) : XOi z xInf Y_X5_init 22 (.inl (i_aload 0 23)) := ok_aload_n dX5_init_22 rfl
theorem kX5_init_23 (z : XKT) : XOi z xInf Y_X5_init 23 (.inl (i_push (vI 468) 26)) := ok_sipush dX5_init_23 rfl
theorem kX5_init_26 (z : XKT) : XOi z xInf Y_X5_init 26 (.inl (i_nai 1000 28)) := ok_nai (ty := .int) dX5_init_26 q283 rfl (List.mem_of_getElem? (l := xArs) (i := 0) rfl) (Or.inl rfl) (by decide) (by decide) (by decide)
theorem kX5_init_28 (z : XKT) : XOi z xInf Y_X5_init 28 (.inl (i_putr z.1 [4] 32 31)) := ok_putr dX5_init_28 q2509 (List.forall_mem_cons.mpr ⟨⟨_, _, _, _, tyX5, fd_32_4_0, ⟨tyX5_ok, nmX5, (Or.inr ⟨rfl, by decide, rfl⟩)⟩, (Or.inr ⟨_, rfl⟩)⟩, (fun _ h => absurd h List.not_mem_nil)⟩)
theorem kX5_init_31 (z : XKT) : XOi z xInf Y_X5_init 31 (.inl (i_aload 0 32)) := ok_aload_n dX5_init_31 rfl
theorem kX5_init_32 (z : XKT) : XOi z xInf Y_X5_init 32 (.inl (i_push (vI 468) 35)) := ok_sipush dX5_init_32 rfl
theorem kX5_init_35 (z : XKT) : XOi z xInf Y_X5_init 35 (.inl (i_nai 1000 37)) := ok_nai (ty := .int) dX5_init_35 q283 rfl (List.mem_of_getElem? (l := xArs) (i := 0) rfl) (Or.inl rfl) (by decide) (by decide) (by decide)
theorem kX5_init_37 (z : XKT) : XOi z xInf Y_X5_init 37 (.inl (i_putr z.1 [4] 33 40)) := ok_putr dX5_init_37 q2510 (List.forall_mem_cons.mpr ⟨⟨_, _, _, _, tyX5, fd_33_4_0, ⟨tyX5_ok, nmX5, (Or.inr ⟨rfl, by decide, rfl⟩)⟩, (Or.inr ⟨_, rfl⟩)⟩, (fun _ h => absurd h List.not_mem_nil)⟩)
theorem kX5_init_40 (z : XKT) : XOi z xInf Y_X5_init 40 (.inl (i_aload 0 41)) := ok_aload_n dX5_init_40 rfl
theorem kX5_init_41 (z : XKT) : XOi z xInf Y_X5_init 41 (.inl (i_push (vI 3744) 44)) := ok_sipush dX5_init_41 rfl
theorem kX5_init_44 (z : XKT) : XOi z xInf Y_X5_init 44 (.inl (i_nai 1000 46)) := ok_nai (ty := .int) dX5_init_44 q283 rfl (List.mem_of_getElem? (l := xArs) (i := 0) rfl) (Or.inl rfl) (by decide) (by decide) (by decide)
theorem kX5_init_46 (z : XKT) : XOi z xInf Y_X5_init 46 (.inl (i_putr z.1 [4] 34 49)) := ok_putr dX5_init_46 q2511 (List.forall_mem_cons.mpr ⟨⟨_, _, _, _, tyX5, fd_34_4_0, ⟨tyX5_ok, nmX5, (Or.inr ⟨rfl, by decide, rfl⟩)⟩, (Or.inr ⟨_, rfl⟩)⟩, (fun _ h => absurd h List.not_mem_nil)⟩)
theorem kX5_init_49 (z : XKT) : XOi z xInf Y_X5_init 49 (.inl (i_aload 0 50)) := ok_aload_n dX5_init_49 rfl
theorem kX5_init_50 (z : XKT) : XOi z xInf Y_X5_init 50 (.inl (i_push (vI 3) 51)) := ok_iconst dX5_init_50 rfl
theorem kX5_init_51 (z : XKT) : XOi z xInf Y_X5_init 51 (.inl (i_nai 1000 53)) := ok_nai (ty := .int) dX5_init_51 q283 rfl (List.mem_of_getElem? (l := xArs) (i := 0) rfl) (Or.inl rfl) (by decide) (by decide) (by decide)
theorem kX5_init_53 (z : XKT) : XOi z xInf Y_X5_init 53 (.inl (i_putr z.1 [4] 35 56)) := ok_putr dX5_init_53 q2512 (List.forall_mem_cons.mpr ⟨⟨_, _, _, _, tyX5, fd_35_4_0, ⟨tyX5_ok, nmX5, (Or.inr ⟨rfl, by decide, rfl⟩)⟩, (Or.inr ⟨_, rfl⟩)⟩, (fun _ h => absurd h List.not_mem_nil)⟩)
theorem kX5_init_56 (z : XKT) : XOi z xInf Y_X5_init 56 (.inl (i_aload 0 57)) := ok_aload_n dX5_init_56 rfl
theorem kX5_init_57 (z : XKT) : XOi z xInf Y_X5_init 57 (.inl (i_push (vI 4) 58)) := ok_iconst dX5_init_57 rfl
theorem kX5_init_58 (z : XKT) : XOi z xInf Y_X5_init 58 (.inl (i_nai 1000 60)) := ok_nai (ty := .int) dX5_init_58 q283 rfl (List.mem_of_getElem? (l := xArs) (i := 0) rfl) (Or.inl rfl) (by decide) (by decide) (by decide)
theorem kX5_init_60 (z : XKT) : XOi z xInf Y_X5_init 60 (.inl (i_dup 61)) := ok_dup dX5_init_60
theorem kX5_init_61 (z : XKT) : XOi z xInf Y_X5_init 61 (.inl (i_push (vI 0) 62)) := ok_iconst dX5_init_61 rfl
theorem kX5_init_62 (z : XKT) : XOi z xInf Y_X5_init 62 (.inl (i_push (vI 30) 64)) := ok_bipush dX5_init_62 rfl
theorem kX5_init_64 (z : XKT) : XOi z xInf Y_X5_init 64 (.inl (i_ast z.1 1000 (fun x => x) 65)) := ok_iast dX5_init_64
theorem kX5_init_65 (z : XKT) : XOi z xInf Y_X5_init 65 (.inl (i_dup 66)) := ok_dup dX5_init_65
theorem kX5_init_66 (z : XKT) : XOi z xInf Y_X5_init 66 (.inl (i_push (vI 1) 67)) := ok_iconst dX5_init_66 rfl
theorem kX5_init_67 (z : XKT) : XOi z xInf Y_X5_init 67 (.inl (i_push (vI 25) 69)) := ok_bipush dX5_init_67 rfl
theorem kX5_init_69 (z : XKT) : XOi z xInf Y_X5_init 69 (.inl (i_ast z.1 1000 (fun x => x) 70)) := ok_iast dX5_init_69
theorem kX5_init_70 (z : XKT) : XOi z xInf Y_X5_init 70 (.inl (i_dup 71)) := ok_dup dX5_init_70
theorem kX5_init_71 (z : XKT) : XOi z xInf Y_X5_init 71 (.inl (i_push (vI 2) 72)) := ok_iconst dX5_init_71 rfl
theorem kX5_init_72 (z : XKT) : XOi z xInf Y_X5_init 72 (.inl (i_push (vI 40) 74)) := ok_bipush dX5_init_72 rfl
theorem kX5_init_74 (z : XKT) : XOi z xInf Y_X5_init 74 (.inl (i_ast z.1 1000 (fun x => x) 75)) := ok_iast dX5_init_74
theorem kX5_init_75 (z : XKT) : XOi z xInf Y_X5_init 75 (.inl (i_dup 76)) := ok_dup dX5_init_75
theorem kX5_init_76 (z : XKT) : XOi z xInf Y_X5_init 76 (.inl (i_push (vI 3) 77)) := ok_iconst dX5_init_76 rfl
theorem kX5_init_77 (z : XKT) : XOi z xInf Y_X5_init 77 (.inl (i_push (vI 50) 79)) := ok_bipush dX5_init_77 rfl
theorem kX5_init_79 (z : XKT) : XOi z xInf Y_X5_init 79 (.inl (i_ast z.1 1000 (fun x => x) 80)) := ok_iast dX5_init_79
theorem kX5_init_80 (z : XKT) : XOi z xInf Y_X5_init 80 (.inl (i_putr z.1 [4] 36 83)) := ok_putr dX5_init_80 q2513 (List.forall_mem_cons.mpr ⟨⟨_, _, _, _, tyX5, fd_36_4_0, ⟨tyX5_ok, nmX5, (Or.inr ⟨rfl, by decide, rfl⟩)⟩, (Or.inr ⟨_, rfl⟩)⟩, (fun _ h => absurd h List.not_mem_nil)⟩)
theorem kX5_init_83 (z : XKT) : XOi z xInf Y_X5_init 83 (.inl (i_aload 0 84)) := ok_aload_n dX5_init_83 rfl
theorem kX5_init_84 (z : XKT) : XOi z xInf Y_X5_init 84 (.inl (i_push (vI 4) 85)) := ok_iconst dX5_init_84 rfl
theorem kX5_init_85 (z : XKT) : XOi z xInf Y_X5_init 85 (.inl (i_nai 1000 87)) := ok_nai (ty := .int) dX5_init_85 q283 rfl (List.mem_of_getElem? (l := xArs) (i := 0) rfl) (Or.inl rfl) (by decide) (by decide) (by decide)
theorem kX5_init_87 (z : XKT) : XOi z xInf Y_X5_init 87 (.inl (i_dup 88)) := ok_dup dX5_init_87
theorem kX5_init_88 (z : XKT) : XOi z xInf Y_X5_init 88 (.inl (i_push (vI 0) 89)) := ok_iconst dX5_init_88 rfl
theorem kX5_init_89 (z : XKT) : XOi z xInf Y_X5_init 89 (.inl (i_push (vI 99) 91)) := ok_bipush dX5_init_89 rfl
theorem kX5_init_91 (z : XKT) : XOi z xInf Y_X5_init 91 (.inl (i_ast z.1 1000 (fun x => x) 92)) := ok_iast dX5_init_91
theorem kX5_init_92 (z : XKT) : XOi z xInf Y_X5_init 92 (.inl (i_dup 93)) := ok_dup dX5_init_92
theorem kX5_init_93 (z : XKT) : XOi z xInf Y_X5_init 93 (.inl (i_push (vI 1) 94)) := ok_iconst dX5_init_93 rfl
theorem kX5_init_94 (z : XKT) : XOi z xInf Y_X5_init 94 (.inl (i_push (vI 98) 96)) := ok_bipush dX5_init_94 rfl
theorem kX5_init_96 (z : XKT) : XOi z xInf Y_X5_init 96 (.inl (i_ast z.1 1000 (fun x => x) 97)) := ok_iast dX5_init_96
theorem kX5_init_97 (z : XKT) : XOi z xInf Y_X5_init 97 (.inl (i_dup 98)) := ok_dup dX5_init_97
theorem kX5_init_98 (z : XKT) : XOi z xInf Y_X5_init 98 (.inl (i_push (vI 2) 99)) := ok_iconst dX5_init_98 rfl
theorem kX5_init_99 (z : XKT) : XOi z xInf Y_X5_init 99 (.inl (i_push (vI 115) 101)) := ok_bipush dX5_init_99 rfl
theorem kX5_init_101 (z : XKT) : XOi z xInf Y_X5_init 101 (.inl (i_ast z.1 1000 (fun x => x) 102)) := ok_iast dX5_init_101
theorem kX5_init_102 (z : XKT) : XOi z xInf Y_X5_init 102 (.inl (i_dup 103)) := ok_dup dX5_init_102
theorem kX5_init_103 (z : XKT) : XOi z xInf Y_X5_init 103 (.inl (i_push (vI 3) 104)) := ok_iconst dX5_init_103 rfl
theorem kX5_init_104 (z : XKT) : XOi z xInf Y_X5_init 104 (.inl (i_push (vI 99) 106)) := ok_bipush dX5_init_104 rfl
theorem kX5_init_106 (z : XKT) : XOi z xInf Y_X5_init 106 (.inl (i_ast z.1 1000 (fun x => x) 107)) := ok_iast dX5_init_106
theorem kX5_init_107 (z : XKT) : XOi z xInf Y_X5_init 107 (.inl (i_putr z.1 [4] 37 110)) := ok_putr dX5_init_107 q2514 (List.forall_mem_cons.mpr ⟨⟨_, _, _, _, tyX5, fd_37_4_0, ⟨tyX5_ok, nmX5, (Or.inr ⟨rfl, by decide, rfl⟩)⟩, (Or.inr ⟨_, rfl⟩)⟩, (fun _ h => absurd h List.not_mem_nil)⟩)
theorem kX5_init_110 (z : XKT) : XOi z xInf Y_X5_init 110 (.inl (i_aload 0 111)) := ok_aload_n dX5_init_110 rfl
theorem kX5_init_111 (z : XKT) : XOi z xInf Y_X5_init 111 (.inl (i_push (vI 4) 112)) := ok_iconst dX5_init_111 rfl
theorem kX5_init_112 (z : XKT) : XOi z xInf Y_X5_init 112 (.inl (i_nai 1000 114)) := ok_nai (ty := .int) dX5_init_112 q283 rfl (List.mem_of_getElem? (l := xArs) (i := 0) rfl) (Or.inl rfl) (by decide) (by decide) (by decide)
theorem kX5_init_114 (z : XKT) : XOi z xInf Y_X5_init 114 (.inl (i_dup 115)) := ok_dup dX5_init_114
theorem kX5_init_115 (z : XKT) : XOi z xInf Y_X5_init 115 (.inl (i_push (vI 0) 116)) := ok_iconst dX5_init_115 rfl
theorem kX5_init_116 (z : XKT) : XOi z xInf Y_X5_init 116 (.inl (i_push (vI 45) 118)) := ok_bipush dX5_init_116 rfl
theorem kX5_init_118 (z : XKT) : XOi z xInf Y_X5_init 118 (.inl (i_ast z.1 1000 (fun x => x) 119)) := ok_iast dX5_init_118
theorem kX5_init_119 (z : XKT) : XOi z xInf Y_X5_init 119 (.inl (i_dup 120)) := ok_dup dX5_init_119
theorem kX5_init_120 (z : XKT) : XOi z xInf Y_X5_init 120 (.inl (i_push (vI 1) 121)) := ok_iconst dX5_init_120 rfl
theorem kX5_init_121 (z : XKT) : XOi z xInf Y_X5_init 121 (.inl (i_push (vI 43) 123)) := ok_bipush dX5_init_121 rfl
theorem kX5_init_123 (z : XKT) : XOi z xInf Y_X5_init 123 (.inl (i_ast z.1 1000 (fun x => x) 124)) := ok_iast dX5_init_123
theorem kX5_init_124 (z : XKT) : XOi z xInf Y_X5_init 124 (.inl (i_dup 125)) := ok_dup dX5_init_124
theorem kX5_init_125 (z : XKT) : XOi z xInf Y_X5_init 125 (.inl (i_push (vI 2) 126)) := ok_iconst dX5_init_125 rfl
theorem kX5_init_126 (z : XKT) : XOi z xInf Y_X5_init 126 (.inl (i_push (vI 61) 128)) := ok_bipush dX5_init_126 rfl
theorem kX5_init_128 (z : XKT) : XOi z xInf Y_X5_init 128 (.inl (i_ast z.1 1000 (fun x => x) 129)) := ok_iast dX5_init_128
theorem kX5_init_129 (z : XKT) : XOi z xInf Y_X5_init 129 (.inl (i_dup 130)) := ok_dup dX5_init_129
theorem kX5_init_130 (z : XKT) : XOi z xInf Y_X5_init 130 (.inl (i_push (vI 3) 131)) := ok_iconst dX5_init_130 rfl
theorem kX5_init_131 (z : XKT) : XOi z xInf Y_X5_init 131 (.inl (i_push (vI 126) 133)) := ok_bipush dX5_init_131 rfl
theorem kX5_init_133 (z : XKT) : XOi z xInf Y_X5_init 133 (.inl (i_ast z.1 1000 (fun x => x) 134)) := ok_iast dX5_init_133
theorem kX5_init_134 (z : XKT) : XOi z xInf Y_X5_init 134 (.inl (i_putr z.1 [4] 38 137)) := ok_putr dX5_init_134 q2515 (List.forall_mem_cons.mpr ⟨⟨_, _, _, _, tyX5, fd_38_4_0, ⟨tyX5_ok, nmX5, (Or.inr ⟨rfl, by decide, rfl⟩)⟩, (Or.inr ⟨_, rfl⟩)⟩, (fun _ h => absurd h List.not_mem_nil)⟩)
theorem kX5_init_137 (z : XKT) : XOi z xInf Y_X5_init 137 (.inl (i_aload 0 138)) := ok_aload_n dX5_init_137 rfl
theorem kX5_init_138 (z : XKT) : XOi z xInf Y_X5_init 138 (.inl (i_push (vI 4) 139)) := ok_iconst dX5_init_138 rfl
theorem kX5_init_139 (z : XKT) : XOi z xInf Y_X5_init 139 (.inl (i_nar 1006 142)) := ok_nar dX5_init_139 q2478 q2479 (List.mem_of_getElem? (l := xArs) (i := 6) rfl) (by decide)
theorem kX5_init_142 (z : XKT) : XOi z xInf Y_X5_init 142 (.inl (i_dup 143)) := ok_dup dX5_init_142
theorem kX5_init_143 (z : XKT) : XOi z xInf Y_X5_init 143 (.inl (i_push (vI 0) 144)) := ok_iconst dX5_init_143 rfl
theorem kX5_init_144 (z : XKT) : XOi z xInf Y_X5_init 144 (.inl (i_push (vR (some (z.2.1 38))) 146)) := ok_ldcs dX5_init_144 (List.mem_of_getElem? (l := xStr) (i := 17) rfl)
theorem kX5_init_146 (z : XKT) : XOi z xInf Y_X5_init 146 (.inl (i_arst z.1 1006 [20] 147)) := ok_arst (E := "java/lang/String") dX5_init_146 (List.forall_mem_cons.mpr ⟨⟨by decide, by decide, (List.mem_of_getElem? (l := xArs) (i := 6) rfl), _, _, _, (List.mem_of_getElem? (l := xCls) (i := 19) rfl), (Or.inl rfl)⟩, (fun _ h => absurd h List.not_mem_nil)⟩) (List.mem_of_getElem? (l := xArs) (i := 6) rfl) (by decide)
theorem kX5_init_147 (z : XKT) : XOi z xInf Y_X5_init 147 (.inl (i_dup 148)) := ok_dup dX5_init_147
theorem kX5_init_148 (z : XKT) : XOi z xInf Y_X5_init 148 (.inl (i_push (vI 1) 149)) := ok_iconst dX5_init_148 rfl
theorem kX5_init_149 (z : XKT) : XOi z xInf Y_X5_init 149 (.inl (i_push (vR (some (z.2.1 39))) 151)) := ok_ldcs dX5_init_149 (List.mem_of_getElem? (l := xStr) (i := 18) rfl)
theorem kX5_init_151 (z : XKT) : XOi z xInf Y_X5_init 151 (.inl (i_arst z.1 1006 [20] 152)) := ok_arst (E := "java/lang/String") dX5_init_151 (List.forall_mem_cons.mpr ⟨⟨by decide, by decide, (List.mem_of_getElem? (l := xArs) (i := 6) rfl), _, _, _, (List.mem_of_getElem? (l := xCls) (i := 19) rfl), (Or.inl rfl)⟩, (fun _ h => absurd h List.not_mem_nil)⟩) (List.mem_of_getElem? (l := xArs) (i := 6) rfl) (by decide)
theorem kX5_init_152 (z : XKT) : XOi z xInf Y_X5_init 152 (.inl (i_dup 153)) := ok_dup dX5_init_152
theorem kX5_init_153 (z : XKT) : XOi z xInf Y_X5_init 153 (.inl (i_push (vI 2) 154)) := ok_iconst dX5_init_153 rfl
theorem kX5_init_154 (z : XKT) : XOi z xInf Y_X5_init 154 (.inl (i_push (vR (some (z.2.1 40))) 156)) := ok_ldcs dX5_init_154 (List.mem_of_getElem? (l := xStr) (i := 19) rfl)
theorem kX5_init_156 (z : XKT) : XOi z xInf Y_X5_init 156 (.inl (i_arst z.1 1006 [20] 157)) := ok_arst (E := "java/lang/String") dX5_init_156 (List.forall_mem_cons.mpr ⟨⟨by decide, by decide, (List.mem_of_getElem? (l := xArs) (i := 6) rfl), _, _, _, (List.mem_of_getElem? (l := xCls) (i := 19) rfl), (Or.inl rfl)⟩, (fun _ h => absurd h List.not_mem_nil)⟩) (List.mem_of_getElem? (l := xArs) (i := 6) rfl) (by decide)
theorem kX5_init_157 (z : XKT) : XOi z xInf Y_X5_init 157 (.inl (i_dup 158)) := ok_dup dX5_init_157
theorem kX5_init_158 (z : XKT) : XOi z xInf Y_X5_init 158 (.inl (i_push (vI 3) 159)) := ok_iconst dX5_init_158 rfl
theorem kX5_init_159 (z : XKT) : XOi z xInf Y_X5_init 159 (.inl (i_push (vR (some (z.2.1 41))) 161)) := ok_ldcs dX5_init_159 (List.mem_of_getElem? (l := xStr) (i := 20) rfl)
theorem kX5_init_161 (z : XKT) : XOi z xInf Y_X5_init 161 (.inl (i_arst z.1 1006 [20] 162)) := ok_arst (E := "java/lang/String") dX5_init_161 (List.forall_mem_cons.mpr ⟨⟨by decide, by decide, (List.mem_of_getElem? (l := xArs) (i := 6) rfl), _, _, _, (List.mem_of_getElem? (l := xCls) (i := 19) rfl), (Or.inl rfl)⟩, (fun _ h => absurd h List.not_mem_nil)⟩) (List.mem_of_getElem? (l := xArs) (i := 6) rfl) (by decide)
theorem kX5_init_162 (z : XKT) : XOi z xInf Y_X5_init 162 (.inl (i_putr z.1 [4] 39 165)) := ok_putr dX5_init_162 q2516 (List.forall_mem_cons.mpr ⟨⟨_, _, _, _, tyX5, fd_39_4_0, ⟨tyX5_ok, nmX5, (Or.inr ⟨rfl, by decide, rfl⟩)⟩, (Or.inr ⟨_, rfl⟩)⟩, (fun _ h => absurd h List.not_mem_nil)⟩)
theorem kX5_init_165 (z : XKT) : XOi z xInf Y_X5_init 165 (.inl (i_aload 0 166)) := ok_aload_n dX5_init_165 rfl
theorem kX5_init_166 (z : XKT) : XOi z xInf Y_X5_init 166 (.inl (i_aload 0 167)) := ok_aload_n dX5_init_166 rfl
theorem kX5_init_167 (z : XKT) : XOi z xInf Y_X5_init 167 (.inl (i_getr [4] 30 170)) := ok_getr dX5_init_167 q2507 (List.forall_mem_cons.mpr ⟨⟨_, _, _, _, fd_30_4_0⟩, (fun _ h => absurd h List.not_mem_nil)⟩)
theorem kX5_init_170 (z : XKT) : XOi z xInf Y_X5_init 170 (.inl (i_putr z.1 [4] 40 173)) := ok_putr dX5_init_170 q2517 (List.forall_mem_cons.mpr ⟨⟨_, _, _, _, tyX5, fd_40_4_0, ⟨tyX5_ok, nmX5, (Or.inl rfl)⟩, (Or.inr ⟨_, rfl⟩)⟩, (fun _ h => absurd h List.not_mem_nil)⟩)
theorem kX5_init_173 (z : XKT) : XOi z xInf Y_X5_init 173 (.inl (i_aload 0 174)) := ok_aload_n dX5_init_173 rfl
theorem kX5_init_174 (z : XKT) : XOi z xInf Y_X5_init 174 (.inl (i_push (vI 40) 176)) := ok_bipush dX5_init_174 rfl
theorem kX5_init_176 (z : XKT) : XOi z xInf Y_X5_init 176 (.inl (i_nai 1000 178)) := ok_nai (ty := .int) dX5_init_176 q283 rfl (List.mem_of_getElem? (l := xArs) (i := 0) rfl) (Or.inl rfl) (by decide) (by decide) (by decide)
theorem kX5_init_178 (z : XKT) : XOi z xInf Y_X5_init 178 (.inl (i_putr z.1 [4] 44 181)) := ok_putr dX5_init_178 q2521 (List.forall_mem_cons.mpr ⟨⟨_, _, _, _, tyX5, fd_44_4_0, ⟨tyX5_ok, nmX5, (Or.inr ⟨rfl, by decide, rfl⟩)⟩, (Or.inr ⟨_, rfl⟩)⟩, (fun _ h => absurd h List.not_mem_nil)⟩)
theorem kX5_init_181 (z : XKT) : XOi z xInf Y_X5_init 181 (.inl (i_aload 0 182)) := ok_aload_n dX5_init_181 rfl
theorem kX5_init_182 (z : XKT) : XOi z xInf Y_X5_init 182 (.inl (i_push (vI 700) 185)) := ok_sipush dX5_init_182 rfl
theorem kX5_init_185 (z : XKT) : XOi z xInf Y_X5_init 185 (.inl (i_nai 1000 187)) := ok_nai (ty := .int) dX5_init_185 q283 rfl (List.mem_of_getElem? (l := xArs) (i := 0) rfl) (Or.inl rfl) (by decide) (by decide) (by decide)
theorem kX5_init_187 (z : XKT) : XOi z xInf Y_X5_init 187 (.inl (i_putr z.1 [4] 46 190)) := ok_putr dX5_init_187 q2523 (List.forall_mem_cons.mpr ⟨⟨_, _, _, _, tyX5, fd_46_4_0, ⟨tyX5_ok, nmX5, (Or.inr ⟨rfl, by decide, rfl⟩)⟩, (Or.inr ⟨_, rfl⟩)⟩, (fun _ h => absurd h List.not_mem_nil)⟩)
theorem kX5_init_190 (z : XKT) : XOi z xInf Y_X5_init 190 (.inl (i_aload 0 191)) := ok_aload_n dX5_init_190 rfl
theorem kX5_init_191 (z : XKT) : XOi z xInf Y_X5_init 191 (.inl (i_push (vI (-1)) 192)) := ok_iconst dX5_init_191 rfl
theorem kX5_init_192 (z : XKT) : XOi z xInf Y_X5_init 192 (.inl (i_puti z.1 [4] .int 54 195)) := ok_puti dX5_init_192 q2531 rfl (List.forall_mem_cons.mpr ⟨⟨_, _, _, _, tyX5, fd_54_4_0, ⟨tyX5_ok, nmX5, (Or.inl rfl)⟩, rfl⟩, (fun _ h => absurd h List.not_mem_nil)⟩)
theorem kX5_init_195 (z : XKT) : XOi z xInf Y_X5_init 195 (.inl (i_aload 0 196)) := ok_aload_n dX5_init_195 rfl
theorem kX5_init_196 (z : XKT) : XOi z xInf Y_X5_init 196 (.inl (i_push (vI 80) 198)) := ok_bipush dX5_init_196 rfl
theorem kX5_init_198 (z : XKT) : XOi z xInf Y_X5_init 198 (.inl (i_nai 1000 200)) := ok_nai (ty := .int) dX5_init_198 q283 rfl (List.mem_of_getElem? (l := xArs) (i := 0) rfl) (Or.inl rfl) (by decide) (by decide) (by decide)
theorem kX5_init_200 (z : XKT) : XOi z xInf Y_X5_init 200 (.inl (i_putr z.1 [4] 56 203)) := ok_putr dX5_init_200 q2533 (List.forall_mem_cons.mpr ⟨⟨_, _, _, _, tyX5, fd_56_4_0, ⟨tyX5_ok, nmX5, (Or.inr ⟨rfl, by decide, rfl⟩)⟩, (Or.inr ⟨_, rfl⟩)⟩, (fun _ h => absurd h List.not_mem_nil)⟩)
theorem kX5_init_203 (z : XKT) : XOi z xInf Y_X5_init 203 (.inl (i_aload 0 204)) := ok_aload_n dX5_init_203 rfl
theorem kX5_init_204 (z : XKT) : XOi z xInf Y_X5_init 204 (.inl (i_push (vI 7) 206)) := ok_bipush dX5_init_204 rfl
theorem kX5_init_206 (z : XKT) : XOi z xInf Y_X5_init 206 (.inl (i_nar 1006 209)) := ok_nar dX5_init_206 q2478 q2479 (List.mem_of_getElem? (l := xArs) (i := 6) rfl) (by decide)
theorem kX5_init_209 (z : XKT) : XOi z xInf Y_X5_init 209 (.inl (i_dup 210)) := ok_dup dX5_init_209
theorem kX5_init_210 (z : XKT) : XOi z xInf Y_X5_init 210 (.inl (i_push (vI 0) 211)) := ok_iconst dX5_init_210 rfl
theorem kX5_init_211 (z : XKT) : XOi z xInf Y_X5_init 211 (.inl (i_push (vR (some (z.2.1 23))) 213)) := ok_ldcs dX5_init_211 (List.mem_of_getElem? (l := xStr) (i := 21) rfl)
theorem kX5_init_213 (z : XKT) : XOi z xInf Y_X5_init 213 (.inl (i_arst z.1 1006 [20] 214)) := ok_arst (E := "java/lang/String") dX5_init_213 (List.forall_mem_cons.mpr ⟨⟨by decide, by decide, (List.mem_of_getElem? (l := xArs) (i := 6) rfl), _, _, _, (List.mem_of_getElem? (l := xCls) (i := 19) rfl), (Or.inl rfl)⟩, (fun _ h => absurd h List.not_mem_nil)⟩) (List.mem_of_getElem? (l := xArs) (i := 6) rfl) (by decide)
theorem kX5_init_214 (z : XKT) : XOi z xInf Y_X5_init 214 (.inl (i_dup 215)) := ok_dup dX5_init_214
theorem kX5_init_215 (z : XKT) : XOi z xInf Y_X5_init 215 (.inl (i_push (vI 1) 216)) := ok_iconst dX5_init_215 rfl
theorem kX5_init_216 (z : XKT) : XOi z xInf Y_X5_init 216 (.inl (i_push (vR (some (z.2.1 24))) 218)) := ok_ldcs dX5_init_216 (List.mem_of_getElem? (l := xStr) (i := 22) rfl)
theorem kX5_init_218 (z : XKT) : XOi z xInf Y_X5_init 218 (.inl (i_arst z.1 1006 [20] 219)) := ok_arst (E := "java/lang/String") dX5_init_218 (List.forall_mem_cons.mpr ⟨⟨by decide, by decide, (List.mem_of_getElem? (l := xArs) (i := 6) rfl), _, _, _, (List.mem_of_getElem? (l := xCls) (i := 19) rfl), (Or.inl rfl)⟩, (fun _ h => absurd h List.not_mem_nil)⟩) (List.mem_of_getElem? (l := xArs) (i := 6) rfl) (by decide)
theorem kX5_init_219 (z : XKT) : XOi z xInf Y_X5_init 219 (.inl (i_dup 220)) := ok_dup dX5_init_219
theorem kX5_init_220 (z : XKT) : XOi z xInf Y_X5_init 220 (.inl (i_push (vI 2) 221)) := ok_iconst dX5_init_220 rfl
theorem kX5_init_221 (z : XKT) : XOi z xInf Y_X5_init 221 (.inl (i_push (vR (some (z.2.1 25))) 223)) := ok_ldcs dX5_init_221 (List.mem_of_getElem? (l := xStr) (i := 23) rfl)
theorem kX5_init_223 (z : XKT) : XOi z xInf Y_X5_init 223 (.inl (i_arst z.1 1006 [20] 224)) := ok_arst (E := "java/lang/String") dX5_init_223 (List.forall_mem_cons.mpr ⟨⟨by decide, by decide, (List.mem_of_getElem? (l := xArs) (i := 6) rfl), _, _, _, (List.mem_of_getElem? (l := xCls) (i := 19) rfl), (Or.inl rfl)⟩, (fun _ h => absurd h List.not_mem_nil)⟩) (List.mem_of_getElem? (l := xArs) (i := 6) rfl) (by decide)
theorem kX5_init_224 (z : XKT) : XOi z xInf Y_X5_init 224 (.inl (i_dup 225)) := ok_dup dX5_init_224
theorem kX5_init_225 (z : XKT) : XOi z xInf Y_X5_init 225 (.inl (i_push (vI 3) 226)) := ok_iconst dX5_init_225 rfl
theorem kX5_init_226 (z : XKT) : XOi z xInf Y_X5_init 226 (.inl (i_push (vR (some (z.2.1 27))) 228)) := ok_ldcs dX5_init_226 (List.mem_of_getElem? (l := xStr) (i := 24) rfl)
theorem kX5_init_228 (z : XKT) : XOi z xInf Y_X5_init 228 (.inl (i_arst z.1 1006 [20] 229)) := ok_arst (E := "java/lang/String") dX5_init_228 (List.forall_mem_cons.mpr ⟨⟨by decide, by decide, (List.mem_of_getElem? (l := xArs) (i := 6) rfl), _, _, _, (List.mem_of_getElem? (l := xCls) (i := 19) rfl), (Or.inl rfl)⟩, (fun _ h => absurd h List.not_mem_nil)⟩) (List.mem_of_getElem? (l := xArs) (i := 6) rfl) (by decide)
theorem kX5_init_229 (z : XKT) : XOi z xInf Y_X5_init 229 (.inl (i_dup 230)) := ok_dup dX5_init_229
theorem kX5_init_230 (z : XKT) : XOi z xInf Y_X5_init 230 (.inl (i_push (vI 4) 231)) := ok_iconst dX5_init_230 rfl
theorem kX5_init_231 (z : XKT) : XOi z xInf Y_X5_init 231 (.inl (i_push (vR (some (z.2.1 28))) 233)) := ok_ldcs dX5_init_231 (List.mem_of_getElem? (l := xStr) (i := 25) rfl)
theorem kX5_init_233 (z : XKT) : XOi z xInf Y_X5_init 233 (.inl (i_arst z.1 1006 [20] 234)) := ok_arst (E := "java/lang/String") dX5_init_233 (List.forall_mem_cons.mpr ⟨⟨by decide, by decide, (List.mem_of_getElem? (l := xArs) (i := 6) rfl), _, _, _, (List.mem_of_getElem? (l := xCls) (i := 19) rfl), (Or.inl rfl)⟩, (fun _ h => absurd h List.not_mem_nil)⟩) (List.mem_of_getElem? (l := xArs) (i := 6) rfl) (by decide)
theorem kX5_init_234 (z : XKT) : XOi z xInf Y_X5_init 234 (.inl (i_dup 235)) := ok_dup dX5_init_234
theorem kX5_init_235 (z : XKT) : XOi z xInf Y_X5_init 235 (.inl (i_push (vI 5) 236)) := ok_iconst dX5_init_235 rfl
theorem kX5_init_236 (z : XKT) : XOi z xInf Y_X5_init 236 (.inl (i_push (vR (some (z.2.1 30))) 238)) := ok_ldcs dX5_init_236 (List.mem_of_getElem? (l := xStr) (i := 26) rfl)
theorem kX5_init_238 (z : XKT) : XOi z xInf Y_X5_init 238 (.inl (i_arst z.1 1006 [20] 239)) := ok_arst (E := "java/lang/String") dX5_init_238 (List.forall_mem_cons.mpr ⟨⟨by decide, by decide, (List.mem_of_getElem? (l := xArs) (i := 6) rfl), _, _, _, (List.mem_of_getElem? (l := xCls) (i := 19) rfl), (Or.inl rfl)⟩, (fun _ h => absurd h List.not_mem_nil)⟩) (List.mem_of_getElem? (l := xArs) (i := 6) rfl) (by decide)
theorem kX5_init_239 (z : XKT) : XOi z xInf Y_X5_init 239 (.inl (i_dup 240)) := ok_dup dX5_init_239
theorem kX5_init_240 (z : XKT) : XOi z xInf Y_X5_init 240 (.inl (i_push (vI 6) 242)) := ok_bipush dX5_init_240 rfl
theorem kX5_init_242 (z : XKT) : XOi z xInf Y_X5_init 242 (.inl (i_push (vR (some (z.2.1 26))) 244)) := ok_ldcs dX5_init_242 (List.mem_of_getElem? (l := xStr) (i := 27) rfl)
theorem kX5_init_244 (z : XKT) : XOi z xInf Y_X5_init 244 (.inl (i_arst z.1 1006 [20] 245)) := ok_arst (E := "java/lang/String") dX5_init_244 (List.forall_mem_cons.mpr ⟨⟨by decide, by decide, (List.mem_of_getElem? (l := xArs) (i := 6) rfl), _, _, _, (List.mem_of_getElem? (l := xCls) (i := 19) rfl), (Or.inl rfl)⟩, (fun _ h => absurd h List.not_mem_nil)⟩) (List.mem_of_getElem? (l := xArs) (i := 6) rfl) (by decide)
theorem kX5_init_245 (z : XKT) : XOi z xInf Y_X5_init 245 (.inl (i_putr z.1 [4] 57 248)) := ok_putr dX5_init_245 q2534 (List.forall_mem_cons.mpr ⟨⟨_, _, _, _, tyX5, fd_57_4_0, ⟨tyX5_ok, nmX5, (Or.inr ⟨rfl, by decide, rfl⟩)⟩, (Or.inr ⟨_, rfl⟩)⟩, (fun _ h => absurd h List.not_mem_nil)⟩)
theorem kX5_init_248 (z : XKT) : XOi z xInf Y_X5_init 248 (.inl (i_aload 0 249)) := ok_aload_n dX5_init_248 rfl
theorem kX5_init_249 (z : XKT) : XOi z xInf Y_X5_init 249 (.inl (i_push (vI 8) 251)) := ok_bipush dX5_init_249 rfl
theorem kX5_init_251 (z : XKT) : XOi z xInf Y_X5_init 251 (.inl (i_push (vI 6) 253)) := ok_bipush dX5_init_251 rfl
theorem kX5_init_253 (z : XKT) : XOi z xInf Y_X5_init 253 (.inl (i_push (vI 3) 254)) := ok_iconst dX5_init_253 rfl
theorem kX5_init_254 (z : XKT) : XOi z xInf Y_X5_init 254 (.inl (i_push (vI 3) 255)) := ok_iconst dX5_init_254 rfl
theorem kX5_init_255 (z : XKT) : XOi z xInf Y_X5_init 255 (.inr (.inl (258, g_virt [(4, 173)] 4))) := show XOkC z xInf Y_X5_init 255 258 (g_virt [(4, 173)] 4) from okc_V (q := Y_X5_init) (List.forall_mem_cons.mpr ⟨(show XOkV z xInf Y_X5_init 255 258 4 (4, 173) from okv_V (q := Y_X5_init) (q1 := Y_X5_begin) Z_X5_begin rfl (by decide) ⟨by decide, by decide, Or.inl ⟨_, _, (List.mem_of_getElem? (l := xCls) (i := 3) rfl)⟩⟩ dX5_init_255 q2491 q2493 qs42 q153 q2494 hy_314), (fun _ h => absurd h List.not_mem_nil)⟩)
theorem kX5_init_258 (z : XKT) : XOi z xInf Y_X5_init 258 (.inl (i_aload 0 259)) := ok_aload_n dX5_init_258 rfl
theorem kX5_init_259 (z : XKT) : XOi z xInf Y_X5_init 259 (.inl (i_push (vI 0) 260)) := ok_iconst dX5_init_259 rfl
theorem kX5_init_260 (z : XKT) : XOi z xInf Y_X5_init 260 (.inl (i_push (vI 100) 262)) := ok_bipush dX5_init_260 rfl
theorem kX5_init_262 (z : XKT) : XOi z xInf Y_X5_init 262 (.inl (i_push (vI 4) 263)) := ok_iconst dX5_init_262 rfl
theorem kX5_init_263 (z : XKT) : XOi z xInf Y_X5_init 263 (.inl (i_push (vI 1) 264)) := ok_iconst dX5_init_263 rfl
theorem kX5_init_264 (z : XKT) : XOi z xInf Y_X5_init 264 (.inl (i_push (vI 0) 265)) := ok_iconst dX5_init_264 rfl
theorem kX5_init_265 (z : XKT) : XOi z xInf Y_X5_init 265 (.inr (.inl (268, g_virt [(4, 169)] 5))) := show XOkC z xInf Y_X5_init 265 268 (g_virt [(4, 169)] 5) from okc_V (q := Y_X5_init) (List.forall_mem_cons.mpr ⟨(show XOkV z xInf Y_X5_init 265 268 5 (4, 169) from okv_V (q := Y_X5_init) (q1 := Y_X5_addGood) Z_X5_addGood rfl (by decide) ⟨by decide, by decide, Or.inl ⟨_, _, (List.mem_of_getElem? (l := xCls) (i := 3) rfl)⟩⟩ dX5_init_265 q2499 q2501 qs44 q153 q2502 hy_315), (fun _ h => absurd h List.not_mem_nil)⟩)
theorem kX5_init_268 (z : XKT) : XOi z xInf Y_X5_init 268 (.inl (i_aload 0 269)) := ok_aload_n dX5_init_268 rfl
theorem kX5_init_269 (z : XKT) : XOi z xInf Y_X5_init 269 (.inl (i_push (vI 1) 270)) := ok_iconst dX5_init_269 rfl
theorem kX5_init_270 (z : XKT) : XOi z xInf Y_X5_init 270 (.inl (i_push (vI 57) 272)) := ok_bipush dX5_init_270 rfl
theorem kX5_init_272 (z : XKT) : XOi z xInf Y_X5_init 272 (.inl (i_push (vI 2) 273)) := ok_iconst dX5_init_272 rfl
theorem kX5_init_273 (z : XKT) : XOi z xInf Y_X5_init 273 (.inl (i_push (vI 2) 274)) := ok_iconst dX5_init_273 rfl
theorem kX5_init_274 (z : XKT) : XOi z xInf Y_X5_init 274 (.inl (i_push (vI 1) 275)) := ok_iconst dX5_init_274 rfl
theorem kX5_init_275 (z : XKT) : XOi z xInf Y_X5_init 275 (.inr (.inl (278, g_virt [(4, 169)] 5))) := show XOkC z xInf Y_X5_init 275 278 (g_virt [(4, 169)] 5) from okc_V (q := Y_X5_init) (List.forall_mem_cons.mpr ⟨(show XOkV z xInf Y_X5_init 275 278 5 (4, 169) from okv_V (q := Y_X5_init) (q1 := Y_X5_addGood) Z_X5_addGood rfl (by decide) ⟨by decide, by decide, Or.inl ⟨_, _, (List.mem_of_getElem? (l := xCls) (i := 3) rfl)⟩⟩ dX5_init_275 q2499 q2501 qs44 q153 q2502 hy_315), (fun _ h => absurd h List.not_mem_nil)⟩)
theorem kX5_init_278 (z : XKT) : XOi z xInf Y_X5_init 278 (.inl (i_aload 0 279)) := ok_aload_n dX5_init_278 rfl
theorem kX5_init_279 (z : XKT) : XOi z xInf Y_X5_init 279 (.inl (i_push (vI 2) 280)) := ok_iconst dX5_init_279 rfl
theorem kX5_init_280 (z : XKT) : XOi z xInf Y_X5_init 280 (.inl (i_push (vI 31) 282)) := ok_bipush dX5_init_280 rfl
theorem kX5_init_282 (z : XKT) : XOi z xInf Y_X5_init 282 (.inl (i_push (vI 0) 283)) := ok_iconst dX5_init_282 rfl
theorem kX5_init_283 (z : XKT) : XOi z xInf Y_X5_init 283 (.inl (i_push (vI 1) 284)) := ok_iconst dX5_init_283 rfl
theorem kX5_init_284 (z : XKT) : XOi z xInf Y_X5_init 284 (.inl (i_push (vI 0) 285)) := ok_iconst dX5_init_284 rfl
theorem kX5_init_285 (z : XKT) : XOi z xInf Y_X5_init 285 (.inr (.inl (288, g_virt [(4, 169)] 5))) := show XOkC z xInf Y_X5_init 285 288 (g_virt [(4, 169)] 5) from okc_V (q := Y_X5_init) (List.forall_mem_cons.mpr ⟨(show XOkV z xInf Y_X5_init 285 288 5 (4, 169) from okv_V (q := Y_X5_init) (q1 := Y_X5_addGood) Z_X5_addGood rfl (by decide) ⟨by decide, by decide, Or.inl ⟨_, _, (List.mem_of_getElem? (l := xCls) (i := 3) rfl)⟩⟩ dX5_init_285 q2499 q2501 qs44 q153 q2502 hy_315), (fun _ h => absurd h List.not_mem_nil)⟩)
theorem kX5_init_288 (z : XKT) : XOi z xInf Y_X5_init 288 (.inl (i_aload 0 289)) := ok_aload_n dX5_init_288 rfl
theorem kX5_init_289 (z : XKT) : XOi z xInf Y_X5_init 289 (.inl (i_push (vI 3) 290)) := ok_iconst dX5_init_289 rfl
theorem kX5_init_290 (z : XKT) : XOi z xInf Y_X5_init 290 (.inl (i_push (vI 999) 293)) := ok_sipush dX5_init_290 rfl
theorem kX5_init_293 (z : XKT) : XOi z xInf Y_X5_init 293 (.inl (i_push (vI 9) 295)) := ok_bipush dX5_init_293 rfl
theorem kX5_init_295 (z : XKT) : XOi z xInf Y_X5_init 295 (.inl (i_push (vI 3) 296)) := ok_iconst dX5_init_295 rfl
theorem kX5_init_296 (z : XKT) : XOi z xInf Y_X5_init 296 (.inl (i_push (vI 2) 297)) := ok_iconst dX5_init_296 rfl
theorem kX5_init_297 (z : XKT) : XOi z xInf Y_X5_init 297 (.inr (.inl (300, g_virt [(4, 169)] 5))) := show XOkC z xInf Y_X5_init 297 300 (g_virt [(4, 169)] 5) from okc_V (q := Y_X5_init) (List.forall_mem_cons.mpr ⟨(show XOkV z xInf Y_X5_init 297 300 5 (4, 169) from okv_V (q := Y_X5_init) (q1 := Y_X5_addGood) Z_X5_addGood rfl (by decide) ⟨by decide, by decide, Or.inl ⟨_, _, (List.mem_of_getElem? (l := xCls) (i := 3) rfl)⟩⟩ dX5_init_297 q2499 q2501 qs44 q153 q2502 hy_315), (fun _ h => absurd h List.not_mem_nil)⟩)
theorem kX5_init_300 (z : XKT) : XOi z xInf Y_X5_init 300 (.inr (.inr (.inl r_v))) := show XOkR Y_X5_init 300 (r_v) from okr_v (q := Y_X5_init) rfl dX5_init_300
theorem o_X5_init (z : XKT) : XMi z xInf Y_X5_init := XMi.mk9 (T := T_X5_init z) rfl (⟨kX5_init_0 z, ⟨kX5_init_1 z, ⟨kX5_init_4 z, ⟨kX5_init_5 z, ⟨kX5_init_8 z, ⟨kX5_init_10 z, ⟨kX5_init_13 z, ⟨kX5_init_14 z, ⟨kX5_init_17 z, ⟨kX5_init_19 z, ⟨kX5_init_22 z, ⟨kX5_init_23 z, ⟨kX5_init_26 z, ⟨kX5_init_28 z, ⟨kX5_init_31 z, ⟨kX5_init_32 z, ⟨kX5_init_35 z, ⟨kX5_init_37 z, ⟨kX5_init_40 z, ⟨kX5_init_41 z, ⟨kX5_init_44 z, ⟨kX5_init_46 z, ⟨kX5_init_49 z, ⟨kX5_init_50 z, ⟨kX5_init_51 z, ⟨kX5_init_53 z, ⟨kX5_init_56 z, ⟨kX5_init_57 z, ⟨kX5_init_58 z, ⟨kX5_init_60 z, ⟨kX5_init_61 z, ⟨kX5_init_62 z, ⟨kX5_init_64 z, ⟨kX5_init_65 z, ⟨kX5_init_66 z, ⟨kX5_init_67 z, ⟨kX5_init_69 z, ⟨kX5_init_70 z, ⟨kX5_init_71 z, ⟨kX5_init_72 z, ⟨kX5_init_74 z, ⟨kX5_init_75 z, ⟨kX5_init_76 z, ⟨kX5_init_77 z, ⟨kX5_init_79 z, ⟨kX5_init_80 z, ⟨kX5_init_83 z, ⟨kX5_init_84 z, ⟨kX5_init_85 z, ⟨kX5_init_87 z, ⟨kX5_init_88 z, ⟨kX5_init_89 z, ⟨kX5_init_91 z, ⟨kX5_init_92 z, ⟨kX5_init_93 z, ⟨kX5_init_94 z, ⟨kX5_init_96 z, ⟨kX5_init_97 z, ⟨kX5_init_98 z, ⟨kX5_init_99 z, ⟨kX5_init_101 z, ⟨kX5_init_102 z, ⟨kX5_init_103 z, ⟨kX5_init_104 z, ⟨kX5_init_106 z, ⟨kX5_init_107 z, ⟨kX5_init_110 z, ⟨kX5_init_111 z, ⟨kX5_init_112 z, ⟨kX5_init_114 z, ⟨kX5_init_115 z, ⟨kX5_init_116 z, ⟨kX5_init_118 z, ⟨kX5_init_119 z, ⟨kX5_init_120 z, ⟨kX5_init_121 z, ⟨kX5_init_123 z, ⟨kX5_init_124 z, ⟨kX5_init_125 z, ⟨kX5_init_126 z, ⟨kX5_init_128 z, ⟨kX5_init_129 z, ⟨kX5_init_130 z, ⟨kX5_init_131 z, ⟨kX5_init_133 z, ⟨kX5_init_134 z, ⟨kX5_init_137 z, ⟨kX5_init_138 z, ⟨kX5_init_139 z, ⟨kX5_init_142 z, ⟨kX5_init_143 z, ⟨kX5_init_144 z, ⟨kX5_init_146 z, ⟨kX5_init_147 z, ⟨kX5_init_148 z, ⟨kX5_init_149 z, ⟨kX5_init_151 z, ⟨kX5_init_152 z, ⟨kX5_init_153 z, ⟨kX5_init_154 z, ⟨kX5_init_156 z, ⟨kX5_init_157 z, ⟨kX5_init_158 z, ⟨kX5_init_159 z, ⟨kX5_init_161 z, ⟨kX5_init_162 z, ⟨kX5_init_165 z, ⟨kX5_init_166 z, ⟨kX5_init_167 z, ⟨kX5_init_170 z, ⟨kX5_init_173 z, ⟨kX5_init_174 z, ⟨kX5_init_176 z, ⟨kX5_init_178 z, ⟨kX5_init_181 z, ⟨kX5_init_182 z, ⟨kX5_init_185 z, ⟨kX5_init_187 z, ⟨kX5_init_190 z, ⟨kX5_init_191 z, ⟨kX5_init_192 z, ⟨kX5_init_195 z, ⟨kX5_init_196 z, ⟨kX5_init_198 z, ⟨kX5_init_200 z, ⟨kX5_init_203 z, ⟨kX5_init_204 z, ⟨kX5_init_206 z, ⟨kX5_init_209 z, ⟨kX5_init_210 z, ⟨kX5_init_211 z, ⟨kX5_init_213 z, ⟨kX5_init_214 z, ⟨kX5_init_215 z, ⟨kX5_init_216 z, ⟨kX5_init_218 z, ⟨kX5_init_219 z, ⟨kX5_init_220 z, ⟨kX5_init_221 z, ⟨kX5_init_223 z, ⟨kX5_init_224 z, ⟨kX5_init_225 z, ⟨kX5_init_226 z, ⟨kX5_init_228 z, ⟨kX5_init_229 z, ⟨kX5_init_230 z, ⟨kX5_init_231 z, ⟨kX5_init_233 z, ⟨kX5_init_234 z, ⟨kX5_init_235 z, ⟨kX5_init_236 z, ⟨kX5_init_238 z, ⟨kX5_init_239 z, ⟨kX5_init_240 z, ⟨kX5_init_242 z, ⟨kX5_init_244 z, ⟨kX5_init_245 z, ⟨kX5_init_248 z, ⟨kX5_init_249 z, ⟨kX5_init_251 z, ⟨kX5_init_253 z, ⟨kX5_init_254 z, ⟨kX5_init_255 z, ⟨kX5_init_258 z, ⟨kX5_init_259 z, ⟨kX5_init_260 z, ⟨kX5_init_262 z, ⟨kX5_init_263 z, ⟨kX5_init_264 z, ⟨kX5_init_265 z, ⟨kX5_init_268 z, ⟨kX5_init_269 z, ⟨kX5_init_270 z, ⟨kX5_init_272 z, ⟨kX5_init_273 z, ⟨kX5_init_274 z, ⟨kX5_init_275 z, ⟨kX5_init_278 z, ⟨kX5_init_279 z, ⟨kX5_init_280 z, ⟨kX5_init_282 z, ⟨kX5_init_283 z, ⟨kX5_init_284 z, ⟨kX5_init_285 z, ⟨kX5_init_288 z, ⟨kX5_init_289 z, ⟨kX5_init_290 z, ⟨kX5_init_293 z, ⟨kX5_init_295 z, ⟨kX5_init_296 z, ⟨kX5_init_297 z, ⟨kX5_init_300 z, trivial⟩⟩⟩⟩⟩⟩⟩⟩⟩⟩⟩⟩⟩⟩⟩⟩⟩⟩⟩⟩⟩⟩⟩⟩⟩⟩⟩⟩⟩⟩⟩⟩⟩⟩⟩⟩⟩⟩⟩⟩⟩⟩⟩⟩⟩⟩⟩⟩⟩⟩⟩⟩⟩⟩⟩⟩⟩⟩⟩⟩⟩⟩⟩⟩⟩⟩⟩⟩⟩⟩⟩⟩⟩⟩⟩⟩⟩⟩⟩⟩⟩⟩⟩⟩⟩⟩⟩⟩⟩⟩⟩⟩⟩⟩⟩⟩⟩⟩⟩⟩⟩⟩⟩⟩⟩⟩⟩⟩⟩⟩⟩⟩⟩⟩⟩⟩⟩⟩⟩⟩⟩⟩⟩⟩⟩⟩⟩⟩⟩⟩⟩⟩⟩⟩⟩⟩⟩⟩⟩⟩⟩⟩⟩⟩⟩⟩⟩⟩⟩⟩⟩⟩⟩⟩⟩⟩⟩⟩⟩⟩⟩⟩⟩⟩⟩⟩⟩⟩⟩⟩⟩⟩⟩⟩⟩⟩⟩⟩⟩⟩⟩⟩⟩⟩⟩⟩⟩⟩⟩⟩⟩⟩) (hd_X5_init z) rfl rfl (by decide +kernel)
theorem hd_X5_isClaimed (z : XKT) : XHd z Y_X5_isClaimed := xHd_none rfl (xhd0 rfl)
theorem kX5_isClaimed_0 (z : XKT) : XOi z xInf Y_X5_isClaimed 0 (.inl (i_aload 0 1)) := ok_aload_n dX5_isClaimed_0 rfl
theorem kX5_isClaimed_1 (z : XKT) : XOi z xInf Y_X5_isClaimed 1 (.inl (i_iload 1 2)) := ok_iload_n dX5_isClaimed_1 rfl
theorem kX5_isClaimed_2 (z : XKT) : XOi z xInf Y_X5_isClaimed 2 (.inl (i_push (vI 8) 4)) := ok_bipush dX5_isClaimed_2 rfl
theorem kX5_isClaimed_4 (z : XKT) : XOi z xInf Y_X5_isClaimed 4 (.inr (.inl (7, g_virt [(4, 253)] 2))) := show XOkC z xInf Y_X5_isClaimed 4 7 (g_virt [(4, 253)] 2) from okc_V (q := Y_X5_isClaimed) (List.forall_mem_cons.mpr ⟨(show XOkV z xInf Y_X5_isClaimed 4 7 2 (4, 253) from okv_V (q := Y_X5_isClaimed) (q1 := Y_X5_of) Z_X5_of rfl (by decide) ⟨by decide, by decide, Or.inl ⟨_, _, (List.mem_of_getElem? (l := xCls) (i := 3) rfl)⟩⟩ dX5_isClaimed_4 q2622 q2624 qs50 q153 q2625 hy_265), (fun _ h => absurd h List.not_mem_nil)⟩)
theorem kX5_isClaimed_7 (z : XKT) : XOi z xInf Y_X5_isClaimed 7 (.inl (i_push (vI 1) 8)) := ok_iconst dX5_isClaimed_7 rfl
theorem kX5_isClaimed_8 (z : XKT) : XOi z xInf Y_X5_isClaimed 8 (.inl (i_icmp (fun x y => ¬ x = y) 15 11)) := ok_icmp_ne dX5_isClaimed_8 rfl
theorem kX5_isClaimed_11 (z : XKT) : XOi z xInf Y_X5_isClaimed 11 (.inl (i_push (vI 1) 12)) := ok_iconst dX5_isClaimed_11 rfl
theorem kX5_isClaimed_12 (z : XKT) : XOi z xInf Y_X5_isClaimed 12 (.inl (i_goto 16)) := ok_goto dX5_isClaimed_12 rfl
theorem kX5_isClaimed_15 (z : XKT) : XOi z xInf Y_X5_isClaimed 15 (.inl (i_push (vI 0) 16)) := ok_iconst dX5_isClaimed_15 rfl
theorem kX5_isClaimed_16 (z : XKT) : XOi z xInf Y_X5_isClaimed 16 (.inr (.inr (.inl (r_i .boolean)))) := show XOkR Y_X5_isClaimed 16 ((r_i .boolean)) from okr_i (q := Y_X5_isClaimed) (ty := .boolean) rfl rfl dX5_isClaimed_16
theorem o_X5_isClaimed (z : XKT) : XMi z xInf Y_X5_isClaimed := XMi.mk9 (T := T_X5_isClaimed z) rfl (⟨kX5_isClaimed_0 z, ⟨kX5_isClaimed_1 z, ⟨kX5_isClaimed_2 z, ⟨kX5_isClaimed_4 z, ⟨kX5_isClaimed_7 z, ⟨kX5_isClaimed_8 z, ⟨kX5_isClaimed_11 z, ⟨kX5_isClaimed_12 z, ⟨kX5_isClaimed_15 z, ⟨kX5_isClaimed_16 z, trivial⟩⟩⟩⟩⟩⟩⟩⟩⟩⟩) (hd_X5_isClaimed z) rfl rfl (by decide +kernel)
theorem hd_X5_isDigit (z : XKT) : XHd z Y_X5_isDigit := xHd_none rfl (xhd0 rfl)
theorem kX5_isDigit_0 (z : XKT) : XOi z xInf Y_X5_isDigit 0 (.inl (i_aload 0 1)) := ok_aload_n dX5_isDigit_0 rfl
theorem kX5_isDigit_1 (z : XKT) : XOi z xInf Y_X5_isDigit 1 (.inl (i_iload 1 2)) := ok_iload_n dX5_isDigit_1 rfl
theorem kX5_isDigit_2 (z : XKT) : XOi z xInf Y_X5_isDigit 2 (.inr (.inl (5, g_virt [(4, 176)] 1))) := show XOkC z xInf Y_X5_isDigit 2 5 (g_virt [(4, 176)] 1) from okc_V (q := Y_X5_isDigit) (List.forall_mem_cons.mpr ⟨(show XOkV z xInf Y_X5_isDigit 2 5 1 (4, 176) from okv_V (q := Y_X5_isDigit) (q1 := Y_X5_byteAt) Z_X5_byteAt rfl (by decide) ⟨by decide, by decide, Or.inl ⟨_, _, (List.mem_of_getElem? (l := xCls) (i := 3) rfl)⟩⟩ dX5_isDigit_2 q3050 q3052 qs104 q153 q3053 hy_316), (fun _ h => absurd h List.not_mem_nil)⟩)
theorem kX5_isDigit_5 (z : XKT) : XOi z xInf Y_X5_isDigit 5 (.inl (i_push (vI 48) 7)) := ok_bipush dX5_isDigit_5 rfl
theorem kX5_isDigit_7 (z : XKT) : XOi z xInf Y_X5_isDigit 7 (.inl (i_icmp (fun x y => x < y) 24 10)) := ok_icmp_lt dX5_isDigit_7 rfl
theorem kX5_isDigit_10 (z : XKT) : XOi z xInf Y_X5_isDigit 10 (.inl (i_aload 0 11)) := ok_aload_n dX5_isDigit_10 rfl
theorem kX5_isDigit_11 (z : XKT) : XOi z xInf Y_X5_isDigit 11 (.inl (i_iload 1 12)) := ok_iload_n dX5_isDigit_11 rfl
theorem kX5_isDigit_12 (z : XKT) : XOi z xInf Y_X5_isDigit 12 (.inr (.inl (15, g_virt [(4, 176)] 1))) := show XOkC z xInf Y_X5_isDigit 12 15 (g_virt [(4, 176)] 1) from okc_V (q := Y_X5_isDigit) (List.forall_mem_cons.mpr ⟨(show XOkV z xInf Y_X5_isDigit 12 15 1 (4, 176) from okv_V (q := Y_X5_isDigit) (q1 := Y_X5_byteAt) Z_X5_byteAt rfl (by decide) ⟨by decide, by decide, Or.inl ⟨_, _, (List.mem_of_getElem? (l := xCls) (i := 3) rfl)⟩⟩ dX5_isDigit_12 q3050 q3052 qs104 q153 q3053 hy_316), (fun _ h => absurd h List.not_mem_nil)⟩)
theorem kX5_isDigit_15 (z : XKT) : XOi z xInf Y_X5_isDigit 15 (.inl (i_push (vI 57) 17)) := ok_bipush dX5_isDigit_15 rfl
theorem kX5_isDigit_17 (z : XKT) : XOi z xInf Y_X5_isDigit 17 (.inl (i_icmp (fun x y => y < x) 24 20)) := ok_icmp_gt dX5_isDigit_17 rfl
theorem kX5_isDigit_20 (z : XKT) : XOi z xInf Y_X5_isDigit 20 (.inl (i_push (vI 1) 21)) := ok_iconst dX5_isDigit_20 rfl
theorem kX5_isDigit_21 (z : XKT) : XOi z xInf Y_X5_isDigit 21 (.inl (i_goto 25)) := ok_goto dX5_isDigit_21 rfl
theorem kX5_isDigit_24 (z : XKT) : XOi z xInf Y_X5_isDigit 24 (.inl (i_push (vI 0) 25)) := ok_iconst dX5_isDigit_24 rfl
theorem kX5_isDigit_25 (z : XKT) : XOi z xInf Y_X5_isDigit 25 (.inr (.inr (.inl (r_i .boolean)))) := show XOkR Y_X5_isDigit 25 ((r_i .boolean)) from okr_i (q := Y_X5_isDigit) (ty := .boolean) rfl rfl dX5_isDigit_25
theorem o_X5_isDigit (z : XKT) : XMi z xInf Y_X5_isDigit := XMi.mk9 (T := T_X5_isDigit z) rfl (⟨kX5_isDigit_0 z, ⟨kX5_isDigit_1 z, ⟨kX5_isDigit_2 z, ⟨kX5_isDigit_5 z, ⟨kX5_isDigit_7 z, ⟨kX5_isDigit_10 z, ⟨kX5_isDigit_11 z, ⟨kX5_isDigit_12 z, ⟨kX5_isDigit_15 z, ⟨kX5_isDigit_17 z, ⟨kX5_isDigit_20 z, ⟨kX5_isDigit_21 z, ⟨kX5_isDigit_24 z, ⟨kX5_isDigit_25 z, trivial⟩⟩⟩⟩⟩⟩⟩⟩⟩⟩⟩⟩⟩⟩) (hd_X5_isDigit z) rfl rfl (by decide +kernel)
theorem hd_X5_isDry (z : XKT) : XHd z Y_X5_isDry := xHd_none rfl (xhd0 rfl)
theorem kX5_isDry_0 (z : XKT) : XOi z xInf Y_X5_isDry 0 (.inl (i_aload 0 1)) := ok_aload_n dX5_isDry_0 rfl
theorem kX5_isDry_1 (z : XKT) : XOi z xInf Y_X5_isDry 1 (.inl (i_iload 2 2)) := ok_iload_n dX5_isDry_1 rfl
theorem kX5_isDry_2 (z : XKT) : XOi z xInf Y_X5_isDry 2 (.inr (.inl (5, g_virt [(4, 245)] 1))) := show XOkC z xInf Y_X5_isDry 2 5 (g_virt [(4, 245)] 1) from okc_V (q := Y_X5_isDry) (List.forall_mem_cons.mpr ⟨(show XOkV z xInf Y_X5_isDry 2 5 1 (4, 245) from okv_V (q := Y_X5_isDry) (q1 := Y_X5_levelAt) Z_X5_levelAt rfl (by decide) ⟨by decide, by decide, Or.inl ⟨_, _, (List.mem_of_getElem? (l := xCls) (i := 3) rfl)⟩⟩ dX5_isDry_2 q2610 q2612 qs47 q153 q2613 hy_317), (fun _ h => absurd h List.not_mem_nil)⟩)
theorem kX5_isDry_5 (z : XKT) : XOi z xInf Y_X5_isDry 5 (.inl (i_aload 0 6)) := ok_aload_n dX5_isDry_5 rfl
theorem kX5_isDry_6 (z : XKT) : XOi z xInf Y_X5_isDry 6 (.inl (i_iload 1 7)) := ok_iload_n dX5_isDry_6 rfl
theorem kX5_isDry_7 (z : XKT) : XOi z xInf Y_X5_isDry 7 (.inl (i_push (vI 3) 8)) := ok_iconst dX5_isDry_7 rfl
theorem kX5_isDry_8 (z : XKT) : XOi z xInf Y_X5_isDry 8 (.inr (.inl (11, g_virt [(4, 253)] 2))) := show XOkC z xInf Y_X5_isDry 8 11 (g_virt [(4, 253)] 2) from okc_V (q := Y_X5_isDry) (List.forall_mem_cons.mpr ⟨(show XOkV z xInf Y_X5_isDry 8 11 2 (4, 253) from okv_V (q := Y_X5_isDry) (q1 := Y_X5_of) Z_X5_of rfl (by decide) ⟨by decide, by decide, Or.inl ⟨_, _, (List.mem_of_getElem? (l := xCls) (i := 3) rfl)⟩⟩ dX5_isDry_8 q2622 q2624 qs50 q153 q2625 hy_265), (fun _ h => absurd h List.not_mem_nil)⟩)
theorem kX5_isDry_11 (z : XKT) : XOi z xInf Y_X5_isDry 11 (.inl (i_icmp (fun x y => y < x) 18 14)) := ok_icmp_gt dX5_isDry_11 rfl
theorem kX5_isDry_14 (z : XKT) : XOi z xInf Y_X5_isDry 14 (.inl (i_push (vI 1) 15)) := ok_iconst dX5_isDry_14 rfl
theorem kX5_isDry_15 (z : XKT) : XOi z xInf Y_X5_isDry 15 (.inl (i_goto 19)) := ok_goto dX5_isDry_15 rfl
theorem kX5_isDry_18 (z : XKT) : XOi z xInf Y_X5_isDry 18 (.inl (i_push (vI 0) 19)) := ok_iconst dX5_isDry_18 rfl
theorem kX5_isDry_19 (z : XKT) : XOi z xInf Y_X5_isDry 19 (.inr (.inr (.inl (r_i .boolean)))) := show XOkR Y_X5_isDry 19 ((r_i .boolean)) from okr_i (q := Y_X5_isDry) (ty := .boolean) rfl rfl dX5_isDry_19
theorem o_X5_isDry (z : XKT) : XMi z xInf Y_X5_isDry := XMi.mk9 (T := T_X5_isDry z) rfl (⟨kX5_isDry_0 z, ⟨kX5_isDry_1 z, ⟨kX5_isDry_2 z, ⟨kX5_isDry_5 z, ⟨kX5_isDry_6 z, ⟨kX5_isDry_7 z, ⟨kX5_isDry_8 z, ⟨kX5_isDry_11 z, ⟨kX5_isDry_14 z, ⟨kX5_isDry_15 z, ⟨kX5_isDry_18 z, ⟨kX5_isDry_19 z, trivial⟩⟩⟩⟩⟩⟩⟩⟩⟩⟩⟩⟩) (hd_X5_isDry z) rfl rfl (by decide +kernel)
theorem hd_X5_isFinder (z : XKT) : XHd z Y_X5_isFinder := xHd_none rfl (xhd0 rfl)
theorem kX5_isFinder_0 (z : XKT) : XOi z xInf Y_X5_isFinder 0 (.inl (i_iload 1 1)) := ok_iload_n dX5_isFinder_0 rfl
theorem kX5_isFinder_1 (z : XKT) : XOi z xInf Y_X5_isFinder 1 (.inl (i_push (vI 0) 2)) := ok_iconst dX5_isFinder_1 rfl
theorem kX5_isFinder_2 (z : XKT) : XOi z xInf Y_X5_isFinder 2 (.inl (i_aload 0 3)) := ok_aload_n dX5_isFinder_2 rfl
theorem kX5_isFinder_3 (z : XKT) : XOi z xInf Y_X5_isFinder 3 (.inl (i_getr [4] 40 6)) := ok_getr dX5_isFinder_3 q2517 (List.forall_mem_cons.mpr ⟨⟨_, _, _, _, fd_40_4_0⟩, (fun _ h => absurd h List.not_mem_nil)⟩)
theorem kX5_isFinder_6 (z : XKT) : XOi z xInf Y_X5_isFinder 6 (.inl (i_push (vI 4) 7)) := ok_iconst dX5_isFinder_6 rfl
theorem kX5_isFinder_7 (z : XKT) : XOi z xInf Y_X5_isFinder 7 (.inl (i_ald 1000 8)) := ok_iald dX5_isFinder_7
theorem kX5_isFinder_8 (z : XKT) : XOi z xInf Y_X5_isFinder 8 (.inl (i_push (vI 1) 9)) := ok_iconst dX5_isFinder_8 rfl
theorem kX5_isFinder_9 (z : XKT) : XOi z xInf Y_X5_isFinder 9 (.inl (i_bin (fun x y => x - y) 10)) := ok_isub dX5_isFinder_9
theorem kX5_isFinder_10 (z : XKT) : XOi z xInf Y_X5_isFinder 10 (.inr (.inl (13, g_stat 226 3))) := show XOkC z xInf Y_X5_isFinder 10 13 (g_stat 226 3) from okc_S (q := Y_X5_isFinder) (q1 := Y_X5_inRange) Z_X5_inRange rfl (by decide) dX5_isFinder_10 q2603 q2604 q153 q2605 hy_261
theorem kX5_isFinder_13 (z : XKT) : XOi z xInf Y_X5_isFinder 13 (.inr (.inr (.inl (r_i .boolean)))) := show XOkR Y_X5_isFinder 13 ((r_i .boolean)) from okr_i (q := Y_X5_isFinder) (ty := .boolean) rfl rfl dX5_isFinder_13
theorem o_X5_isFinder (z : XKT) : XMi z xInf Y_X5_isFinder := XMi.mk9 (T := T_X5_isFinder z) rfl (⟨kX5_isFinder_0 z, ⟨kX5_isFinder_1 z, ⟨kX5_isFinder_2 z, ⟨kX5_isFinder_3 z, ⟨kX5_isFinder_6 z, ⟨kX5_isFinder_7 z, ⟨kX5_isFinder_8 z, ⟨kX5_isFinder_9 z, ⟨kX5_isFinder_10 z, ⟨kX5_isFinder_13 z, trivial⟩⟩⟩⟩⟩⟩⟩⟩⟩⟩) (hd_X5_isFinder z) rfl rfl (by decide +kernel)
theorem hd_X5_isGood (z : XKT) : XHd z Y_X5_isGood := xHd_none rfl (xhd0 rfl)
theorem kX5_isGood_0 (z : XKT) : XOi z xInf Y_X5_isGood 0 (.inl (i_iload 1 1)) := ok_iload_n dX5_isGood_0 rfl
theorem kX5_isGood_1 (z : XKT) : XOi z xInf Y_X5_isGood 1 (.inl (i_push (vI 0) 2)) := ok_iconst dX5_isGood_1 rfl
theorem kX5_isGood_2 (z : XKT) : XOi z xInf Y_X5_isGood 2 (.inl (i_aload 0 3)) := ok_aload_n dX5_isGood_2 rfl
theorem kX5_isGood_3 (z : XKT) : XOi z xInf Y_X5_isGood 3 (.inl (i_getr [4] 40 6)) := ok_getr dX5_isGood_3 q2517 (List.forall_mem_cons.mpr ⟨⟨_, _, _, _, fd_40_4_0⟩, (fun _ h => absurd h List.not_mem_nil)⟩)
theorem kX5_isGood_6 (z : XKT) : XOi z xInf Y_X5_isGood 6 (.inl (i_push (vI 5) 7)) := ok_iconst dX5_isGood_6 rfl
theorem kX5_isGood_7 (z : XKT) : XOi z xInf Y_X5_isGood 7 (.inl (i_ald 1000 8)) := ok_iald dX5_isGood_7
theorem kX5_isGood_8 (z : XKT) : XOi z xInf Y_X5_isGood 8 (.inl (i_push (vI 1) 9)) := ok_iconst dX5_isGood_8 rfl
theorem kX5_isGood_9 (z : XKT) : XOi z xInf Y_X5_isGood 9 (.inl (i_bin (fun x y => x - y) 10)) := ok_isub dX5_isGood_9
theorem kX5_isGood_10 (z : XKT) : XOi z xInf Y_X5_isGood 10 (.inr (.inl (13, g_stat 226 3))) := show XOkC z xInf Y_X5_isGood 10 13 (g_stat 226 3) from okc_S (q := Y_X5_isGood) (q1 := Y_X5_inRange) Z_X5_inRange rfl (by decide) dX5_isGood_10 q2603 q2604 q153 q2605 hy_261
theorem kX5_isGood_13 (z : XKT) : XOi z xInf Y_X5_isGood 13 (.inr (.inr (.inl (r_i .boolean)))) := show XOkR Y_X5_isGood 13 ((r_i .boolean)) from okr_i (q := Y_X5_isGood) (ty := .boolean) rfl rfl dX5_isGood_13
theorem o_X5_isGood (z : XKT) : XMi z xInf Y_X5_isGood := XMi.mk9 (T := T_X5_isGood z) rfl (⟨kX5_isGood_0 z, ⟨kX5_isGood_1 z, ⟨kX5_isGood_2 z, ⟨kX5_isGood_3 z, ⟨kX5_isGood_6 z, ⟨kX5_isGood_7 z, ⟨kX5_isGood_8 z, ⟨kX5_isGood_9 z, ⟨kX5_isGood_10 z, ⟨kX5_isGood_13 z, trivial⟩⟩⟩⟩⟩⟩⟩⟩⟩⟩) (hd_X5_isGood z) rfl rfl (by decide +kernel)
theorem hd_X5_isIn (z : XKT) : XHd z Y_X5_isIn := xHd_none rfl (xhd0 rfl)
theorem kX5_isIn_0 (z : XKT) : XOi z xInf Y_X5_isIn 0 (.inl (i_aload 0 1)) := ok_aload_n dX5_isIn_0 rfl
theorem kX5_isIn_1 (z : XKT) : XOi z xInf Y_X5_isIn 1 (.inl (i_iload 1 2)) := ok_iload_n dX5_isIn_1 rfl
theorem kX5_isIn_2 (z : XKT) : XOi z xInf Y_X5_isIn 2 (.inl (i_push (vI 5) 3)) := ok_iconst dX5_isIn_2 rfl
theorem kX5_isIn_3 (z : XKT) : XOi z xInf Y_X5_isIn 3 (.inr (.inl (6, g_virt [(4, 253)] 2))) := show XOkC z xInf Y_X5_isIn 3 6 (g_virt [(4, 253)] 2) from okc_V (q := Y_X5_isIn) (List.forall_mem_cons.mpr ⟨(show XOkV z xInf Y_X5_isIn 3 6 2 (4, 253) from okv_V (q := Y_X5_isIn) (q1 := Y_X5_of) Z_X5_of rfl (by decide) ⟨by decide, by decide, Or.inl ⟨_, _, (List.mem_of_getElem? (l := xCls) (i := 3) rfl)⟩⟩ dX5_isIn_3 q2622 q2624 qs50 q153 q2625 hy_265), (fun _ h => absurd h List.not_mem_nil)⟩)
theorem kX5_isIn_6 (z : XKT) : XOi z xInf Y_X5_isIn 6 (.inl (i_iload 2 7)) := ok_iload_n dX5_isIn_6 rfl
theorem kX5_isIn_7 (z : XKT) : XOi z xInf Y_X5_isIn 7 (.inl (i_icmp (fun x y => ¬ x = y) 14 10)) := ok_icmp_ne dX5_isIn_7 rfl
theorem kX5_isIn_10 (z : XKT) : XOi z xInf Y_X5_isIn 10 (.inl (i_push (vI 1) 11)) := ok_iconst dX5_isIn_10 rfl
theorem kX5_isIn_11 (z : XKT) : XOi z xInf Y_X5_isIn 11 (.inl (i_goto 15)) := ok_goto dX5_isIn_11 rfl
theorem kX5_isIn_14 (z : XKT) : XOi z xInf Y_X5_isIn 14 (.inl (i_push (vI 0) 15)) := ok_iconst dX5_isIn_14 rfl
theorem kX5_isIn_15 (z : XKT) : XOi z xInf Y_X5_isIn 15 (.inr (.inr (.inl (r_i .boolean)))) := show XOkR Y_X5_isIn 15 ((r_i .boolean)) from okr_i (q := Y_X5_isIn) (ty := .boolean) rfl rfl dX5_isIn_15
theorem o_X5_isIn (z : XKT) : XMi z xInf Y_X5_isIn := XMi.mk9 (T := T_X5_isIn z) rfl (⟨kX5_isIn_0 z, ⟨kX5_isIn_1 z, ⟨kX5_isIn_2 z, ⟨kX5_isIn_3 z, ⟨kX5_isIn_6 z, ⟨kX5_isIn_7 z, ⟨kX5_isIn_10 z, ⟨kX5_isIn_11 z, ⟨kX5_isIn_14 z, ⟨kX5_isIn_15 z, trivial⟩⟩⟩⟩⟩⟩⟩⟩⟩⟩) (hd_X5_isIn z) rfl rfl (by decide +kernel)
theorem hd_X5_isLetter (z : XKT) : XHd z Y_X5_isLetter := xHd_none rfl (xhd0 rfl)
theorem kX5_isLetter_0 (z : XKT) : XOi z xInf Y_X5_isLetter 0 (.inl (i_aload 0 1)) := ok_aload_n dX5_isLetter_0 rfl
theorem kX5_isLetter_1 (z : XKT) : XOi z xInf Y_X5_isLetter 1 (.inl (i_iload 1 2)) := ok_iload_n dX5_isLetter_1 rfl
theorem kX5_isLetter_2 (z : XKT) : XOi z xInf Y_X5_isLetter 2 (.inr (.inl (5, g_virt [(4, 176)] 1))) := show XOkC z xInf Y_X5_isLetter 2 5 (g_virt [(4, 176)] 1) from okc_V (q := Y_X5_isLetter) (List.forall_mem_cons.mpr ⟨(show XOkV z xInf Y_X5_isLetter 2 5 1 (4, 176) from okv_V (q := Y_X5_isLetter) (q1 := Y_X5_byteAt) Z_X5_byteAt rfl (by decide) ⟨by decide, by decide, Or.inl ⟨_, _, (List.mem_of_getElem? (l := xCls) (i := 3) rfl)⟩⟩ dX5_isLetter_2 q3050 q3052 qs104 q153 q3053 hy_316), (fun _ h => absurd h List.not_mem_nil)⟩)
theorem kX5_isLetter_5 (z : XKT) : XOi z xInf Y_X5_isLetter 5 (.inl (i_push (vI 97) 7)) := ok_bipush dX5_isLetter_5 rfl
theorem kX5_isLetter_7 (z : XKT) : XOi z xInf Y_X5_isLetter 7 (.inl (i_icmp (fun x y => x < y) 24 10)) := ok_icmp_lt dX5_isLetter_7 rfl
theorem kX5_isLetter_10 (z : XKT) : XOi z xInf Y_X5_isLetter 10 (.inl (i_aload 0 11)) := ok_aload_n dX5_isLetter_10 rfl
theorem kX5_isLetter_11 (z : XKT) : XOi z xInf Y_X5_isLetter 11 (.inl (i_iload 1 12)) := ok_iload_n dX5_isLetter_11 rfl
theorem kX5_isLetter_12 (z : XKT) : XOi z xInf Y_X5_isLetter 12 (.inr (.inl (15, g_virt [(4, 176)] 1))) := show XOkC z xInf Y_X5_isLetter 12 15 (g_virt [(4, 176)] 1) from okc_V (q := Y_X5_isLetter) (List.forall_mem_cons.mpr ⟨(show XOkV z xInf Y_X5_isLetter 12 15 1 (4, 176) from okv_V (q := Y_X5_isLetter) (q1 := Y_X5_byteAt) Z_X5_byteAt rfl (by decide) ⟨by decide, by decide, Or.inl ⟨_, _, (List.mem_of_getElem? (l := xCls) (i := 3) rfl)⟩⟩ dX5_isLetter_12 q3050 q3052 qs104 q153 q3053 hy_316), (fun _ h => absurd h List.not_mem_nil)⟩)
theorem kX5_isLetter_15 (z : XKT) : XOi z xInf Y_X5_isLetter 15 (.inl (i_push (vI 122) 17)) := ok_bipush dX5_isLetter_15 rfl
theorem kX5_isLetter_17 (z : XKT) : XOi z xInf Y_X5_isLetter 17 (.inl (i_icmp (fun x y => y < x) 24 20)) := ok_icmp_gt dX5_isLetter_17 rfl
theorem kX5_isLetter_20 (z : XKT) : XOi z xInf Y_X5_isLetter 20 (.inl (i_push (vI 1) 21)) := ok_iconst dX5_isLetter_20 rfl
theorem kX5_isLetter_21 (z : XKT) : XOi z xInf Y_X5_isLetter 21 (.inl (i_goto 25)) := ok_goto dX5_isLetter_21 rfl
theorem kX5_isLetter_24 (z : XKT) : XOi z xInf Y_X5_isLetter 24 (.inl (i_push (vI 0) 25)) := ok_iconst dX5_isLetter_24 rfl
theorem kX5_isLetter_25 (z : XKT) : XOi z xInf Y_X5_isLetter 25 (.inr (.inr (.inl (r_i .boolean)))) := show XOkR Y_X5_isLetter 25 ((r_i .boolean)) from okr_i (q := Y_X5_isLetter) (ty := .boolean) rfl rfl dX5_isLetter_25
theorem o_X5_isLetter (z : XKT) : XMi z xInf Y_X5_isLetter := XMi.mk9 (T := T_X5_isLetter z) rfl (⟨kX5_isLetter_0 z, ⟨kX5_isLetter_1 z, ⟨kX5_isLetter_2 z, ⟨kX5_isLetter_5 z, ⟨kX5_isLetter_7 z, ⟨kX5_isLetter_10 z, ⟨kX5_isLetter_11 z, ⟨kX5_isLetter_12 z, ⟨kX5_isLetter_15 z, ⟨kX5_isLetter_17 z, ⟨kX5_isLetter_20 z, ⟨kX5_isLetter_21 z, ⟨kX5_isLetter_24 z, ⟨kX5_isLetter_25 z, trivial⟩⟩⟩⟩⟩⟩⟩⟩⟩⟩⟩⟩⟩⟩) (hd_X5_isLetter z) rfl rfl (by decide +kernel)
theorem hd_X5_isOwner (z : XKT) : XHd z Y_X5_isOwner := xHd_none rfl (xhd0 rfl)
theorem kX5_isOwner_0 (z : XKT) : XOi z xInf Y_X5_isOwner 0 (.inl (i_iload 0 1)) := ok_iload_n dX5_isOwner_0 rfl
theorem kX5_isOwner_1 (z : XKT) : XOi z xInf Y_X5_isOwner 1 (.inl (i_push (vI 1) 2)) := ok_iconst dX5_isOwner_1 rfl
theorem kX5_isOwner_2 (z : XKT) : XOi z xInf Y_X5_isOwner 2 (.inl (i_push (vI 5) 3)) := ok_iconst dX5_isOwner_2 rfl
theorem kX5_isOwner_3 (z : XKT) : XOi z xInf Y_X5_isOwner 3 (.inr (.inl (6, g_stat 226 3))) := show XOkC z xInf Y_X5_isOwner 3 6 (g_stat 226 3) from okc_S (q := Y_X5_isOwner) (q1 := Y_X5_inRange) Z_X5_inRange rfl (by decide) dX5_isOwner_3 q2603 q2604 q153 q2605 hy_261
theorem kX5_isOwner_6 (z : XKT) : XOi z xInf Y_X5_isOwner 6 (.inr (.inr (.inl (r_i .boolean)))) := show XOkR Y_X5_isOwner 6 ((r_i .boolean)) from okr_i (q := Y_X5_isOwner) (ty := .boolean) rfl rfl dX5_isOwner_6
theorem o_X5_isOwner (z : XKT) : XMi z xInf Y_X5_isOwner := XMi.mk9 (T := T_X5_isOwner z) rfl (⟨kX5_isOwner_0 z, ⟨kX5_isOwner_1 z, ⟨kX5_isOwner_2 z, ⟨kX5_isOwner_3 z, ⟨kX5_isOwner_6 z, trivial⟩⟩⟩⟩⟩) (hd_X5_isOwner z) rfl rfl (by decide +kernel)
theorem hd_X5_isSymbol (z : XKT) : XHd z Y_X5_isSymbol := xHd_none rfl (xhd0 rfl)
theorem kX5_isSymbol_0 (z : XKT) : XOi z xInf Y_X5_isSymbol 0 (.inl (i_aload 0 1)) := ok_aload_n dX5_isSymbol_0 rfl
theorem kX5_isSymbol_1 (z : XKT) : XOi z xInf Y_X5_isSymbol 1 (.inl (i_geti [4] 52 4)) := ok_geti dX5_isSymbol_1 q2529 (List.forall_mem_cons.mpr ⟨⟨_, _, _, _, fd_52_4_0⟩, (fun _ h => absurd h List.not_mem_nil)⟩)
theorem kX5_isSymbol_4 (z : XKT) : XOi z xInf Y_X5_isSymbol 4 (.inl (i_if (fun x => ¬ x = 0) 32 7)) := ok_if_ne dX5_isSymbol_4 rfl
theorem kX5_isSymbol_7 (z : XKT) : XOi z xInf Y_X5_isSymbol 7 (.inl (i_aload 0 8)) := ok_aload_n dX5_isSymbol_7 rfl
theorem kX5_isSymbol_8 (z : XKT) : XOi z xInf Y_X5_isSymbol 8 (.inl (i_geti [4] 51 11)) := ok_geti dX5_isSymbol_8 q2528 (List.forall_mem_cons.mpr ⟨⟨_, _, _, _, fd_51_4_0⟩, (fun _ h => absurd h List.not_mem_nil)⟩)
theorem kX5_isSymbol_11 (z : XKT) : XOi z xInf Y_X5_isSymbol 11 (.inl (i_push (vI 3) 12)) := ok_iconst dX5_isSymbol_11 rfl
theorem kX5_isSymbol_12 (z : XKT) : XOi z xInf Y_X5_isSymbol 12 (.inl (i_icmp (fun x y => ¬ x = y) 32 15)) := ok_icmp_ne dX5_isSymbol_12 rfl
theorem kX5_isSymbol_15 (z : XKT) : XOi z xInf Y_X5_isSymbol 15 (.inl (i_aload 0 16)) := ok_aload_n dX5_isSymbol_15 rfl
theorem kX5_isSymbol_16 (z : XKT) : XOi z xInf Y_X5_isSymbol 16 (.inl (i_getr [4] 46 19)) := ok_getr dX5_isSymbol_16 q2523 (List.forall_mem_cons.mpr ⟨⟨_, _, _, _, fd_46_4_0⟩, (fun _ h => absurd h List.not_mem_nil)⟩)
theorem kX5_isSymbol_19 (z : XKT) : XOi z xInf Y_X5_isSymbol 19 (.inl (i_aload 0 20)) := ok_aload_n dX5_isSymbol_19 rfl
theorem kX5_isSymbol_20 (z : XKT) : XOi z xInf Y_X5_isSymbol 20 (.inl (i_geti [4] 50 23)) := ok_geti dX5_isSymbol_20 q2527 (List.forall_mem_cons.mpr ⟨⟨_, _, _, _, fd_50_4_0⟩, (fun _ h => absurd h List.not_mem_nil)⟩)
theorem kX5_isSymbol_23 (z : XKT) : XOi z xInf Y_X5_isSymbol 23 (.inl (i_ald 1000 24)) := ok_iald dX5_isSymbol_23
theorem kX5_isSymbol_24 (z : XKT) : XOi z xInf Y_X5_isSymbol 24 (.inl (i_iload 1 25)) := ok_iload_n dX5_isSymbol_24 rfl
theorem kX5_isSymbol_25 (z : XKT) : XOi z xInf Y_X5_isSymbol 25 (.inl (i_icmp (fun x y => ¬ x = y) 32 28)) := ok_icmp_ne dX5_isSymbol_25 rfl
theorem kX5_isSymbol_28 (z : XKT) : XOi z xInf Y_X5_isSymbol 28 (.inl (i_push (vI 1) 29)) := ok_iconst dX5_isSymbol_28 rfl
theorem kX5_isSymbol_29 (z : XKT) : XOi z xInf Y_X5_isSymbol 29 (.inl (i_goto 33)) := ok_goto dX5_isSymbol_29 rfl
theorem kX5_isSymbol_32 (z : XKT) : XOi z xInf Y_X5_isSymbol 32 (.inl (i_push (vI 0) 33)) := ok_iconst dX5_isSymbol_32 rfl
theorem kX5_isSymbol_33 (z : XKT) : XOi z xInf Y_X5_isSymbol 33 (.inr (.inr (.inl (r_i .boolean)))) := show XOkR Y_X5_isSymbol 33 ((r_i .boolean)) from okr_i (q := Y_X5_isSymbol) (ty := .boolean) rfl rfl dX5_isSymbol_33
theorem o_X5_isSymbol (z : XKT) : XMi z xInf Y_X5_isSymbol := XMi.mk9 (T := T_X5_isSymbol z) rfl (⟨kX5_isSymbol_0 z, ⟨kX5_isSymbol_1 z, ⟨kX5_isSymbol_4 z, ⟨kX5_isSymbol_7 z, ⟨kX5_isSymbol_8 z, ⟨kX5_isSymbol_11 z, ⟨kX5_isSymbol_12 z, ⟨kX5_isSymbol_15 z, ⟨kX5_isSymbol_16 z, ⟨kX5_isSymbol_19 z, ⟨kX5_isSymbol_20 z, ⟨kX5_isSymbol_23 z, ⟨kX5_isSymbol_24 z, ⟨kX5_isSymbol_25 z, ⟨kX5_isSymbol_28 z, ⟨kX5_isSymbol_29 z, ⟨kX5_isSymbol_32 z, ⟨kX5_isSymbol_33 z, trivial⟩⟩⟩⟩⟩⟩⟩⟩⟩⟩⟩⟩⟩⟩⟩⟩⟩⟩) (hd_X5_isSymbol z) rfl rfl (by decide +kernel)
theorem hd_X5_isWord (z : XKT) : XHd z Y_X5_isWord := xHd_none rfl (xhd0 rfl)
theorem kX5_isWord_0 (z : XKT) : XOi z xInf Y_X5_isWord 0 (.inl (i_aload 0 1)) := ok_aload_n dX5_isWord_0 rfl
theorem kX5_isWord_1 (z : XKT) : XOi z xInf Y_X5_isWord 1 (.inl (i_geti [4] 52 4)) := ok_geti dX5_isWord_1 q2529 (List.forall_mem_cons.mpr ⟨⟨_, _, _, _, fd_52_4_0⟩, (fun _ h => absurd h List.not_mem_nil)⟩)
theorem kX5_isWord_4 (z : XKT) : XOi z xInf Y_X5_isWord 4 (.inl (i_if (fun x => ¬ x = 0) 35 7)) := ok_if_ne dX5_isWord_4 rfl
theorem kX5_isWord_7 (z : XKT) : XOi z xInf Y_X5_isWord 7 (.inl (i_aload 0 8)) := ok_aload_n dX5_isWord_7 rfl
theorem kX5_isWord_8 (z : XKT) : XOi z xInf Y_X5_isWord 8 (.inl (i_geti [4] 51 11)) := ok_geti dX5_isWord_8 q2528 (List.forall_mem_cons.mpr ⟨⟨_, _, _, _, fd_51_4_0⟩, (fun _ h => absurd h List.not_mem_nil)⟩)
theorem kX5_isWord_11 (z : XKT) : XOi z xInf Y_X5_isWord 11 (.inl (i_push (vI 1) 12)) := ok_iconst dX5_isWord_11 rfl
theorem kX5_isWord_12 (z : XKT) : XOi z xInf Y_X5_isWord 12 (.inl (i_icmp (fun x y => ¬ x = y) 35 15)) := ok_icmp_ne dX5_isWord_12 rfl
theorem kX5_isWord_15 (z : XKT) : XOi z xInf Y_X5_isWord 15 (.inl (i_aload 1 16)) := ok_aload_n dX5_isWord_15 rfl
theorem kX5_isWord_16 (z : XKT) : XOi z xInf Y_X5_isWord 16 (.inr (.inl (19, g_virt [(20, 383)] 0))) := show XOkC z xInf Y_X5_isWord 16 19 (g_virt [(20, 383)] 0) from okc_V (q := Y_X5_isWord) (List.forall_mem_cons.mpr ⟨(show XOkV z xInf Y_X5_isWord 16 19 0 (20, 383) from okv_V (q := Y_X5_isWord) (q1 := Y_J9_length) Z_J9_length rfl (by decide) ⟨by decide, by decide, Or.inl ⟨_, _, (List.mem_of_getElem? (l := xCls) (i := 19) rfl)⟩⟩ dX5_isWord_16 q3071 q363 q364 q136 q365 hy_185), (fun _ h => absurd h List.not_mem_nil)⟩)
theorem kX5_isWord_19 (z : XKT) : XOi z xInf Y_X5_isWord 19 (.inl (i_aload 0 20)) := ok_aload_n dX5_isWord_19 rfl
theorem kX5_isWord_20 (z : XKT) : XOi z xInf Y_X5_isWord 20 (.inl (i_geti [4] 49 23)) := ok_geti dX5_isWord_20 q2526 (List.forall_mem_cons.mpr ⟨⟨_, _, _, _, fd_49_4_0⟩, (fun _ h => absurd h List.not_mem_nil)⟩)
theorem kX5_isWord_23 (z : XKT) : XOi z xInf Y_X5_isWord 23 (.inl (i_aload 0 24)) := ok_aload_n dX5_isWord_23 rfl
theorem kX5_isWord_24 (z : XKT) : XOi z xInf Y_X5_isWord 24 (.inl (i_geti [4] 50 27)) := ok_geti dX5_isWord_24 q2527 (List.forall_mem_cons.mpr ⟨⟨_, _, _, _, fd_50_4_0⟩, (fun _ h => absurd h List.not_mem_nil)⟩)
theorem kX5_isWord_27 (z : XKT) : XOi z xInf Y_X5_isWord 27 (.inl (i_bin (fun x y => x - y) 28)) := ok_isub dX5_isWord_27
theorem kX5_isWord_28 (z : XKT) : XOi z xInf Y_X5_isWord 28 (.inl (i_icmp (fun x y => ¬ x = y) 35 31)) := ok_icmp_ne dX5_isWord_28 rfl
theorem kX5_isWord_31 (z : XKT) : XOi z xInf Y_X5_isWord 31 (.inl (i_push (vI 1) 32)) := ok_iconst dX5_isWord_31 rfl
theorem kX5_isWord_32 (z : XKT) : XOi z xInf Y_X5_isWord 32 (.inl (i_goto 36)) := ok_goto dX5_isWord_32 rfl
theorem kX5_isWord_35 (z : XKT) : XOi z xInf Y_X5_isWord 35 (.inl (i_push (vI 0) 36)) := ok_iconst dX5_isWord_35 rfl
theorem kX5_isWord_36 (z : XKT) : XOi z xInf Y_X5_isWord 36 (.inl (i_istore 2 37)) := ok_istore_n dX5_isWord_36 rfl
theorem kX5_isWord_37 (z : XKT) : XOi z xInf Y_X5_isWord 37 (.inl (i_push (vI 0) 38)) := ok_iconst dX5_isWord_37 rfl
theorem kX5_isWord_38 (z : XKT) : XOi z xInf Y_X5_isWord 38 (.inl (i_istore 3 39)) := ok_istore_n dX5_isWord_38 rfl
theorem kX5_isWord_39 (z : XKT) : XOi z xInf Y_X5_isWord 39 (.inl (i_iload 2 40)) := ok_iload_n dX5_isWord_39 rfl
theorem kX5_isWord_40 (z : XKT) : XOi z xInf Y_X5_isWord 40 (.inl (i_if (fun x => x = 0) 82 43)) := ok_if_eq dX5_isWord_40 rfl
theorem kX5_isWord_43 (z : XKT) : XOi z xInf Y_X5_isWord 43 (.inl (i_iload 3 44)) := ok_iload_n dX5_isWord_43 rfl
theorem kX5_isWord_44 (z : XKT) : XOi z xInf Y_X5_isWord 44 (.inl (i_aload 1 45)) := ok_aload_n dX5_isWord_44 rfl
theorem kX5_isWord_45 (z : XKT) : XOi z xInf Y_X5_isWord 45 (.inr (.inl (48, g_virt [(20, 383)] 0))) := show XOkC z xInf Y_X5_isWord 45 48 (g_virt [(20, 383)] 0) from okc_V (q := Y_X5_isWord) (List.forall_mem_cons.mpr ⟨(show XOkV z xInf Y_X5_isWord 45 48 0 (20, 383) from okv_V (q := Y_X5_isWord) (q1 := Y_J9_length) Z_J9_length rfl (by decide) ⟨by decide, by decide, Or.inl ⟨_, _, (List.mem_of_getElem? (l := xCls) (i := 19) rfl)⟩⟩ dX5_isWord_45 q3071 q363 q364 q136 q365 hy_185), (fun _ h => absurd h List.not_mem_nil)⟩)
theorem kX5_isWord_48 (z : XKT) : XOi z xInf Y_X5_isWord 48 (.inl (i_icmp (fun x y => y ≤ x) 82 51)) := ok_icmp_ge dX5_isWord_48 rfl
theorem kX5_isWord_51 (z : XKT) : XOi z xInf Y_X5_isWord 51 (.inl (i_aload 1 52)) := ok_aload_n dX5_isWord_51 rfl
theorem kX5_isWord_52 (z : XKT) : XOi z xInf Y_X5_isWord 52 (.inl (i_iload 3 53)) := ok_iload_n dX5_isWord_52 rfl
theorem kX5_isWord_53 (z : XKT) : XOi z xInf Y_X5_isWord 53 (.inr (.inl (56, g_virt [(20, 374)] 1))) := show XOkC z xInf Y_X5_isWord 53 56 (g_virt [(20, 374)] 1) from okc_V (q := Y_X5_isWord) (List.forall_mem_cons.mpr ⟨(show XOkV z xInf Y_X5_isWord 53 56 1 (20, 374) from okv_V (q := Y_X5_isWord) (q1 := Y_J9_charAt) Z_J9_charAt rfl (by decide) ⟨by decide, by decide, Or.inl ⟨_, _, (List.mem_of_getElem? (l := xCls) (i := 19) rfl)⟩⟩ dX5_isWord_53 q3072 q1688 q1689 q136 q1690 hy_181), (fun _ h => absurd h List.not_mem_nil)⟩)
theorem kX5_isWord_56 (z : XKT) : XOi z xInf Y_X5_isWord 56 (.inl (i_aload 0 57)) := ok_aload_n dX5_isWord_56 rfl
theorem kX5_isWord_57 (z : XKT) : XOi z xInf Y_X5_isWord 57 (.inl (i_getr [4] 46 60)) := ok_getr dX5_isWord_57 q2523 (List.forall_mem_cons.mpr ⟨⟨_, _, _, _, fd_46_4_0⟩, (fun _ h => absurd h List.not_mem_nil)⟩)
theorem kX5_isWord_60 (z : XKT) : XOi z xInf Y_X5_isWord 60 (.inl (i_aload 0 61)) := ok_aload_n dX5_isWord_60 rfl
theorem kX5_isWord_61 (z : XKT) : XOi z xInf Y_X5_isWord 61 (.inl (i_geti [4] 50 64)) := ok_geti dX5_isWord_61 q2527 (List.forall_mem_cons.mpr ⟨⟨_, _, _, _, fd_50_4_0⟩, (fun _ h => absurd h List.not_mem_nil)⟩)
theorem kX5_isWord_64 (z : XKT) : XOi z xInf Y_X5_isWord 64 (.inl (i_iload 3 65)) := ok_iload_n dX5_isWord_64 rfl
theorem kX5_isWord_65 (z : XKT) : XOi z xInf Y_X5_isWord 65 (.inl (i_bin (fun x y => x + y) 66)) := ok_iadd dX5_isWord_65
theorem kX5_isWord_66 (z : XKT) : XOi z xInf Y_X5_isWord 66 (.inl (i_ald 1000 67)) := ok_iald dX5_isWord_66
theorem kX5_isWord_67 (z : XKT) : XOi z xInf Y_X5_isWord 67 (.inl (i_icmp (fun x y => ¬ x = y) 74 70)) := ok_icmp_ne dX5_isWord_67 rfl
theorem kX5_isWord_70 (z : XKT) : XOi z xInf Y_X5_isWord 70 (.inl (i_push (vI 1) 71)) := ok_iconst dX5_isWord_70 rfl
theorem kX5_isWord_71 (z : XKT) : XOi z xInf Y_X5_isWord 71 (.inl (i_goto 75)) := ok_goto dX5_isWord_71 rfl
theorem kX5_isWord_74 (z : XKT) : XOi z xInf Y_X5_isWord 74 (.inl (i_push (vI 0) 75)) := ok_iconst dX5_isWord_74 rfl
theorem kX5_isWord_75 (z : XKT) : XOi z xInf Y_X5_isWord 75 (.inl (i_istore 2 76)) := ok_istore_n dX5_isWord_75 rfl
theorem kX5_isWord_76 (z : XKT) : XOi z xInf Y_X5_isWord 76 (.inl (i_iinc 3 1 79)) := ok_iinc dX5_isWord_76 rfl
theorem kX5_isWord_79 (z : XKT) : XOi z xInf Y_X5_isWord 79 (.inl (i_goto 39)) := ok_goto dX5_isWord_79 rfl
theorem kX5_isWord_82 (z : XKT) : XOi z xInf Y_X5_isWord 82 (.inl (i_iload 2 83)) := ok_iload_n dX5_isWord_82 rfl
theorem kX5_isWord_83 (z : XKT) : XOi z xInf Y_X5_isWord 83 (.inr (.inr (.inl (r_i .boolean)))) := show XOkR Y_X5_isWord 83 ((r_i .boolean)) from okr_i (q := Y_X5_isWord) (ty := .boolean) rfl rfl dX5_isWord_83
theorem o_X5_isWord (z : XKT) : XMi z xInf Y_X5_isWord := XMi.mk9 (T := T_X5_isWord z) rfl (⟨kX5_isWord_0 z, ⟨kX5_isWord_1 z, ⟨kX5_isWord_4 z, ⟨kX5_isWord_7 z, ⟨kX5_isWord_8 z, ⟨kX5_isWord_11 z, ⟨kX5_isWord_12 z, ⟨kX5_isWord_15 z, ⟨kX5_isWord_16 z, ⟨kX5_isWord_19 z, ⟨kX5_isWord_20 z, ⟨kX5_isWord_23 z, ⟨kX5_isWord_24 z, ⟨kX5_isWord_27 z, ⟨kX5_isWord_28 z, ⟨kX5_isWord_31 z, ⟨kX5_isWord_32 z, ⟨kX5_isWord_35 z, ⟨kX5_isWord_36 z, ⟨kX5_isWord_37 z, ⟨kX5_isWord_38 z, ⟨kX5_isWord_39 z, ⟨kX5_isWord_40 z, ⟨kX5_isWord_43 z, ⟨kX5_isWord_44 z, ⟨kX5_isWord_45 z, ⟨kX5_isWord_48 z, ⟨kX5_isWord_51 z, ⟨kX5_isWord_52 z, ⟨kX5_isWord_53 z, ⟨kX5_isWord_56 z, ⟨kX5_isWord_57 z, ⟨kX5_isWord_60 z, ⟨kX5_isWord_61 z, ⟨kX5_isWord_64 z, ⟨kX5_isWord_65 z, ⟨kX5_isWord_66 z, ⟨kX5_isWord_67 z, ⟨kX5_isWord_70 z, ⟨kX5_isWord_71 z, ⟨kX5_isWord_74 z, ⟨kX5_isWord_75 z, ⟨kX5_isWord_76 z, ⟨kX5_isWord_79 z, ⟨kX5_isWord_82 z, ⟨kX5_isWord_83 z, trivial⟩⟩⟩⟩⟩⟩⟩⟩⟩⟩⟩⟩⟩⟩⟩⟩⟩⟩⟩⟩⟩⟩⟩⟩⟩⟩⟩⟩⟩⟩⟩⟩⟩⟩⟩⟩⟩⟩⟩⟩⟩⟩⟩⟩⟩⟩) (hd_X5_isWord z) rfl rfl (by decide +kernel)
theorem hd_X5_keep (z : XKT) : XHd z Y_X5_keep := xHd_none rfl (xhd0 rfl)
theorem kX5_keep_0 (z : XKT) : XOi z xInf Y_X5_keep 0 (.inl (i_aload 0 1)) := ok_aload_n dX5_keep_0 rfl
theorem kX5_keep_1 (z : XKT) : XOi z xInf Y_X5_keep 1 (.inl (i_getr [4] 30 4)) := ok_getr dX5_keep_1 q2507 (List.forall_mem_cons.mpr ⟨⟨_, _, _, _, fd_30_4_0⟩, (fun _ h => absurd h List.not_mem_nil)⟩)
theorem kX5_keep_4 (z : XKT) : XOi z xInf Y_X5_keep 4 (.inl (i_push (vI 0) 5)) := ok_iconst dX5_keep_4 rfl
theorem kX5_keep_5 (z : XKT) : XOi z xInf Y_X5_keep 5 (.inl (i_aload 0 6)) := ok_aload_n dX5_keep_5 rfl
theorem kX5_keep_6 (z : XKT) : XOi z xInf Y_X5_keep 6 (.inl (i_getr [4] 32 9)) := ok_getr dX5_keep_6 q2509 (List.forall_mem_cons.mpr ⟨⟨_, _, _, _, fd_32_4_0⟩, (fun _ h => absurd h List.not_mem_nil)⟩)
theorem kX5_keep_9 (z : XKT) : XOi z xInf Y_X5_keep 9 (.inl (i_push (vI 0) 10)) := ok_iconst dX5_keep_9 rfl
theorem kX5_keep_10 (z : XKT) : XOi z xInf Y_X5_keep 10 (.inr (.inl (13, g_stat 183 4))) := show XOkC z xInf Y_X5_keep 10 13 (g_stat 183 4) from okc_S (q := Y_X5_keep) (q1 := Y_X5_copy) Z_X5_copy rfl (by decide) dX5_keep_10 q2882 q2883 q153 q2884 hy_318
theorem kX5_keep_13 (z : XKT) : XOi z xInf Y_X5_keep 13 (.inr (.inr (.inl r_v))) := show XOkR Y_X5_keep 13 (r_v) from okr_v (q := Y_X5_keep) rfl dX5_keep_13
theorem o_X5_keep (z : XKT) : XMi z xInf Y_X5_keep := XMi.mk9 (T := T_X5_keep z) rfl (⟨kX5_keep_0 z, ⟨kX5_keep_1 z, ⟨kX5_keep_4 z, ⟨kX5_keep_5 z, ⟨kX5_keep_6 z, ⟨kX5_keep_9 z, ⟨kX5_keep_10 z, ⟨kX5_keep_13 z, trivial⟩⟩⟩⟩⟩⟩⟩⟩) (hd_X5_keep z) rfl rfl (by decide +kernel)
theorem hd_X5_kindHere (z : XKT) : XHd z Y_X5_kindHere := xHd_none rfl (xhd0 rfl)
theorem kX5_kindHere_0 (z : XKT) : XOi z xInf Y_X5_kindHere 0 (.inl (i_push (vI 0) 1)) := ok_iconst dX5_kindHere_0 rfl
theorem kX5_kindHere_1 (z : XKT) : XOi z xInf Y_X5_kindHere 1 (.inl (i_istore 1 2)) := ok_istore_n dX5_kindHere_1 rfl
theorem kX5_kindHere_2 (z : XKT) : XOi z xInf Y_X5_kindHere 2 (.inl (i_iload 1 3)) := ok_iload_n dX5_kindHere_2 rfl
theorem kX5_kindHere_3 (z : XKT) : XOi z xInf Y_X5_kindHere 3 (.inl (i_push (vI 4) 4)) := ok_iconst dX5_kindHere_3 rfl
theorem kX5_kindHere_4 (z : XKT) : XOi z xInf Y_X5_kindHere 4 (.inl (i_icmp (fun x y => y ≤ x) 28 7)) := ok_icmp_ge dX5_kindHere_4 rfl
theorem kX5_kindHere_7 (z : XKT) : XOi z xInf Y_X5_kindHere 7 (.inl (i_aload 0 8)) := ok_aload_n dX5_kindHere_7 rfl
theorem kX5_kindHere_8 (z : XKT) : XOi z xInf Y_X5_kindHere 8 (.inl (i_aload 0 9)) := ok_aload_n dX5_kindHere_8 rfl
theorem kX5_kindHere_9 (z : XKT) : XOi z xInf Y_X5_kindHere 9 (.inl (i_getr [4] 39 12)) := ok_getr dX5_kindHere_9 q2516 (List.forall_mem_cons.mpr ⟨⟨_, _, _, _, fd_39_4_0⟩, (fun _ h => absurd h List.not_mem_nil)⟩)
theorem kX5_kindHere_12 (z : XKT) : XOi z xInf Y_X5_kindHere 12 (.inl (i_iload 1 13)) := ok_iload_n dX5_kindHere_12 rfl
theorem kX5_kindHere_13 (z : XKT) : XOi z xInf Y_X5_kindHere 13 (.inl (i_arld [1003, 1004, 1005, 1006, 1007] 14)) := ok_arld (by decide) dX5_kindHere_13
theorem kX5_kindHere_14 (z : XKT) : XOi z xInf Y_X5_kindHere 14 (.inr (.inl (17, g_virt [(4, 237)] 1))) := show XOkC z xInf Y_X5_kindHere 14 17 (g_virt [(4, 237)] 1) from okc_V (q := Y_X5_kindHere) (List.forall_mem_cons.mpr ⟨(show XOkV z xInf Y_X5_kindHere 14 17 1 (4, 237) from okv_V (q := Y_X5_kindHere) (q1 := Y_X5_isWord) Z_X5_isWord rfl (by decide) ⟨by decide, by decide, Or.inl ⟨_, _, (List.mem_of_getElem? (l := xCls) (i := 3) rfl)⟩⟩ dX5_kindHere_14 q3067 q3069 qs108 q153 q3070 hy_259), (fun _ h => absurd h List.not_mem_nil)⟩)
theorem kX5_kindHere_17 (z : XKT) : XOi z xInf Y_X5_kindHere 17 (.inl (i_if (fun x => x = 0) 22 20)) := ok_if_eq dX5_kindHere_17 rfl
theorem kX5_kindHere_20 (z : XKT) : XOi z xInf Y_X5_kindHere 20 (.inl (i_iload 1 21)) := ok_iload_n dX5_kindHere_20 rfl
theorem kX5_kindHere_21 (z : XKT) : XOi z xInf Y_X5_kindHere 21 (.inr (.inr (.inl (r_i .int)))) := show XOkR Y_X5_kindHere 21 ((r_i .int)) from okr_i (q := Y_X5_kindHere) (ty := .int) rfl rfl dX5_kindHere_21
theorem kX5_kindHere_22 (z : XKT) : XOi z xInf Y_X5_kindHere 22 (.inl (i_iinc 1 1 25)) := ok_iinc dX5_kindHere_22 rfl
theorem kX5_kindHere_25 (z : XKT) : XOi z xInf Y_X5_kindHere 25 (.inl (i_goto 2)) := ok_goto dX5_kindHere_25 rfl
theorem kX5_kindHere_28 (z : XKT) : XOi z xInf Y_X5_kindHere 28 (.inl (i_push (vI (-1)) 29)) := ok_iconst dX5_kindHere_28 rfl
theorem kX5_kindHere_29 (z : XKT) : XOi z xInf Y_X5_kindHere 29 (.inr (.inr (.inl (r_i .int)))) := show XOkR Y_X5_kindHere 29 ((r_i .int)) from okr_i (q := Y_X5_kindHere) (ty := .int) rfl rfl dX5_kindHere_29
theorem o_X5_kindHere (z : XKT) : XMi z xInf Y_X5_kindHere := XMi.mk9 (T := T_X5_kindHere z) rfl (⟨kX5_kindHere_0 z, ⟨kX5_kindHere_1 z, ⟨kX5_kindHere_2 z, ⟨kX5_kindHere_3 z, ⟨kX5_kindHere_4 z, ⟨kX5_kindHere_7 z, ⟨kX5_kindHere_8 z, ⟨kX5_kindHere_9 z, ⟨kX5_kindHere_12 z, ⟨kX5_kindHere_13 z, ⟨kX5_kindHere_14 z, ⟨kX5_kindHere_17 z, ⟨kX5_kindHere_20 z, ⟨kX5_kindHere_21 z, ⟨kX5_kindHere_22 z, ⟨kX5_kindHere_25 z, ⟨kX5_kindHere_28 z, ⟨kX5_kindHere_29 z, trivial⟩⟩⟩⟩⟩⟩⟩⟩⟩⟩⟩⟩⟩⟩⟩⟩⟩⟩) (hd_X5_kindHere z) rfl rfl (by decide +kernel)
theorem hd_X5_lacks (z : XKT) : XHd z Y_X5_lacks := xHd_none rfl (xhd0 rfl)
theorem kX5_lacks_0 (z : XKT) : XOi z xInf Y_X5_lacks 0 (.inl (i_aload 0 1)) := ok_aload_n dX5_lacks_0 rfl
theorem kX5_lacks_1 (z : XKT) : XOi z xInf Y_X5_lacks 1 (.inl (i_iload 1 2)) := ok_iload_n dX5_lacks_1 rfl
theorem kX5_lacks_2 (z : XKT) : XOi z xInf Y_X5_lacks 2 (.inl (i_if (fun x => x = 0) 9 5)) := ok_if_eq dX5_lacks_2 rfl
theorem kX5_lacks_5 (z : XKT) : XOi z xInf Y_X5_lacks 5 (.inl (i_push (vI 0) 6)) := ok_iconst dX5_lacks_5 rfl
theorem kX5_lacks_6 (z : XKT) : XOi z xInf Y_X5_lacks 6 (.inl (i_goto 10)) := ok_goto dX5_lacks_6 rfl
theorem kX5_lacks_9 (z : XKT) : XOi z xInf Y_X5_lacks 9 (.inl (i_push (vI 1) 10)) := ok_iconst dX5_lacks_9 rfl
theorem kX5_lacks_10 (z : XKT) : XOi z xInf Y_X5_lacks 10 (.inl (i_puti z.1 [4] .int 42 13)) := ok_puti dX5_lacks_10 q2519 rfl (List.forall_mem_cons.mpr ⟨⟨_, _, _, _, tyX5, fd_42_4_0, ⟨tyX5_ok, nmX5, (Or.inl rfl)⟩, rfl⟩, (fun _ h => absurd h List.not_mem_nil)⟩)
theorem kX5_lacks_13 (z : XKT) : XOi z xInf Y_X5_lacks 13 (.inl (i_iload 1 14)) := ok_iload_n dX5_lacks_13 rfl
theorem kX5_lacks_14 (z : XKT) : XOi z xInf Y_X5_lacks 14 (.inl (i_if (fun x => ¬ x = 0) 21 17)) := ok_if_ne dX5_lacks_14 rfl
theorem kX5_lacks_17 (z : XKT) : XOi z xInf Y_X5_lacks 17 (.inl (i_push (vI 1) 18)) := ok_iconst dX5_lacks_17 rfl
theorem kX5_lacks_18 (z : XKT) : XOi z xInf Y_X5_lacks 18 (.inl (i_goto 22)) := ok_goto dX5_lacks_18 rfl
theorem kX5_lacks_21 (z : XKT) : XOi z xInf Y_X5_lacks 21 (.inl (i_push (vI 0) 22)) := ok_iconst dX5_lacks_21 rfl
theorem kX5_lacks_22 (z : XKT) : XOi z xInf Y_X5_lacks 22 (.inr (.inr (.inl (r_i .boolean)))) := show XOkR Y_X5_lacks 22 ((r_i .boolean)) from okr_i (q := Y_X5_lacks) (ty := .boolean) rfl rfl dX5_lacks_22
theorem o_X5_lacks (z : XKT) : XMi z xInf Y_X5_lacks := XMi.mk9 (T := T_X5_lacks z) rfl (⟨kX5_lacks_0 z, ⟨kX5_lacks_1 z, ⟨kX5_lacks_2 z, ⟨kX5_lacks_5 z, ⟨kX5_lacks_6 z, ⟨kX5_lacks_9 z, ⟨kX5_lacks_10 z, ⟨kX5_lacks_13 z, ⟨kX5_lacks_14 z, ⟨kX5_lacks_17 z, ⟨kX5_lacks_18 z, ⟨kX5_lacks_21 z, ⟨kX5_lacks_22 z, trivial⟩⟩⟩⟩⟩⟩⟩⟩⟩⟩⟩⟩⟩) (hd_X5_lacks z) rfl rfl (by decide +kernel)
theorem hd_X5_lay (z : XKT) : XHd z Y_X5_lay := xHd_none rfl (xhd0 rfl)
theorem kX5_lay_0 (z : XKT) : XOi z xInf Y_X5_lay 0 (.inl (i_aload 0 1)) := ok_aload_n dX5_lay_0 rfl
theorem kX5_lay_1 (z : XKT) : XOi z xInf Y_X5_lay 1 (.inl (i_getr [4] 40 4)) := ok_getr dX5_lay_1 q2517 (List.forall_mem_cons.mpr ⟨⟨_, _, _, _, fd_40_4_0⟩, (fun _ h => absurd h List.not_mem_nil)⟩)
theorem kX5_lay_4 (z : XKT) : XOi z xInf Y_X5_lay 4 (.inl (i_push (vI 36) 6)) := ok_bipush dX5_lay_4 rfl
theorem kX5_lay_6 (z : XKT) : XOi z xInf Y_X5_lay 6 (.inl (i_push (vI 18) 8)) := ok_bipush dX5_lay_6 rfl
theorem kX5_lay_8 (z : XKT) : XOi z xInf Y_X5_lay 8 (.inl (i_iload 1 9)) := ok_iload_n dX5_lay_8 rfl
theorem kX5_lay_9 (z : XKT) : XOi z xInf Y_X5_lay 9 (.inl (i_bin (fun x y => x * y) 10)) := ok_imul dX5_lay_9
theorem kX5_lay_10 (z : XKT) : XOi z xInf Y_X5_lay 10 (.inl (i_bin (fun x y => x + y) 11)) := ok_iadd dX5_lay_10
theorem kX5_lay_11 (z : XKT) : XOi z xInf Y_X5_lay 11 (.inl (i_iload 2 12)) := ok_iload_n dX5_lay_11 rfl
theorem kX5_lay_12 (z : XKT) : XOi z xInf Y_X5_lay 12 (.inl (i_bin (fun x y => x + y) 13)) := ok_iadd dX5_lay_12
theorem kX5_lay_13 (z : XKT) : XOi z xInf Y_X5_lay 13 (.inl (i_iload 3 14)) := ok_iload_n dX5_lay_13 rfl
theorem kX5_lay_14 (z : XKT) : XOi z xInf Y_X5_lay 14 (.inl (i_ast z.1 1000 (fun x => x) 15)) := ok_iast dX5_lay_14
theorem kX5_lay_15 (z : XKT) : XOi z xInf Y_X5_lay 15 (.inr (.inr (.inl r_v))) := show XOkR Y_X5_lay 15 (r_v) from okr_v (q := Y_X5_lay) rfl dX5_lay_15
theorem o_X5_lay (z : XKT) : XMi z xInf Y_X5_lay := XMi.mk9 (T := T_X5_lay z) rfl (⟨kX5_lay_0 z, ⟨kX5_lay_1 z, ⟨kX5_lay_4 z, ⟨kX5_lay_6 z, ⟨kX5_lay_8 z, ⟨kX5_lay_9 z, ⟨kX5_lay_10 z, ⟨kX5_lay_11 z, ⟨kX5_lay_12 z, ⟨kX5_lay_13 z, ⟨kX5_lay_14 z, ⟨kX5_lay_15 z, trivial⟩⟩⟩⟩⟩⟩⟩⟩⟩⟩⟩⟩) (hd_X5_lay z) rfl rfl (by decide +kernel)
theorem hd_X5_layFinder (z : XKT) : XHd z Y_X5_layFinder := xHd_none rfl (xhd0 rfl)
theorem kX5_layFinder_0 (z : XKT) : XOi z xInf Y_X5_layFinder 0 (.inl (i_aload 0 1)) := ok_aload_n dX5_layFinder_0 rfl
theorem kX5_layFinder_1 (z : XKT) : XOi z xInf Y_X5_layFinder 1 (.inl (i_getr [4] 40 4)) := ok_getr dX5_layFinder_1 q2517 (List.forall_mem_cons.mpr ⟨⟨_, _, _, _, fd_40_4_0⟩, (fun _ h => absurd h List.not_mem_nil)⟩)
theorem kX5_layFinder_4 (z : XKT) : XOi z xInf Y_X5_layFinder 4 (.inl (i_push (vI 20) 6)) := ok_bipush dX5_layFinder_4 rfl
theorem kX5_layFinder_6 (z : XKT) : XOi z xInf Y_X5_layFinder 6 (.inl (i_push (vI 2) 7)) := ok_iconst dX5_layFinder_6 rfl
theorem kX5_layFinder_7 (z : XKT) : XOi z xInf Y_X5_layFinder 7 (.inl (i_iload 1 8)) := ok_iload_n dX5_layFinder_7 rfl
theorem kX5_layFinder_8 (z : XKT) : XOi z xInf Y_X5_layFinder 8 (.inl (i_bin (fun x y => x * y) 9)) := ok_imul dX5_layFinder_8
theorem kX5_layFinder_9 (z : XKT) : XOi z xInf Y_X5_layFinder 9 (.inl (i_bin (fun x y => x + y) 10)) := ok_iadd dX5_layFinder_9
theorem kX5_layFinder_10 (z : XKT) : XOi z xInf Y_X5_layFinder 10 (.inl (i_iload 2 11)) := ok_iload_n dX5_layFinder_10 rfl
theorem kX5_layFinder_11 (z : XKT) : XOi z xInf Y_X5_layFinder 11 (.inl (i_bin (fun x y => x + y) 12)) := ok_iadd dX5_layFinder_11
theorem kX5_layFinder_12 (z : XKT) : XOi z xInf Y_X5_layFinder 12 (.inl (i_iload 3 13)) := ok_iload_n dX5_layFinder_12 rfl
theorem kX5_layFinder_13 (z : XKT) : XOi z xInf Y_X5_layFinder 13 (.inl (i_ast z.1 1000 (fun x => x) 14)) := ok_iast dX5_layFinder_13
theorem kX5_layFinder_14 (z : XKT) : XOi z xInf Y_X5_layFinder 14 (.inr (.inr (.inl r_v))) := show XOkR Y_X5_layFinder 14 (r_v) from okr_v (q := Y_X5_layFinder) rfl dX5_layFinder_14
theorem o_X5_layFinder (z : XKT) : XMi z xInf Y_X5_layFinder := XMi.mk9 (T := T_X5_layFinder z) rfl (⟨kX5_layFinder_0 z, ⟨kX5_layFinder_1 z, ⟨kX5_layFinder_4 z, ⟨kX5_layFinder_6 z, ⟨kX5_layFinder_7 z, ⟨kX5_layFinder_8 z, ⟨kX5_layFinder_9 z, ⟨kX5_layFinder_10 z, ⟨kX5_layFinder_11 z, ⟨kX5_layFinder_12 z, ⟨kX5_layFinder_13 z, ⟨kX5_layFinder_14 z, trivial⟩⟩⟩⟩⟩⟩⟩⟩⟩⟩⟩⟩) (hd_X5_layFinder z) rfl rfl (by decide +kernel)
theorem hd_X5_letGo (z : XKT) : XHd z Y_X5_letGo := xHd_none rfl (xhd0 rfl)
theorem kX5_letGo_0 (z : XKT) : XOi z xInf Y_X5_letGo 0 (.inl (i_push (vI 0) 1)) := ok_iconst dX5_letGo_0 rfl
theorem kX5_letGo_1 (z : XKT) : XOi z xInf Y_X5_letGo 1 (.inl (i_istore 2 2)) := ok_istore_n dX5_letGo_1 rfl
theorem kX5_letGo_2 (z : XKT) : XOi z xInf Y_X5_letGo 2 (.inl (i_iload 2 3)) := ok_iload_n dX5_letGo_2 rfl
theorem kX5_letGo_3 (z : XKT) : XOi z xInf Y_X5_letGo 3 (.inl (i_aload 0 4)) := ok_aload_n dX5_letGo_3 rfl
theorem kX5_letGo_4 (z : XKT) : XOi z xInf Y_X5_letGo 4 (.inl (i_iload 1 5)) := ok_iload_n dX5_letGo_4 rfl
theorem kX5_letGo_5 (z : XKT) : XOi z xInf Y_X5_letGo 5 (.inl (i_push (vI 9) 7)) := ok_bipush dX5_letGo_5 rfl
theorem kX5_letGo_7 (z : XKT) : XOi z xInf Y_X5_letGo 7 (.inr (.inl (10, g_virt [(4, 253)] 2))) := show XOkC z xInf Y_X5_letGo 7 10 (g_virt [(4, 253)] 2) from okc_V (q := Y_X5_letGo) (List.forall_mem_cons.mpr ⟨(show XOkV z xInf Y_X5_letGo 7 10 2 (4, 253) from okv_V (q := Y_X5_letGo) (q1 := Y_X5_of) Z_X5_of rfl (by decide) ⟨by decide, by decide, Or.inl ⟨_, _, (List.mem_of_getElem? (l := xCls) (i := 3) rfl)⟩⟩ dX5_letGo_7 q2622 q2624 qs50 q153 q2625 hy_265), (fun _ h => absurd h List.not_mem_nil)⟩)
theorem kX5_letGo_10 (z : XKT) : XOi z xInf Y_X5_letGo 10 (.inl (i_icmp (fun x y => y ≤ x) 31 13)) := ok_icmp_ge dX5_letGo_10 rfl
theorem kX5_letGo_13 (z : XKT) : XOi z xInf Y_X5_letGo 13 (.inl (i_aload 0 14)) := ok_aload_n dX5_letGo_13 rfl
theorem kX5_letGo_14 (z : XKT) : XOi z xInf Y_X5_letGo 14 (.inl (i_aload 0 15)) := ok_aload_n dX5_letGo_14 rfl
theorem kX5_letGo_15 (z : XKT) : XOi z xInf Y_X5_letGo 15 (.inl (i_iload 1 16)) := ok_iload_n dX5_letGo_15 rfl
theorem kX5_letGo_16 (z : XKT) : XOi z xInf Y_X5_letGo 16 (.inl (i_iload 2 17)) := ok_iload_n dX5_letGo_16 rfl
theorem kX5_letGo_17 (z : XKT) : XOi z xInf Y_X5_letGo 17 (.inr (.inl (20, g_virt [(4, 223)] 2))) := show XOkC z xInf Y_X5_letGo 17 20 (g_virt [(4, 223)] 2) from okc_V (q := Y_X5_letGo) (List.forall_mem_cons.mpr ⟨(show XOkV z xInf Y_X5_letGo 17 20 2 (4, 223) from okv_V (q := Y_X5_letGo) (q1 := Y_X5_handOf) Z_X5_handOf rfl (by decide) ⟨by decide, by decide, Or.inl ⟨_, _, (List.mem_of_getElem? (l := xCls) (i := 3) rfl)⟩⟩ dX5_letGo_17 q2674 q2676 qs60 q153 q2677 hy_287), (fun _ h => absurd h List.not_mem_nil)⟩)
theorem kX5_letGo_20 (z : XKT) : XOi z xInf Y_X5_letGo 20 (.inl (i_push (vI 1) 21)) := ok_iconst dX5_letGo_20 rfl
theorem kX5_letGo_21 (z : XKT) : XOi z xInf Y_X5_letGo 21 (.inl (i_push (vI (-1)) 22)) := ok_iconst dX5_letGo_21 rfl
theorem kX5_letGo_22 (z : XKT) : XOi z xInf Y_X5_letGo 22 (.inr (.inl (25, g_virt [(4, 242)] 3))) := show XOkC z xInf Y_X5_letGo 22 25 (g_virt [(4, 242)] 3) from okc_V (q := Y_X5_letGo) (List.forall_mem_cons.mpr ⟨(show XOkV z xInf Y_X5_letGo 22 25 3 (4, 242) from okv_V (q := Y_X5_letGo) (q1 := Y_X5_layFinder) Z_X5_layFinder rfl (by decide) ⟨by decide, by decide, Or.inl ⟨_, _, (List.mem_of_getElem? (l := xCls) (i := 3) rfl)⟩⟩ dX5_letGo_22 q2495 q2497 qs43 q153 q2498 hy_266), (fun _ h => absurd h List.not_mem_nil)⟩)
theorem kX5_letGo_25 (z : XKT) : XOi z xInf Y_X5_letGo 25 (.inl (i_iinc 2 1 28)) := ok_iinc dX5_letGo_25 rfl
theorem kX5_letGo_28 (z : XKT) : XOi z xInf Y_X5_letGo 28 (.inl (i_goto 2)) := ok_goto dX5_letGo_28 rfl
theorem kX5_letGo_31 (z : XKT) : XOi z xInf Y_X5_letGo 31 (.inr (.inr (.inl r_v))) := show XOkR Y_X5_letGo 31 (r_v) from okr_v (q := Y_X5_letGo) rfl dX5_letGo_31
theorem o_X5_letGo (z : XKT) : XMi z xInf Y_X5_letGo := XMi.mk9 (T := T_X5_letGo z) rfl (⟨kX5_letGo_0 z, ⟨kX5_letGo_1 z, ⟨kX5_letGo_2 z, ⟨kX5_letGo_3 z, ⟨kX5_letGo_4 z, ⟨kX5_letGo_5 z, ⟨kX5_letGo_7 z, ⟨kX5_letGo_10 z, ⟨kX5_letGo_13 z, ⟨kX5_letGo_14 z, ⟨kX5_letGo_15 z, ⟨kX5_letGo_16 z, ⟨kX5_letGo_17 z, ⟨kX5_letGo_20 z, ⟨kX5_letGo_21 z, ⟨kX5_letGo_22 z, ⟨kX5_letGo_25 z, ⟨kX5_letGo_28 z, ⟨kX5_letGo_31 z, trivial⟩⟩⟩⟩⟩⟩⟩⟩⟩⟩⟩⟩⟩⟩⟩⟩⟩⟩⟩) (hd_X5_letGo z) rfl rfl (by decide +kernel)
theorem hd_X5_level (z : XKT) : XHd z Y_X5_level := xHd_none rfl (xhd0 rfl)
theorem kX5_level_0 (z : XKT) : XOi z xInf Y_X5_level 0 (.inl (i_aload 0 1)) := ok_aload_n dX5_level_0 rfl
theorem kX5_level_1 (z : XKT) : XOi z xInf Y_X5_level 1 (.inl (i_iload 1 2)) := ok_iload_n dX5_level_1 rfl
theorem kX5_level_2 (z : XKT) : XOi z xInf Y_X5_level 2 (.inl (i_push (vI 0) 3)) := ok_iconst dX5_level_2 rfl
theorem kX5_level_3 (z : XKT) : XOi z xInf Y_X5_level 3 (.inl (i_push (vI (99999)) 5)) := ok_ldc dX5_level_3 q2765
theorem kX5_level_5 (z : XKT) : XOi z xInf Y_X5_level 5 (.inr (.inl (8, g_stat 226 3))) := show XOkC z xInf Y_X5_level 5 8 (g_stat 226 3) from okc_S (q := Y_X5_level) (q1 := Y_X5_inRange) Z_X5_inRange rfl (by decide) dX5_level_5 q2603 q2604 q153 q2605 hy_261
theorem kX5_level_8 (z : XKT) : XOi z xInf Y_X5_level 8 (.inr (.inl (11, g_virt [(4, 240)] 1))) := show XOkC z xInf Y_X5_level 8 11 (g_virt [(4, 240)] 1) from okc_V (q := Y_X5_level) (List.forall_mem_cons.mpr ⟨(show XOkV z xInf Y_X5_level 8 11 1 (4, 240) from okv_V (q := Y_X5_level) (q1 := Y_X5_lacks) Z_X5_lacks rfl (by decide) ⟨by decide, by decide, Or.inl ⟨_, _, (List.mem_of_getElem? (l := xCls) (i := 3) rfl)⟩⟩ dX5_level_8 q2606 q2608 qs46 q153 q2609 hy_262), (fun _ h => absurd h List.not_mem_nil)⟩)
theorem kX5_level_11 (z : XKT) : XOi z xInf Y_X5_level 11 (.inl (i_if (fun x => x = 0) 18 14)) := ok_if_eq dX5_level_11 rfl
theorem kX5_level_14 (z : XKT) : XOi z xInf Y_X5_level 14 (.inl (i_push (vI 0) 15)) := ok_iconst dX5_level_14 rfl
theorem kX5_level_15 (z : XKT) : XOi z xInf Y_X5_level 15 (.inl (i_goto 23)) := ok_goto dX5_level_15 rfl
theorem kX5_level_18 (z : XKT) : XOi z xInf Y_X5_level 18 (.inl (i_aload 0 19)) := ok_aload_n dX5_level_18 rfl
theorem kX5_level_19 (z : XKT) : XOi z xInf Y_X5_level 19 (.inl (i_iload 1 20)) := ok_iload_n dX5_level_19 rfl
theorem kX5_level_20 (z : XKT) : XOi z xInf Y_X5_level 20 (.inr (.inl (23, g_virt [(4, 245)] 1))) := show XOkC z xInf Y_X5_level 20 23 (g_virt [(4, 245)] 1) from okc_V (q := Y_X5_level) (List.forall_mem_cons.mpr ⟨(show XOkV z xInf Y_X5_level 20 23 1 (4, 245) from okv_V (q := Y_X5_level) (q1 := Y_X5_levelAt) Z_X5_levelAt rfl (by decide) ⟨by decide, by decide, Or.inl ⟨_, _, (List.mem_of_getElem? (l := xCls) (i := 3) rfl)⟩⟩ dX5_level_20 q2610 q2612 qs47 q153 q2613 hy_317), (fun _ h => absurd h List.not_mem_nil)⟩)
theorem kX5_level_23 (z : XKT) : XOi z xInf Y_X5_level 23 (.inr (.inr (.inl (r_i .int)))) := show XOkR Y_X5_level 23 ((r_i .int)) from okr_i (q := Y_X5_level) (ty := .int) rfl rfl dX5_level_23
theorem o_X5_level (z : XKT) : XMi z xInf Y_X5_level := XMi.mk9 (T := T_X5_level z) rfl (⟨kX5_level_0 z, ⟨kX5_level_1 z, ⟨kX5_level_2 z, ⟨kX5_level_3 z, ⟨kX5_level_5 z, ⟨kX5_level_8 z, ⟨kX5_level_11 z, ⟨kX5_level_14 z, ⟨kX5_level_15 z, ⟨kX5_level_18 z, ⟨kX5_level_19 z, ⟨kX5_level_20 z, ⟨kX5_level_23 z, trivial⟩⟩⟩⟩⟩⟩⟩⟩⟩⟩⟩⟩⟩) (hd_X5_level z) rfl rfl (by decide +kernel)
theorem hd_X5_levelAt (z : XKT) : XHd z Y_X5_levelAt := xHd_none rfl (xhd0 rfl)
theorem kX5_levelAt_0 (z : XKT) : XOi z xInf Y_X5_levelAt 0 (.inl (i_iload 1 1)) := ok_iload_n dX5_levelAt_0 rfl
theorem kX5_levelAt_1 (z : XKT) : XOi z xInf Y_X5_levelAt 1 (.inl (i_aload 0 2)) := ok_aload_n dX5_levelAt_1 rfl
theorem kX5_levelAt_2 (z : XKT) : XOi z xInf Y_X5_levelAt 2 (.inl (i_getr [4] 40 5)) := ok_getr dX5_levelAt_2 q2517 (List.forall_mem_cons.mpr ⟨⟨_, _, _, _, fd_40_4_0⟩, (fun _ h => absurd h List.not_mem_nil)⟩)
theorem kX5_levelAt_5 (z : XKT) : XOi z xInf Y_X5_levelAt 5 (.inl (i_push (vI 1) 6)) := ok_iconst dX5_levelAt_5 rfl
theorem kX5_levelAt_6 (z : XKT) : XOi z xInf Y_X5_levelAt 6 (.inl (i_ald 1000 7)) := ok_iald dX5_levelAt_6
theorem kX5_levelAt_7 (z : XKT) : XOi z xInf Y_X5_levelAt 7 (.inl (i_quo (fun x y => x - x / y * y) 8)) := ok_irem dX5_levelAt_7
theorem kX5_levelAt_8 (z : XKT) : XOi z xInf Y_X5_levelAt 8 (.inl (i_istore 2 9)) := ok_istore_n dX5_levelAt_8 rfl
theorem kX5_levelAt_9 (z : XKT) : XOi z xInf Y_X5_levelAt 9 (.inl (i_iload 2 10)) := ok_iload_n dX5_levelAt_9 rfl
theorem kX5_levelAt_10 (z : XKT) : XOi z xInf Y_X5_levelAt 10 (.inl (i_aload 0 11)) := ok_aload_n dX5_levelAt_10 rfl
theorem kX5_levelAt_11 (z : XKT) : XOi z xInf Y_X5_levelAt 11 (.inl (i_getr [4] 40 14)) := ok_getr dX5_levelAt_11 q2517 (List.forall_mem_cons.mpr ⟨⟨_, _, _, _, fd_40_4_0⟩, (fun _ h => absurd h List.not_mem_nil)⟩)
theorem kX5_levelAt_14 (z : XKT) : XOi z xInf Y_X5_levelAt 14 (.inl (i_push (vI 1) 15)) := ok_iconst dX5_levelAt_14 rfl
theorem kX5_levelAt_15 (z : XKT) : XOi z xInf Y_X5_levelAt 15 (.inl (i_ald 1000 16)) := ok_iald dX5_levelAt_15
theorem kX5_levelAt_16 (z : XKT) : XOi z xInf Y_X5_levelAt 16 (.inl (i_iload 2 17)) := ok_iload_n dX5_levelAt_16 rfl
theorem kX5_levelAt_17 (z : XKT) : XOi z xInf Y_X5_levelAt 17 (.inl (i_bin (fun x y => x - y) 18)) := ok_isub dX5_levelAt_17
theorem kX5_levelAt_18 (z : XKT) : XOi z xInf Y_X5_levelAt 18 (.inl (i_icmp (fun x y => y ≤ x) 25 21)) := ok_icmp_ge dX5_levelAt_18 rfl
theorem kX5_levelAt_21 (z : XKT) : XOi z xInf Y_X5_levelAt 21 (.inl (i_iload 2 22)) := ok_iload_n dX5_levelAt_21 rfl
theorem kX5_levelAt_22 (z : XKT) : XOi z xInf Y_X5_levelAt 22 (.inl (i_goto 33)) := ok_goto dX5_levelAt_22 rfl
theorem kX5_levelAt_25 (z : XKT) : XOi z xInf Y_X5_levelAt 25 (.inl (i_aload 0 26)) := ok_aload_n dX5_levelAt_25 rfl
theorem kX5_levelAt_26 (z : XKT) : XOi z xInf Y_X5_levelAt 26 (.inl (i_getr [4] 40 29)) := ok_getr dX5_levelAt_26 q2517 (List.forall_mem_cons.mpr ⟨⟨_, _, _, _, fd_40_4_0⟩, (fun _ h => absurd h List.not_mem_nil)⟩)
theorem kX5_levelAt_29 (z : XKT) : XOi z xInf Y_X5_levelAt 29 (.inl (i_push (vI 1) 30)) := ok_iconst dX5_levelAt_29 rfl
theorem kX5_levelAt_30 (z : XKT) : XOi z xInf Y_X5_levelAt 30 (.inl (i_ald 1000 31)) := ok_iald dX5_levelAt_30
theorem kX5_levelAt_31 (z : XKT) : XOi z xInf Y_X5_levelAt 31 (.inl (i_iload 2 32)) := ok_iload_n dX5_levelAt_31 rfl
theorem kX5_levelAt_32 (z : XKT) : XOi z xInf Y_X5_levelAt 32 (.inl (i_bin (fun x y => x - y) 33)) := ok_isub dX5_levelAt_32
theorem kX5_levelAt_33 (z : XKT) : XOi z xInf Y_X5_levelAt 33 (.inl (i_istore 3 34)) := ok_istore_n dX5_levelAt_33 rfl
theorem kX5_levelAt_34 (z : XKT) : XOi z xInf Y_X5_levelAt 34 (.inl (i_push (vI 18) 36)) := ok_bipush dX5_levelAt_34 rfl
theorem kX5_levelAt_36 (z : XKT) : XOi z xInf Y_X5_levelAt 36 (.inl (i_iload 3 37)) := ok_iload_n dX5_levelAt_36 rfl
theorem kX5_levelAt_37 (z : XKT) : XOi z xInf Y_X5_levelAt 37 (.inl (i_bin (fun x y => x * y) 38)) := ok_imul dX5_levelAt_37
theorem kX5_levelAt_38 (z : XKT) : XOi z xInf Y_X5_levelAt 38 (.inl (i_aload 0 39)) := ok_aload_n dX5_levelAt_38 rfl
theorem kX5_levelAt_39 (z : XKT) : XOi z xInf Y_X5_levelAt 39 (.inl (i_getr [4] 40 42)) := ok_getr dX5_levelAt_39 q2517 (List.forall_mem_cons.mpr ⟨⟨_, _, _, _, fd_40_4_0⟩, (fun _ h => absurd h List.not_mem_nil)⟩)
theorem kX5_levelAt_42 (z : XKT) : XOi z xInf Y_X5_levelAt 42 (.inl (i_push (vI 1) 43)) := ok_iconst dX5_levelAt_42 rfl
theorem kX5_levelAt_43 (z : XKT) : XOi z xInf Y_X5_levelAt 43 (.inl (i_ald 1000 44)) := ok_iald dX5_levelAt_43
theorem kX5_levelAt_44 (z : XKT) : XOi z xInf Y_X5_levelAt 44 (.inl (i_quo (fun x y => x / y) 45)) := ok_idiv dX5_levelAt_44
theorem kX5_levelAt_45 (z : XKT) : XOi z xInf Y_X5_levelAt 45 (.inr (.inr (.inl (r_i .int)))) := show XOkR Y_X5_levelAt 45 ((r_i .int)) from okr_i (q := Y_X5_levelAt) (ty := .int) rfl rfl dX5_levelAt_45
theorem o_X5_levelAt (z : XKT) : XMi z xInf Y_X5_levelAt := XMi.mk9 (T := T_X5_levelAt z) rfl (⟨kX5_levelAt_0 z, ⟨kX5_levelAt_1 z, ⟨kX5_levelAt_2 z, ⟨kX5_levelAt_5 z, ⟨kX5_levelAt_6 z, ⟨kX5_levelAt_7 z, ⟨kX5_levelAt_8 z, ⟨kX5_levelAt_9 z, ⟨kX5_levelAt_10 z, ⟨kX5_levelAt_11 z, ⟨kX5_levelAt_14 z, ⟨kX5_levelAt_15 z, ⟨kX5_levelAt_16 z, ⟨kX5_levelAt_17 z, ⟨kX5_levelAt_18 z, ⟨kX5_levelAt_21 z, ⟨kX5_levelAt_22 z, ⟨kX5_levelAt_25 z, ⟨kX5_levelAt_26 z, ⟨kX5_levelAt_29 z, ⟨kX5_levelAt_30 z, ⟨kX5_levelAt_31 z, ⟨kX5_levelAt_32 z, ⟨kX5_levelAt_33 z, ⟨kX5_levelAt_34 z, ⟨kX5_levelAt_36 z, ⟨kX5_levelAt_37 z, ⟨kX5_levelAt_38 z, ⟨kX5_levelAt_39 z, ⟨kX5_levelAt_42 z, ⟨kX5_levelAt_43 z, ⟨kX5_levelAt_44 z, ⟨kX5_levelAt_45 z, trivial⟩⟩⟩⟩⟩⟩⟩⟩⟩⟩⟩⟩⟩⟩⟩⟩⟩⟩⟩⟩⟩⟩⟩⟩⟩⟩⟩⟩⟩⟩⟩⟩⟩) (hd_X5_levelAt z) rfl rfl (by decide +kernel)
theorem hd_X5_load (z : XKT) : XHd z Y_X5_load := xHd_none rfl (xhd0 rfl)
theorem kX5_load_0 (z : XKT) : XOi z xInf Y_X5_load 0 (.inl (i_aload 0 1)) := ok_aload_n dX5_load_0 rfl
theorem kX5_load_1 (z : XKT) : XOi z xInf Y_X5_load 1 (.inl (i_push (vI 0) 2)) := ok_iconst dX5_load_1 rfl
theorem kX5_load_2 (z : XKT) : XOi z xInf Y_X5_load 2 (.inl (i_puti z.1 [4] .int 42 5)) := ok_puti dX5_load_2 q2519 rfl (List.forall_mem_cons.mpr ⟨⟨_, _, _, _, tyX5, fd_42_4_0, ⟨tyX5_ok, nmX5, (Or.inl rfl)⟩, rfl⟩, (fun _ h => absurd h List.not_mem_nil)⟩)
theorem kX5_load_5 (z : XKT) : XOi z xInf Y_X5_load 5 (.inl (i_iload 1 6)) := ok_iload_n dX5_load_5 rfl
theorem kX5_load_6 (z : XKT) : XOi z xInf Y_X5_load 6 (.inl (i_push (vI 0) 7)) := ok_iconst dX5_load_6 rfl
theorem kX5_load_7 (z : XKT) : XOi z xInf Y_X5_load 7 (.inl (i_aload 0 8)) := ok_aload_n dX5_load_7 rfl
theorem kX5_load_8 (z : XKT) : XOi z xInf Y_X5_load 8 (.inl (i_geti [4] 47 11)) := ok_geti dX5_load_8 q2524 (List.forall_mem_cons.mpr ⟨⟨_, _, _, _, fd_47_4_0⟩, (fun _ h => absurd h List.not_mem_nil)⟩)
theorem kX5_load_11 (z : XKT) : XOi z xInf Y_X5_load 11 (.inr (.inl (14, g_stat 226 3))) := show XOkC z xInf Y_X5_load 11 14 (g_stat 226 3) from okc_S (q := Y_X5_load) (q1 := Y_X5_inRange) Z_X5_inRange rfl (by decide) dX5_load_11 q2603 q2604 q153 q2605 hy_261
theorem kX5_load_14 (z : XKT) : XOi z xInf Y_X5_load 14 (.inl (i_if (fun x => ¬ x = 0) 23 17)) := ok_if_ne dX5_load_14 rfl
theorem kX5_load_17 (z : XKT) : XOi z xInf Y_X5_load 17 (.inl (i_aload 0 18)) := ok_aload_n dX5_load_17 rfl
theorem kX5_load_18 (z : XKT) : XOi z xInf Y_X5_load 18 (.inl (i_push (vI 1) 19)) := ok_iconst dX5_load_18 rfl
theorem kX5_load_19 (z : XKT) : XOi z xInf Y_X5_load 19 (.inr (.inl (22, g_virt [(4, 266)] 1))) := show XOkC z xInf Y_X5_load 19 22 (g_virt [(4, 266)] 1) from okc_V (q := Y_X5_load) (List.forall_mem_cons.mpr ⟨(show XOkV z xInf Y_X5_load 19 22 1 (4, 266) from okv_V (q := Y_X5_load) (q1 := Y_X5_raise) Z_X5_raise rfl (by decide) ⟨by decide, by decide, Or.inl ⟨_, _, (List.mem_of_getElem? (l := xCls) (i := 3) rfl)⟩⟩ dX5_load_19 q2658 q2660 qs57 q153 q2661 hy_310), (fun _ h => absurd h List.not_mem_nil)⟩)
theorem kX5_load_22 (z : XKT) : XOi z xInf Y_X5_load 22 (.inr (.inr (.inl (r_i .int)))) := show XOkR Y_X5_load 22 ((r_i .int)) from okr_i (q := Y_X5_load) (ty := .int) rfl rfl dX5_load_22
theorem kX5_load_23 (z : XKT) : XOi z xInf Y_X5_load 23 (.inl (i_aload 0 24)) := ok_aload_n dX5_load_23 rfl
theorem kX5_load_24 (z : XKT) : XOi z xInf Y_X5_load 24 (.inl (i_iload 1 25)) := ok_iload_n dX5_load_24 rfl
theorem kX5_load_25 (z : XKT) : XOi z xInf Y_X5_load 25 (.inr (.inl (28, g_virt [(4, 289)] 1))) := show XOkC z xInf Y_X5_load 25 28 (g_virt [(4, 289)] 1) from okc_V (q := Y_X5_load) (List.forall_mem_cons.mpr ⟨(show XOkV z xInf Y_X5_load 25 28 1 (4, 289) from okv_V (q := Y_X5_load) (q1 := Y_X5_startText) Z_X5_startText rfl (by decide) ⟨by decide, by decide, Or.inl ⟨_, _, (List.mem_of_getElem? (l := xCls) (i := 3) rfl)⟩⟩ dX5_load_25 q3042 q3044 qs102 q153 q3045 hy_319), (fun _ h => absurd h List.not_mem_nil)⟩)
theorem kX5_load_28 (z : XKT) : XOi z xInf Y_X5_load 28 (.inl (i_aload 0 29)) := ok_aload_n dX5_load_28 rfl
theorem kX5_load_29 (z : XKT) : XOi z xInf Y_X5_load 29 (.inl (i_aload 0 30)) := ok_aload_n dX5_load_29 rfl
theorem kX5_load_30 (z : XKT) : XOi z xInf Y_X5_load 30 (.inl (i_getr [4] 31 33)) := ok_getr dX5_load_30 q2508 (List.forall_mem_cons.mpr ⟨⟨_, _, _, _, fd_31_4_0⟩, (fun _ h => absurd h List.not_mem_nil)⟩)
theorem kX5_load_33 (z : XKT) : XOi z xInf Y_X5_load 33 (.inl (i_putr z.1 [4] 40 36)) := ok_putr dX5_load_33 q2517 (List.forall_mem_cons.mpr ⟨⟨_, _, _, _, tyX5, fd_40_4_0, ⟨tyX5_ok, nmX5, (Or.inl rfl)⟩, (Or.inr ⟨_, rfl⟩)⟩, (fun _ h => absurd h List.not_mem_nil)⟩)
theorem kX5_load_36 (z : XKT) : XOi z xInf Y_X5_load 36 (.inl (i_aload 0 37)) := ok_aload_n dX5_load_36 rfl
theorem kX5_load_37 (z : XKT) : XOi z xInf Y_X5_load 37 (.inr (.inl (40, g_virt [(4, 273)] 0))) := show XOkC z xInf Y_X5_load 37 40 (g_virt [(4, 273)] 0) from okc_V (q := Y_X5_load) (List.forall_mem_cons.mpr ⟨(show XOkV z xInf Y_X5_load 37 40 0 (4, 273) from okv_V (q := Y_X5_load) (q1 := Y_X5_readText) Z_X5_readText rfl (by decide) ⟨by decide, by decide, Or.inl ⟨_, _, (List.mem_of_getElem? (l := xCls) (i := 3) rfl)⟩⟩ dX5_load_37 q3062 q3064 qs107 q153 q3065 hy_320), (fun _ h => absurd h List.not_mem_nil)⟩)
theorem kX5_load_40 (z : XKT) : XOi z xInf Y_X5_load 40 (.inl (i_aload 0 41)) := ok_aload_n dX5_load_40 rfl
theorem kX5_load_41 (z : XKT) : XOi z xInf Y_X5_load 41 (.inl (i_aload 0 42)) := ok_aload_n dX5_load_41 rfl
theorem kX5_load_42 (z : XKT) : XOi z xInf Y_X5_load 42 (.inl (i_getr [4] 30 45)) := ok_getr dX5_load_42 q2507 (List.forall_mem_cons.mpr ⟨⟨_, _, _, _, fd_30_4_0⟩, (fun _ h => absurd h List.not_mem_nil)⟩)
theorem kX5_load_45 (z : XKT) : XOi z xInf Y_X5_load 45 (.inl (i_putr z.1 [4] 40 48)) := ok_putr dX5_load_45 q2517 (List.forall_mem_cons.mpr ⟨⟨_, _, _, _, tyX5, fd_40_4_0, ⟨tyX5_ok, nmX5, (Or.inl rfl)⟩, (Or.inr ⟨_, rfl⟩)⟩, (fun _ h => absurd h List.not_mem_nil)⟩)
theorem kX5_load_48 (z : XKT) : XOi z xInf Y_X5_load 48 (.inl (i_aload 0 49)) := ok_aload_n dX5_load_48 rfl
theorem kX5_load_49 (z : XKT) : XOi z xInf Y_X5_load 49 (.inr (.inl (52, g_virt [(4, 216)] 0))) := show XOkC z xInf Y_X5_load 49 52 (g_virt [(4, 216)] 0) from okc_V (q := Y_X5_load) (List.forall_mem_cons.mpr ⟨(show XOkV z xInf Y_X5_load 49 52 0 (4, 216) from okv_V (q := Y_X5_load) (q1 := Y_X5_finish) Z_X5_finish rfl (by decide) ⟨by decide, by decide, Or.inl ⟨_, _, (List.mem_of_getElem? (l := xCls) (i := 3) rfl)⟩⟩ dX5_load_49 q3115 q3117 qs119 q153 q3118 hy_321), (fun _ h => absurd h List.not_mem_nil)⟩)
theorem kX5_load_52 (z : XKT) : XOi z xInf Y_X5_load 52 (.inl (i_if (fun x => x = 0) 63 55)) := ok_if_eq dX5_load_52 rfl
theorem kX5_load_55 (z : XKT) : XOi z xInf Y_X5_load 55 (.inl (i_push (vI (-10)) 57)) := ok_bipush dX5_load_55 rfl
theorem kX5_load_57 (z : XKT) : XOi z xInf Y_X5_load 57 (.inl (i_aload 0 58)) := ok_aload_n dX5_load_57 rfl
theorem kX5_load_58 (z : XKT) : XOi z xInf Y_X5_load 58 (.inl (i_geti [4] 52 61)) := ok_geti dX5_load_58 q2529 (List.forall_mem_cons.mpr ⟨⟨_, _, _, _, fd_52_4_0⟩, (fun _ h => absurd h List.not_mem_nil)⟩)
theorem kX5_load_61 (z : XKT) : XOi z xInf Y_X5_load 61 (.inl (i_bin (fun x y => x - y) 62)) := ok_isub dX5_load_61
theorem kX5_load_62 (z : XKT) : XOi z xInf Y_X5_load 62 (.inr (.inr (.inl (r_i .int)))) := show XOkR Y_X5_load 62 ((r_i .int)) from okr_i (q := Y_X5_load) (ty := .int) rfl rfl dX5_load_62
theorem kX5_load_63 (z : XKT) : XOi z xInf Y_X5_load 63 (.inl (i_aload 0 64)) := ok_aload_n dX5_load_63 rfl
theorem kX5_load_64 (z : XKT) : XOi z xInf Y_X5_load 64 (.inl (i_getr [4] 31 67)) := ok_getr dX5_load_64 q2508 (List.forall_mem_cons.mpr ⟨⟨_, _, _, _, fd_31_4_0⟩, (fun _ h => absurd h List.not_mem_nil)⟩)
theorem kX5_load_67 (z : XKT) : XOi z xInf Y_X5_load 67 (.inl (i_push (vI 0) 68)) := ok_iconst dX5_load_67 rfl
theorem kX5_load_68 (z : XKT) : XOi z xInf Y_X5_load 68 (.inl (i_aload 0 69)) := ok_aload_n dX5_load_68 rfl
theorem kX5_load_69 (z : XKT) : XOi z xInf Y_X5_load 69 (.inl (i_getr [4] 30 72)) := ok_getr dX5_load_69 q2507 (List.forall_mem_cons.mpr ⟨⟨_, _, _, _, fd_30_4_0⟩, (fun _ h => absurd h List.not_mem_nil)⟩)
theorem kX5_load_72 (z : XKT) : XOi z xInf Y_X5_load 72 (.inl (i_push (vI 0) 73)) := ok_iconst dX5_load_72 rfl
theorem kX5_load_73 (z : XKT) : XOi z xInf Y_X5_load 73 (.inr (.inl (76, g_stat 183 4))) := show XOkC z xInf Y_X5_load 73 76 (g_stat 183 4) from okc_S (q := Y_X5_load) (q1 := Y_X5_copy) Z_X5_copy rfl (by decide) dX5_load_73 q2882 q2883 q153 q2884 hy_318
theorem kX5_load_76 (z : XKT) : XOi z xInf Y_X5_load 76 (.inl (i_aload 0 77)) := ok_aload_n dX5_load_76 rfl
theorem kX5_load_77 (z : XKT) : XOi z xInf Y_X5_load 77 (.inl (i_push (vI 0) 78)) := ok_iconst dX5_load_77 rfl
theorem kX5_load_78 (z : XKT) : XOi z xInf Y_X5_load 78 (.inl (i_puti z.1 [4] .int 41 81)) := ok_puti dX5_load_78 q2518 rfl (List.forall_mem_cons.mpr ⟨⟨_, _, _, _, tyX5, fd_41_4_0, ⟨tyX5_ok, nmX5, (Or.inl rfl)⟩, rfl⟩, (fun _ h => absurd h List.not_mem_nil)⟩)
theorem kX5_load_81 (z : XKT) : XOi z xInf Y_X5_load 81 (.inl (i_aload 0 82)) := ok_aload_n dX5_load_81 rfl
theorem kX5_load_82 (z : XKT) : XOi z xInf Y_X5_load 82 (.inl (i_push (vI 0) 83)) := ok_iconst dX5_load_82 rfl
theorem kX5_load_83 (z : XKT) : XOi z xInf Y_X5_load 83 (.inl (i_puti z.1 [4] .boolean 43 86)) := ok_puti dX5_load_83 q2520 rfl (List.forall_mem_cons.mpr ⟨⟨_, _, _, _, tyX5, fd_43_4_0, ⟨tyX5_ok, nmX5, (Or.inl rfl)⟩, rfl⟩, (fun _ h => absurd h List.not_mem_nil)⟩)
theorem kX5_load_86 (z : XKT) : XOi z xInf Y_X5_load 86 (.inl (i_aload 0 87)) := ok_aload_n dX5_load_86 rfl
theorem kX5_load_87 (z : XKT) : XOi z xInf Y_X5_load 87 (.inl (i_getr [4] 40 90)) := ok_getr dX5_load_87 q2517 (List.forall_mem_cons.mpr ⟨⟨_, _, _, _, fd_40_4_0⟩, (fun _ h => absurd h List.not_mem_nil)⟩)
theorem kX5_load_90 (z : XKT) : XOi z xInf Y_X5_load 90 (.inl (i_push (vI 5) 91)) := ok_iconst dX5_load_90 rfl
theorem kX5_load_91 (z : XKT) : XOi z xInf Y_X5_load 91 (.inl (i_ald 1000 92)) := ok_iald dX5_load_91
theorem kX5_load_92 (z : XKT) : XOi z xInf Y_X5_load 92 (.inr (.inr (.inl (r_i .int)))) := show XOkR Y_X5_load 92 ((r_i .int)) from okr_i (q := Y_X5_load) (ty := .int) rfl rfl dX5_load_92
theorem o_X5_load (z : XKT) : XMi z xInf Y_X5_load := XMi.mk9 (T := T_X5_load z) rfl (⟨kX5_load_0 z, ⟨kX5_load_1 z, ⟨kX5_load_2 z, ⟨kX5_load_5 z, ⟨kX5_load_6 z, ⟨kX5_load_7 z, ⟨kX5_load_8 z, ⟨kX5_load_11 z, ⟨kX5_load_14 z, ⟨kX5_load_17 z, ⟨kX5_load_18 z, ⟨kX5_load_19 z, ⟨kX5_load_22 z, ⟨kX5_load_23 z, ⟨kX5_load_24 z, ⟨kX5_load_25 z, ⟨kX5_load_28 z, ⟨kX5_load_29 z, ⟨kX5_load_30 z, ⟨kX5_load_33 z, ⟨kX5_load_36 z, ⟨kX5_load_37 z, ⟨kX5_load_40 z, ⟨kX5_load_41 z, ⟨kX5_load_42 z, ⟨kX5_load_45 z, ⟨kX5_load_48 z, ⟨kX5_load_49 z, ⟨kX5_load_52 z, ⟨kX5_load_55 z, ⟨kX5_load_57 z, ⟨kX5_load_58 z, ⟨kX5_load_61 z, ⟨kX5_load_62 z, ⟨kX5_load_63 z, ⟨kX5_load_64 z, ⟨kX5_load_67 z, ⟨kX5_load_68 z, ⟨kX5_load_69 z, ⟨kX5_load_72 z, ⟨kX5_load_73 z, ⟨kX5_load_76 z, ⟨kX5_load_77 z, ⟨kX5_load_78 z, ⟨kX5_load_81 z, ⟨kX5_load_82 z, ⟨kX5_load_83 z, ⟨kX5_load_86 z, ⟨kX5_load_87 z, ⟨kX5_load_90 z, ⟨kX5_load_91 z, ⟨kX5_load_92 z, trivial⟩⟩⟩⟩⟩⟩⟩⟩⟩⟩⟩⟩⟩⟩⟩⟩⟩⟩⟩⟩⟩⟩⟩⟩⟩⟩⟩⟩⟩⟩⟩⟩⟩⟩⟩⟩⟩⟩⟩⟩⟩⟩⟩⟩⟩⟩⟩⟩⟩⟩⟩⟩) (hd_X5_load z) rfl rfl (by decide +kernel)
theorem hd_X5_look (z : XKT) : XHd z Y_X5_look := xHd_none rfl (xhd0 rfl)
theorem kX5_look_0 (z : XKT) : XOi z xInf Y_X5_look 0 (.inl (i_aload 0 1)) := ok_aload_n dX5_look_0 rfl
theorem kX5_look_1 (z : XKT) : XOi z xInf Y_X5_look 1 (.inl (i_aload 0 2)) := ok_aload_n dX5_look_1 rfl
theorem kX5_look_2 (z : XKT) : XOi z xInf Y_X5_look 2 (.inl (i_geti [4] 51 5)) := ok_geti dX5_look_2 q2528 (List.forall_mem_cons.mpr ⟨⟨_, _, _, _, fd_51_4_0⟩, (fun _ h => absurd h List.not_mem_nil)⟩)
theorem kX5_look_5 (z : XKT) : XOi z xInf Y_X5_look 5 (.inl (i_push (vI 2) 6)) := ok_iconst dX5_look_5 rfl
theorem kX5_look_6 (z : XKT) : XOi z xInf Y_X5_look 6 (.inl (i_icmp (fun x y => ¬ x = y) 13 9)) := ok_icmp_ne dX5_look_6 rfl
theorem kX5_look_9 (z : XKT) : XOi z xInf Y_X5_look 9 (.inl (i_push (vI 1) 10)) := ok_iconst dX5_look_9 rfl
theorem kX5_look_10 (z : XKT) : XOi z xInf Y_X5_look 10 (.inl (i_goto 14)) := ok_goto dX5_look_10 rfl
theorem kX5_look_13 (z : XKT) : XOi z xInf Y_X5_look 13 (.inl (i_push (vI 0) 14)) := ok_iconst dX5_look_13 rfl
theorem kX5_look_14 (z : XKT) : XOi z xInf Y_X5_look 14 (.inl (i_push (vI 1) 15)) := ok_iconst dX5_look_14 rfl
theorem kX5_look_15 (z : XKT) : XOi z xInf Y_X5_look 15 (.inr (.inl (18, g_virt [(4, 178)] 2))) := show XOkC z xInf Y_X5_look 15 18 (g_virt [(4, 178)] 2) from okc_V (q := Y_X5_look) (List.forall_mem_cons.mpr ⟨(show XOkV z xInf Y_X5_look 15 18 2 (4, 178) from okv_V (q := Y_X5_look) (q1 := Y_X5_check) Z_X5_check rfl (by decide) ⟨by decide, by decide, Or.inl ⟨_, _, (List.mem_of_getElem? (l := xCls) (i := 3) rfl)⟩⟩ dX5_look_15 q3073 q3075 qs109 q153 q3076 hy_307), (fun _ h => absurd h List.not_mem_nil)⟩)
theorem kX5_look_18 (z : XKT) : XOi z xInf Y_X5_look 18 (.inl (i_aload 0 19)) := ok_aload_n dX5_look_18 rfl
theorem kX5_look_19 (z : XKT) : XOi z xInf Y_X5_look 19 (.inr (.inl (22, g_virt [(4, 301)] 0))) := show XOkC z xInf Y_X5_look 19 22 (g_virt [(4, 301)] 0) from okc_V (q := Y_X5_look) (List.forall_mem_cons.mpr ⟨(show XOkV z xInf Y_X5_look 19 22 0 (4, 301) from okv_V (q := Y_X5_look) (q1 := Y_X5_value) Z_X5_value rfl (by decide) ⟨by decide, by decide, Or.inl ⟨_, _, (List.mem_of_getElem? (l := xCls) (i := 3) rfl)⟩⟩ dX5_look_19 q3085 q3087 qs112 q153 q3088 hy_322), (fun _ h => absurd h List.not_mem_nil)⟩)
theorem kX5_look_22 (z : XKT) : XOi z xInf Y_X5_look 22 (.inl (i_istore 3 23)) := ok_istore_n dX5_look_22 rfl
theorem kX5_look_23 (z : XKT) : XOi z xInf Y_X5_look 23 (.inl (i_aload 0 24)) := ok_aload_n dX5_look_23 rfl
theorem kX5_look_24 (z : XKT) : XOi z xInf Y_X5_look 24 (.inl (i_iload 3 25)) := ok_iload_n dX5_look_24 rfl
theorem kX5_look_25 (z : XKT) : XOi z xInf Y_X5_look 25 (.inl (i_iload 1 26)) := ok_iload_n dX5_look_25 rfl
theorem kX5_look_26 (z : XKT) : XOi z xInf Y_X5_look 26 (.inl (i_iload 2 27)) := ok_iload_n dX5_look_26 rfl
theorem kX5_look_27 (z : XKT) : XOi z xInf Y_X5_look 27 (.inr (.inl (30, g_stat 226 3))) := show XOkC z xInf Y_X5_look 27 30 (g_stat 226 3) from okc_S (q := Y_X5_look) (q1 := Y_X5_inRange) Z_X5_inRange rfl (by decide) dX5_look_27 q2603 q2604 q153 q2605 hy_261
theorem kX5_look_30 (z : XKT) : XOi z xInf Y_X5_look 30 (.inl (i_push (vI 2) 31)) := ok_iconst dX5_look_30 rfl
theorem kX5_look_31 (z : XKT) : XOi z xInf Y_X5_look 31 (.inr (.inl (34, g_virt [(4, 178)] 2))) := show XOkC z xInf Y_X5_look 31 34 (g_virt [(4, 178)] 2) from okc_V (q := Y_X5_look) (List.forall_mem_cons.mpr ⟨(show XOkV z xInf Y_X5_look 31 34 2 (4, 178) from okv_V (q := Y_X5_look) (q1 := Y_X5_check) Z_X5_check rfl (by decide) ⟨by decide, by decide, Or.inl ⟨_, _, (List.mem_of_getElem? (l := xCls) (i := 3) rfl)⟩⟩ dX5_look_31 q3073 q3075 qs109 q153 q3076 hy_307), (fun _ h => absurd h List.not_mem_nil)⟩)
theorem kX5_look_34 (z : XKT) : XOi z xInf Y_X5_look 34 (.inl (i_aload 0 35)) := ok_aload_n dX5_look_34 rfl
theorem kX5_look_35 (z : XKT) : XOi z xInf Y_X5_look 35 (.inl (i_geti [4] 52 38)) := ok_geti dX5_look_35 q2529 (List.forall_mem_cons.mpr ⟨⟨_, _, _, _, fd_52_4_0⟩, (fun _ h => absurd h List.not_mem_nil)⟩)
theorem kX5_look_38 (z : XKT) : XOi z xInf Y_X5_look 38 (.inl (i_if (fun x => ¬ x = 0) 45 41)) := ok_if_ne dX5_look_38 rfl
theorem kX5_look_41 (z : XKT) : XOi z xInf Y_X5_look 41 (.inl (i_iload 3 42)) := ok_iload_n dX5_look_41 rfl
theorem kX5_look_42 (z : XKT) : XOi z xInf Y_X5_look 42 (.inl (i_goto 46)) := ok_goto dX5_look_42 rfl
theorem kX5_look_45 (z : XKT) : XOi z xInf Y_X5_look 45 (.inl (i_iload 1 46)) := ok_iload_n dX5_look_45 rfl
theorem kX5_look_46 (z : XKT) : XOi z xInf Y_X5_look 46 (.inr (.inr (.inl (r_i .int)))) := show XOkR Y_X5_look 46 ((r_i .int)) from okr_i (q := Y_X5_look) (ty := .int) rfl rfl dX5_look_46
theorem o_X5_look (z : XKT) : XMi z xInf Y_X5_look := XMi.mk9 (T := T_X5_look z) rfl (⟨kX5_look_0 z, ⟨kX5_look_1 z, ⟨kX5_look_2 z, ⟨kX5_look_5 z, ⟨kX5_look_6 z, ⟨kX5_look_9 z, ⟨kX5_look_10 z, ⟨kX5_look_13 z, ⟨kX5_look_14 z, ⟨kX5_look_15 z, ⟨kX5_look_18 z, ⟨kX5_look_19 z, ⟨kX5_look_22 z, ⟨kX5_look_23 z, ⟨kX5_look_24 z, ⟨kX5_look_25 z, ⟨kX5_look_26 z, ⟨kX5_look_27 z, ⟨kX5_look_30 z, ⟨kX5_look_31 z, ⟨kX5_look_34 z, ⟨kX5_look_35 z, ⟨kX5_look_38 z, ⟨kX5_look_41 z, ⟨kX5_look_42 z, ⟨kX5_look_45 z, ⟨kX5_look_46 z, trivial⟩⟩⟩⟩⟩⟩⟩⟩⟩⟩⟩⟩⟩⟩⟩⟩⟩⟩⟩⟩⟩⟩⟩⟩⟩⟩⟩) (hd_X5_look z) rfl rfl (by decide +kernel)
theorem hd_X5_lose (z : XKT) : XHd z Y_X5_lose := xHd_none rfl (xhd0 rfl)
theorem kX5_lose_0 (z : XKT) : XOi z xInf Y_X5_lose 0 (.inl (i_aload 0 1)) := ok_aload_n dX5_lose_0 rfl
theorem kX5_lose_1 (z : XKT) : XOi z xInf Y_X5_lose 1 (.inl (i_iload 1 2)) := ok_iload_n dX5_lose_1 rfl
theorem kX5_lose_2 (z : XKT) : XOi z xInf Y_X5_lose 2 (.inr (.inl (5, g_virt [(4, 243)] 1))) := show XOkC z xInf Y_X5_lose 2 5 (g_virt [(4, 243)] 1) from okc_V (q := Y_X5_lose) (List.forall_mem_cons.mpr ⟨(show XOkV z xInf Y_X5_lose 2 5 1 (4, 243) from okv_V (q := Y_X5_lose) (q1 := Y_X5_letGo) Z_X5_letGo rfl (by decide) ⟨by decide, by decide, Or.inl ⟨_, _, (List.mem_of_getElem? (l := xCls) (i := 3) rfl)⟩⟩ dX5_lose_2 q2942 q2944 qs90 q153 q2945 hy_294), (fun _ h => absurd h List.not_mem_nil)⟩)
theorem kX5_lose_5 (z : XKT) : XOi z xInf Y_X5_lose 5 (.inl (i_aload 0 6)) := ok_aload_n dX5_lose_5 rfl
theorem kX5_lose_6 (z : XKT) : XOi z xInf Y_X5_lose 6 (.inl (i_iload 1 7)) := ok_iload_n dX5_lose_6 rfl
theorem kX5_lose_7 (z : XKT) : XOi z xInf Y_X5_lose 7 (.inl (i_push (vI 9) 9)) := ok_bipush dX5_lose_7 rfl
theorem kX5_lose_9 (z : XKT) : XOi z xInf Y_X5_lose 9 (.inl (i_push (vI 0) 10)) := ok_iconst dX5_lose_9 rfl
theorem kX5_lose_10 (z : XKT) : XOi z xInf Y_X5_lose 10 (.inr (.inl (13, g_virt [(4, 241)] 3))) := show XOkC z xInf Y_X5_lose 10 13 (g_virt [(4, 241)] 3) from okc_V (q := Y_X5_lose) (List.forall_mem_cons.mpr ⟨(show XOkV z xInf Y_X5_lose 10 13 3 (4, 241) from okv_V (q := Y_X5_lose) (q1 := Y_X5_lay) Z_X5_lay rfl (by decide) ⟨by decide, by decide, Or.inl ⟨_, _, (List.mem_of_getElem? (l := xCls) (i := 3) rfl)⟩⟩ dX5_lose_10 q2503 q2505 qs45 q153 q2506 hy_264), (fun _ h => absurd h List.not_mem_nil)⟩)
theorem kX5_lose_13 (z : XKT) : XOi z xInf Y_X5_lose 13 (.inl (i_aload 0 14)) := ok_aload_n dX5_lose_13 rfl
theorem kX5_lose_14 (z : XKT) : XOi z xInf Y_X5_lose 14 (.inl (i_iload 1 15)) := ok_iload_n dX5_lose_14 rfl
theorem kX5_lose_15 (z : XKT) : XOi z xInf Y_X5_lose 15 (.inl (i_push (vI 5) 16)) := ok_iconst dX5_lose_15 rfl
theorem kX5_lose_16 (z : XKT) : XOi z xInf Y_X5_lose 16 (.inl (i_push (vI 3) 17)) := ok_iconst dX5_lose_16 rfl
theorem kX5_lose_17 (z : XKT) : XOi z xInf Y_X5_lose 17 (.inr (.inl (20, g_virt [(4, 241)] 3))) := show XOkC z xInf Y_X5_lose 17 20 (g_virt [(4, 241)] 3) from okc_V (q := Y_X5_lose) (List.forall_mem_cons.mpr ⟨(show XOkV z xInf Y_X5_lose 17 20 3 (4, 241) from okv_V (q := Y_X5_lose) (q1 := Y_X5_lay) Z_X5_lay rfl (by decide) ⟨by decide, by decide, Or.inl ⟨_, _, (List.mem_of_getElem? (l := xCls) (i := 3) rfl)⟩⟩ dX5_lose_17 q2503 q2505 qs45 q153 q2506 hy_264), (fun _ h => absurd h List.not_mem_nil)⟩)
theorem kX5_lose_20 (z : XKT) : XOi z xInf Y_X5_lose 20 (.inl (i_aload 0 21)) := ok_aload_n dX5_lose_20 rfl
theorem kX5_lose_21 (z : XKT) : XOi z xInf Y_X5_lose 21 (.inl (i_push (vI 7) 23)) := ok_bipush dX5_lose_21 rfl
theorem kX5_lose_23 (z : XKT) : XOi z xInf Y_X5_lose 23 (.inl (i_push (vI 1) 24)) := ok_iconst dX5_lose_23 rfl
theorem kX5_lose_24 (z : XKT) : XOi z xInf Y_X5_lose 24 (.inr (.inl (27, g_virt [(4, 291)] 2))) := show XOkC z xInf Y_X5_lose 24 27 (g_virt [(4, 291)] 2) from okc_V (q := Y_X5_lose) (List.forall_mem_cons.mpr ⟨(show XOkV z xInf Y_X5_lose 24 27 2 (4, 291) from okv_V (q := Y_X5_lose) (q1 := Y_X5_tally) Z_X5_tally rfl (by decide) ⟨by decide, by decide, Or.inl ⟨_, _, (List.mem_of_getElem? (l := xCls) (i := 3) rfl)⟩⟩ dX5_lose_24 q2946 q2948 qs91 q153 q2949 hy_290), (fun _ h => absurd h List.not_mem_nil)⟩)
theorem kX5_lose_27 (z : XKT) : XOi z xInf Y_X5_lose 27 (.inl (i_aload 0 28)) := ok_aload_n dX5_lose_27 rfl
theorem kX5_lose_28 (z : XKT) : XOi z xInf Y_X5_lose 28 (.inl (i_push (vI 8) 30)) := ok_bipush dX5_lose_28 rfl
theorem kX5_lose_30 (z : XKT) : XOi z xInf Y_X5_lose 30 (.inl (i_aload 0 31)) := ok_aload_n dX5_lose_30 rfl
theorem kX5_lose_31 (z : XKT) : XOi z xInf Y_X5_lose 31 (.inl (i_iload 1 32)) := ok_iload_n dX5_lose_31 rfl
theorem kX5_lose_32 (z : XKT) : XOi z xInf Y_X5_lose 32 (.inl (i_push (vI 1) 33)) := ok_iconst dX5_lose_32 rfl
theorem kX5_lose_33 (z : XKT) : XOi z xInf Y_X5_lose 33 (.inr (.inl (36, g_virt [(4, 253)] 2))) := show XOkC z xInf Y_X5_lose 33 36 (g_virt [(4, 253)] 2) from okc_V (q := Y_X5_lose) (List.forall_mem_cons.mpr ⟨(show XOkV z xInf Y_X5_lose 33 36 2 (4, 253) from okv_V (q := Y_X5_lose) (q1 := Y_X5_of) Z_X5_of rfl (by decide) ⟨by decide, by decide, Or.inl ⟨_, _, (List.mem_of_getElem? (l := xCls) (i := 3) rfl)⟩⟩ dX5_lose_33 q2622 q2624 qs50 q153 q2625 hy_265), (fun _ h => absurd h List.not_mem_nil)⟩)
theorem kX5_lose_36 (z : XKT) : XOi z xInf Y_X5_lose 36 (.inr (.inl (39, g_virt [(4, 291)] 2))) := show XOkC z xInf Y_X5_lose 36 39 (g_virt [(4, 291)] 2) from okc_V (q := Y_X5_lose) (List.forall_mem_cons.mpr ⟨(show XOkV z xInf Y_X5_lose 36 39 2 (4, 291) from okv_V (q := Y_X5_lose) (q1 := Y_X5_tally) Z_X5_tally rfl (by decide) ⟨by decide, by decide, Or.inl ⟨_, _, (List.mem_of_getElem? (l := xCls) (i := 3) rfl)⟩⟩ dX5_lose_36 q2946 q2948 qs91 q153 q2949 hy_290), (fun _ h => absurd h List.not_mem_nil)⟩)
theorem kX5_lose_39 (z : XKT) : XOi z xInf Y_X5_lose 39 (.inr (.inr (.inl r_v))) := show XOkR Y_X5_lose 39 (r_v) from okr_v (q := Y_X5_lose) rfl dX5_lose_39
theorem o_X5_lose (z : XKT) : XMi z xInf Y_X5_lose := XMi.mk9 (T := T_X5_lose z) rfl (⟨kX5_lose_0 z, ⟨kX5_lose_1 z, ⟨kX5_lose_2 z, ⟨kX5_lose_5 z, ⟨kX5_lose_6 z, ⟨kX5_lose_7 z, ⟨kX5_lose_9 z, ⟨kX5_lose_10 z, ⟨kX5_lose_13 z, ⟨kX5_lose_14 z, ⟨kX5_lose_15 z, ⟨kX5_lose_16 z, ⟨kX5_lose_17 z, ⟨kX5_lose_20 z, ⟨kX5_lose_21 z, ⟨kX5_lose_23 z, ⟨kX5_lose_24 z, ⟨kX5_lose_27 z, ⟨kX5_lose_28 z, ⟨kX5_lose_30 z, ⟨kX5_lose_31 z, ⟨kX5_lose_32 z, ⟨kX5_lose_33 z, ⟨kX5_lose_36 z, ⟨kX5_lose_39 z, trivial⟩⟩⟩⟩⟩⟩⟩⟩⟩⟩⟩⟩⟩⟩⟩⟩⟩⟩⟩⟩⟩⟩⟩⟩⟩) (hd_X5_lose z) rfl rfl (by decide +kernel)
theorem hd_X5_lossIn (z : XKT) : XHd z Y_X5_lossIn := xHd_none rfl (xhd0 rfl)
theorem kX5_lossIn_0 (z : XKT) : XOi z xInf Y_X5_lossIn 0 (.inl (i_aload 0 1)) := ok_aload_n dX5_lossIn_0 rfl
theorem kX5_lossIn_1 (z : XKT) : XOi z xInf Y_X5_lossIn 1 (.inl (i_iload 1 2)) := ok_iload_n dX5_lossIn_1 rfl
theorem kX5_lossIn_2 (z : XKT) : XOi z xInf Y_X5_lossIn 2 (.inl (i_push (vI 0) 3)) := ok_iconst dX5_lossIn_2 rfl
theorem kX5_lossIn_3 (z : XKT) : XOi z xInf Y_X5_lossIn 3 (.inl (i_push (vI 1000) 6)) := ok_sipush dX5_lossIn_3 rfl
theorem kX5_lossIn_6 (z : XKT) : XOi z xInf Y_X5_lossIn 6 (.inr (.inl (9, g_stat 226 3))) := show XOkC z xInf Y_X5_lossIn 6 9 (g_stat 226 3) from okc_S (q := Y_X5_lossIn) (q1 := Y_X5_inRange) Z_X5_inRange rfl (by decide) dX5_lossIn_6 q2603 q2604 q153 q2605 hy_261
theorem kX5_lossIn_9 (z : XKT) : XOi z xInf Y_X5_lossIn 9 (.inr (.inl (12, g_virt [(4, 240)] 1))) := show XOkC z xInf Y_X5_lossIn 9 12 (g_virt [(4, 240)] 1) from okc_V (q := Y_X5_lossIn) (List.forall_mem_cons.mpr ⟨(show XOkV z xInf Y_X5_lossIn 9 12 1 (4, 240) from okv_V (q := Y_X5_lossIn) (q1 := Y_X5_lacks) Z_X5_lacks rfl (by decide) ⟨by decide, by decide, Or.inl ⟨_, _, (List.mem_of_getElem? (l := xCls) (i := 3) rfl)⟩⟩ dX5_lossIn_9 q2606 q2608 qs46 q153 q2609 hy_262), (fun _ h => absurd h List.not_mem_nil)⟩)
theorem kX5_lossIn_12 (z : XKT) : XOi z xInf Y_X5_lossIn 12 (.inl (i_if (fun x => x = 0) 17 15)) := ok_if_eq dX5_lossIn_12 rfl
theorem kX5_lossIn_15 (z : XKT) : XOi z xInf Y_X5_lossIn 15 (.inl (i_push (vI 0) 16)) := ok_iconst dX5_lossIn_15 rfl
theorem kX5_lossIn_16 (z : XKT) : XOi z xInf Y_X5_lossIn 16 (.inr (.inr (.inl (r_i .int)))) := show XOkR Y_X5_lossIn 16 ((r_i .int)) from okr_i (q := Y_X5_lossIn) (ty := .int) rfl rfl dX5_lossIn_16
theorem kX5_lossIn_17 (z : XKT) : XOi z xInf Y_X5_lossIn 17 (.inl (i_push (vI 0) 18)) := ok_iconst dX5_lossIn_17 rfl
theorem kX5_lossIn_18 (z : XKT) : XOi z xInf Y_X5_lossIn 18 (.inl (i_istore 2 19)) := ok_istore_n dX5_lossIn_18 rfl
theorem kX5_lossIn_19 (z : XKT) : XOi z xInf Y_X5_lossIn 19 (.inl (i_push (vI 0) 20)) := ok_iconst dX5_lossIn_19 rfl
theorem kX5_lossIn_20 (z : XKT) : XOi z xInf Y_X5_lossIn 20 (.inl (i_istore 3 21)) := ok_istore_n dX5_lossIn_20 rfl
theorem kX5_lossIn_21 (z : XKT) : XOi z xInf Y_X5_lossIn 21 (.inl (i_iload 3 22)) := ok_iload_n dX5_lossIn_21 rfl
theorem kX5_lossIn_22 (z : XKT) : XOi z xInf Y_X5_lossIn 22 (.inl (i_aload 0 23)) := ok_aload_n dX5_lossIn_22 rfl
theorem kX5_lossIn_23 (z : XKT) : XOi z xInf Y_X5_lossIn 23 (.inl (i_getr [4] 40 26)) := ok_getr dX5_lossIn_23 q2517 (List.forall_mem_cons.mpr ⟨⟨_, _, _, _, fd_40_4_0⟩, (fun _ h => absurd h List.not_mem_nil)⟩)
theorem kX5_lossIn_26 (z : XKT) : XOi z xInf Y_X5_lossIn 26 (.inl (i_push (vI 5) 27)) := ok_iconst dX5_lossIn_26 rfl
theorem kX5_lossIn_27 (z : XKT) : XOi z xInf Y_X5_lossIn 27 (.inl (i_ald 1000 28)) := ok_iald dX5_lossIn_27
theorem kX5_lossIn_28 (z : XKT) : XOi z xInf Y_X5_lossIn 28 (.inl (i_icmp (fun x y => y ≤ x) 69 31)) := ok_icmp_ge dX5_lossIn_28 rfl
theorem kX5_lossIn_31 (z : XKT) : XOi z xInf Y_X5_lossIn 31 (.inl (i_aload 0 32)) := ok_aload_n dX5_lossIn_31 rfl
theorem kX5_lossIn_32 (z : XKT) : XOi z xInf Y_X5_lossIn 32 (.inl (i_iload 3 33)) := ok_iload_n dX5_lossIn_32 rfl
theorem kX5_lossIn_33 (z : XKT) : XOi z xInf Y_X5_lossIn 33 (.inr (.inl (36, g_virt [(4, 296)] 1))) := show XOkC z xInf Y_X5_lossIn 33 36 (g_virt [(4, 296)] 1) from okc_V (q := Y_X5_lossIn) (List.forall_mem_cons.mpr ⟨(show XOkV z xInf Y_X5_lossIn 33 36 1 (4, 296) from okv_V (q := Y_X5_lossIn) (q1 := Y_X5_ticksToLoss) Z_X5_ticksToLoss rfl (by decide) ⟨by decide, by decide, Or.inl ⟨_, _, (List.mem_of_getElem? (l := xCls) (i := 3) rfl)⟩⟩ dX5_lossIn_33 q2790 q2792 qs75 q153 q2793 hy_323), (fun _ h => absurd h List.not_mem_nil)⟩)
theorem kX5_lossIn_36 (z : XKT) : XOi z xInf Y_X5_lossIn 36 (.inl (i_istore 4 38)) := ok_istore dX5_lossIn_36
theorem kX5_lossIn_38 (z : XKT) : XOi z xInf Y_X5_lossIn 38 (.inl (i_iload 2 39)) := ok_iload_n dX5_lossIn_38 rfl
theorem kX5_lossIn_39 (z : XKT) : XOi z xInf Y_X5_lossIn 39 (.inl (i_iload 4 41)) := ok_iload dX5_lossIn_39
theorem kX5_lossIn_41 (z : XKT) : XOi z xInf Y_X5_lossIn 41 (.inl (i_push (vI (-1)) 42)) := ok_iconst dX5_lossIn_41 rfl
theorem kX5_lossIn_42 (z : XKT) : XOi z xInf Y_X5_lossIn 42 (.inl (i_icmp (fun x y => x = y) 60 45)) := ok_icmp_eq dX5_lossIn_42 rfl
theorem kX5_lossIn_45 (z : XKT) : XOi z xInf Y_X5_lossIn 45 (.inl (i_iload 4 47)) := ok_iload dX5_lossIn_45
theorem kX5_lossIn_47 (z : XKT) : XOi z xInf Y_X5_lossIn 47 (.inl (i_iload 1 48)) := ok_iload_n dX5_lossIn_47 rfl
theorem kX5_lossIn_48 (z : XKT) : XOi z xInf Y_X5_lossIn 48 (.inl (i_icmp (fun x y => y < x) 60 51)) := ok_icmp_gt dX5_lossIn_48 rfl
theorem kX5_lossIn_51 (z : XKT) : XOi z xInf Y_X5_lossIn 51 (.inl (i_aload 0 52)) := ok_aload_n dX5_lossIn_51 rfl
theorem kX5_lossIn_52 (z : XKT) : XOi z xInf Y_X5_lossIn 52 (.inl (i_iload 3 53)) := ok_iload_n dX5_lossIn_52 rfl
theorem kX5_lossIn_53 (z : XKT) : XOi z xInf Y_X5_lossIn 53 (.inl (i_push (vI 1) 54)) := ok_iconst dX5_lossIn_53 rfl
theorem kX5_lossIn_54 (z : XKT) : XOi z xInf Y_X5_lossIn 54 (.inr (.inl (57, g_virt [(4, 253)] 2))) := show XOkC z xInf Y_X5_lossIn 54 57 (g_virt [(4, 253)] 2) from okc_V (q := Y_X5_lossIn) (List.forall_mem_cons.mpr ⟨(show XOkV z xInf Y_X5_lossIn 54 57 2 (4, 253) from okv_V (q := Y_X5_lossIn) (q1 := Y_X5_of) Z_X5_of rfl (by decide) ⟨by decide, by decide, Or.inl ⟨_, _, (List.mem_of_getElem? (l := xCls) (i := 3) rfl)⟩⟩ dX5_lossIn_54 q2622 q2624 qs50 q153 q2625 hy_265), (fun _ h => absurd h List.not_mem_nil)⟩)
theorem kX5_lossIn_57 (z : XKT) : XOi z xInf Y_X5_lossIn 57 (.inl (i_goto 61)) := ok_goto dX5_lossIn_57 rfl
theorem kX5_lossIn_60 (z : XKT) : XOi z xInf Y_X5_lossIn 60 (.inl (i_push (vI 0) 61)) := ok_iconst dX5_lossIn_60 rfl
theorem kX5_lossIn_61 (z : XKT) : XOi z xInf Y_X5_lossIn 61 (.inl (i_bin (fun x y => x + y) 62)) := ok_iadd dX5_lossIn_61
theorem kX5_lossIn_62 (z : XKT) : XOi z xInf Y_X5_lossIn 62 (.inl (i_istore 2 63)) := ok_istore_n dX5_lossIn_62 rfl
theorem kX5_lossIn_63 (z : XKT) : XOi z xInf Y_X5_lossIn 63 (.inl (i_iinc 3 1 66)) := ok_iinc dX5_lossIn_63 rfl
theorem kX5_lossIn_66 (z : XKT) : XOi z xInf Y_X5_lossIn 66 (.inl (i_goto 21)) := ok_goto dX5_lossIn_66 rfl
theorem kX5_lossIn_69 (z : XKT) : XOi z xInf Y_X5_lossIn 69 (.inl (i_iload 2 70)) := ok_iload_n dX5_lossIn_69 rfl
theorem kX5_lossIn_70 (z : XKT) : XOi z xInf Y_X5_lossIn 70 (.inr (.inr (.inl (r_i .int)))) := show XOkR Y_X5_lossIn 70 ((r_i .int)) from okr_i (q := Y_X5_lossIn) (ty := .int) rfl rfl dX5_lossIn_70
theorem o_X5_lossIn (z : XKT) : XMi z xInf Y_X5_lossIn := XMi.mk9 (T := T_X5_lossIn z) rfl (⟨kX5_lossIn_0 z, ⟨kX5_lossIn_1 z, ⟨kX5_lossIn_2 z, ⟨kX5_lossIn_3 z, ⟨kX5_lossIn_6 z, ⟨kX5_lossIn_9 z, ⟨kX5_lossIn_12 z, ⟨kX5_lossIn_15 z, ⟨kX5_lossIn_16 z, ⟨kX5_lossIn_17 z, ⟨kX5_lossIn_18 z, ⟨kX5_lossIn_19 z, ⟨kX5_lossIn_20 z, ⟨kX5_lossIn_21 z, ⟨kX5_lossIn_22 z, ⟨kX5_lossIn_23 z, ⟨kX5_lossIn_26 z, ⟨kX5_lossIn_27 z, ⟨kX5_lossIn_28 z, ⟨kX5_lossIn_31 z, ⟨kX5_lossIn_32 z, ⟨kX5_lossIn_33 z, ⟨kX5_lossIn_36 z, ⟨kX5_lossIn_38 z, ⟨kX5_lossIn_39 z, ⟨kX5_lossIn_41 z, ⟨kX5_lossIn_42 z, ⟨kX5_lossIn_45 z, ⟨kX5_lossIn_47 z, ⟨kX5_lossIn_48 z, ⟨kX5_lossIn_51 z, ⟨kX5_lossIn_52 z, ⟨kX5_lossIn_53 z, ⟨kX5_lossIn_54 z, ⟨kX5_lossIn_57 z, ⟨kX5_lossIn_60 z, ⟨kX5_lossIn_61 z, ⟨kX5_lossIn_62 z, ⟨kX5_lossIn_63 z, ⟨kX5_lossIn_66 z, ⟨kX5_lossIn_69 z, ⟨kX5_lossIn_70 z, trivial⟩⟩⟩⟩⟩⟩⟩⟩⟩⟩⟩⟩⟩⟩⟩⟩⟩⟩⟩⟩⟩⟩⟩⟩⟩⟩⟩⟩⟩⟩⟩⟩⟩⟩⟩⟩⟩⟩⟩⟩⟩⟩) (hd_X5_lossIn z) rfl rfl (by decide +kernel)
theorem hd_X5_lostIn (z : XKT) : XHd z Y_X5_lostIn := xHd_none rfl (xhd0 rfl)
theorem kX5_lostIn_0 (z : XKT) : XOi z xInf Y_X5_lostIn 0 (.inl (i_aload 0 1)) := ok_aload_n dX5_lostIn_0 rfl
theorem kX5_lostIn_1 (z : XKT) : XOi z xInf Y_X5_lostIn 1 (.inl (i_aload 0 2)) := ok_aload_n dX5_lostIn_1 rfl
theorem kX5_lostIn_2 (z : XKT) : XOi z xInf Y_X5_lostIn 2 (.inl (i_iload 1 3)) := ok_iload_n dX5_lostIn_2 rfl
theorem kX5_lostIn_3 (z : XKT) : XOi z xInf Y_X5_lostIn 3 (.inr (.inl (6, g_virt [(4, 232)] 1))) := show XOkC z xInf Y_X5_lostIn 3 6 (g_virt [(4, 232)] 1) from okc_V (q := Y_X5_lostIn) (List.forall_mem_cons.mpr ⟨(show XOkV z xInf Y_X5_lostIn 3 6 1 (4, 232) from okv_V (q := Y_X5_lostIn) (q1 := Y_X5_isGood) Z_X5_isGood rfl (by decide) ⟨by decide, by decide, Or.inl ⟨_, _, (List.mem_of_getElem? (l := xCls) (i := 3) rfl)⟩⟩ dX5_lostIn_3 q2654 q2656 qs56 q153 q2657 hy_272), (fun _ h => absurd h List.not_mem_nil)⟩)
theorem kX5_lostIn_6 (z : XKT) : XOi z xInf Y_X5_lostIn 6 (.inr (.inl (9, g_virt [(4, 240)] 1))) := show XOkC z xInf Y_X5_lostIn 6 9 (g_virt [(4, 240)] 1) from okc_V (q := Y_X5_lostIn) (List.forall_mem_cons.mpr ⟨(show XOkV z xInf Y_X5_lostIn 6 9 1 (4, 240) from okv_V (q := Y_X5_lostIn) (q1 := Y_X5_lacks) Z_X5_lacks rfl (by decide) ⟨by decide, by decide, Or.inl ⟨_, _, (List.mem_of_getElem? (l := xCls) (i := 3) rfl)⟩⟩ dX5_lostIn_6 q2606 q2608 qs46 q153 q2609 hy_262), (fun _ h => absurd h List.not_mem_nil)⟩)
theorem kX5_lostIn_9 (z : XKT) : XOi z xInf Y_X5_lostIn 9 (.inl (i_if (fun x => x = 0) 16 12)) := ok_if_eq dX5_lostIn_9 rfl
theorem kX5_lostIn_12 (z : XKT) : XOi z xInf Y_X5_lostIn 12 (.inl (i_push (vI 0) 13)) := ok_iconst dX5_lostIn_12 rfl
theorem kX5_lostIn_13 (z : XKT) : XOi z xInf Y_X5_lostIn 13 (.inl (i_goto 21)) := ok_goto dX5_lostIn_13 rfl
theorem kX5_lostIn_16 (z : XKT) : XOi z xInf Y_X5_lostIn 16 (.inl (i_aload 0 17)) := ok_aload_n dX5_lostIn_16 rfl
theorem kX5_lostIn_17 (z : XKT) : XOi z xInf Y_X5_lostIn 17 (.inl (i_iload 1 18)) := ok_iload_n dX5_lostIn_17 rfl
theorem kX5_lostIn_18 (z : XKT) : XOi z xInf Y_X5_lostIn 18 (.inr (.inl (21, g_virt [(4, 296)] 1))) := show XOkC z xInf Y_X5_lostIn 18 21 (g_virt [(4, 296)] 1) from okc_V (q := Y_X5_lostIn) (List.forall_mem_cons.mpr ⟨(show XOkV z xInf Y_X5_lostIn 18 21 1 (4, 296) from okv_V (q := Y_X5_lostIn) (q1 := Y_X5_ticksToLoss) Z_X5_ticksToLoss rfl (by decide) ⟨by decide, by decide, Or.inl ⟨_, _, (List.mem_of_getElem? (l := xCls) (i := 3) rfl)⟩⟩ dX5_lostIn_18 q2790 q2792 qs75 q153 q2793 hy_323), (fun _ h => absurd h List.not_mem_nil)⟩)
theorem kX5_lostIn_21 (z : XKT) : XOi z xInf Y_X5_lostIn 21 (.inr (.inr (.inl (r_i .int)))) := show XOkR Y_X5_lostIn 21 ((r_i .int)) from okr_i (q := Y_X5_lostIn) (ty := .int) rfl rfl dX5_lostIn_21
theorem o_X5_lostIn (z : XKT) : XMi z xInf Y_X5_lostIn := XMi.mk9 (T := T_X5_lostIn z) rfl (⟨kX5_lostIn_0 z, ⟨kX5_lostIn_1 z, ⟨kX5_lostIn_2 z, ⟨kX5_lostIn_3 z, ⟨kX5_lostIn_6 z, ⟨kX5_lostIn_9 z, ⟨kX5_lostIn_12 z, ⟨kX5_lostIn_13 z, ⟨kX5_lostIn_16 z, ⟨kX5_lostIn_17 z, ⟨kX5_lostIn_18 z, ⟨kX5_lostIn_21 z, trivial⟩⟩⟩⟩⟩⟩⟩⟩⟩⟩⟩⟩) (hd_X5_lostIn z) rfl rfl (by decide +kernel)
theorem hd_X5_marked (z : XKT) : XHd z Y_X5_marked := xHd_none rfl (xhd0 rfl)
theorem kX5_marked_0 (z : XKT) : XOi z xInf Y_X5_marked 0 (.inl (i_aload 0 1)) := ok_aload_n dX5_marked_0 rfl
theorem kX5_marked_1 (z : XKT) : XOi z xInf Y_X5_marked 1 (.inl (i_iload 1 2)) := ok_iload_n dX5_marked_1 rfl
theorem kX5_marked_2 (z : XKT) : XOi z xInf Y_X5_marked 2 (.inr (.inl (5, g_stat 235 1))) := show XOkC z xInf Y_X5_marked 2 5 (g_stat 235 1) from okc_S (q := Y_X5_marked) (q1 := Y_X5_isOwner) Z_X5_isOwner rfl (by decide) dX5_marked_2 q2686 q2687 q153 q2688 hy_275
theorem kX5_marked_5 (z : XKT) : XOi z xInf Y_X5_marked 5 (.inl (i_if (fun x => x = 0) 21 8)) := ok_if_eq dX5_marked_5 rfl
theorem kX5_marked_8 (z : XKT) : XOi z xInf Y_X5_marked 8 (.inl (i_iload 2 9)) := ok_iload_n dX5_marked_8 rfl
theorem kX5_marked_9 (z : XKT) : XOi z xInf Y_X5_marked 9 (.inl (i_push (vI 0) 10)) := ok_iconst dX5_marked_9 rfl
theorem kX5_marked_10 (z : XKT) : XOi z xInf Y_X5_marked 10 (.inl (i_push (vI 3) 11)) := ok_iconst dX5_marked_10 rfl
theorem kX5_marked_11 (z : XKT) : XOi z xInf Y_X5_marked 11 (.inr (.inl (14, g_stat 226 3))) := show XOkC z xInf Y_X5_marked 11 14 (g_stat 226 3) from okc_S (q := Y_X5_marked) (q1 := Y_X5_inRange) Z_X5_inRange rfl (by decide) dX5_marked_11 q2603 q2604 q153 q2605 hy_261
theorem kX5_marked_14 (z : XKT) : XOi z xInf Y_X5_marked 14 (.inl (i_if (fun x => x = 0) 21 17)) := ok_if_eq dX5_marked_14 rfl
theorem kX5_marked_17 (z : XKT) : XOi z xInf Y_X5_marked 17 (.inl (i_push (vI 1) 18)) := ok_iconst dX5_marked_17 rfl
theorem kX5_marked_18 (z : XKT) : XOi z xInf Y_X5_marked 18 (.inl (i_goto 22)) := ok_goto dX5_marked_18 rfl
theorem kX5_marked_21 (z : XKT) : XOi z xInf Y_X5_marked 21 (.inl (i_push (vI 0) 22)) := ok_iconst dX5_marked_21 rfl
theorem kX5_marked_22 (z : XKT) : XOi z xInf Y_X5_marked 22 (.inr (.inl (25, g_virt [(4, 240)] 1))) := show XOkC z xInf Y_X5_marked 22 25 (g_virt [(4, 240)] 1) from okc_V (q := Y_X5_marked) (List.forall_mem_cons.mpr ⟨(show XOkV z xInf Y_X5_marked 22 25 1 (4, 240) from okv_V (q := Y_X5_marked) (q1 := Y_X5_lacks) Z_X5_lacks rfl (by decide) ⟨by decide, by decide, Or.inl ⟨_, _, (List.mem_of_getElem? (l := xCls) (i := 3) rfl)⟩⟩ dX5_marked_22 q2606 q2608 qs46 q153 q2609 hy_262), (fun _ h => absurd h List.not_mem_nil)⟩)
theorem kX5_marked_25 (z : XKT) : XOi z xInf Y_X5_marked 25 (.inl (i_if (fun x => x = 0) 30 28)) := ok_if_eq dX5_marked_25 rfl
theorem kX5_marked_28 (z : XKT) : XOi z xInf Y_X5_marked 28 (.inl (i_push (vI 0) 29)) := ok_iconst dX5_marked_28 rfl
theorem kX5_marked_29 (z : XKT) : XOi z xInf Y_X5_marked 29 (.inr (.inr (.inl (r_i .int)))) := show XOkR Y_X5_marked 29 ((r_i .int)) from okr_i (q := Y_X5_marked) (ty := .int) rfl rfl dX5_marked_29
theorem kX5_marked_30 (z : XKT) : XOi z xInf Y_X5_marked 30 (.inl (i_push (vI 0) 31)) := ok_iconst dX5_marked_30 rfl
theorem kX5_marked_31 (z : XKT) : XOi z xInf Y_X5_marked 31 (.inl (i_istore 3 32)) := ok_istore_n dX5_marked_31 rfl
theorem kX5_marked_32 (z : XKT) : XOi z xInf Y_X5_marked 32 (.inl (i_push (vI 0) 33)) := ok_iconst dX5_marked_32 rfl
theorem kX5_marked_33 (z : XKT) : XOi z xInf Y_X5_marked 33 (.inl (i_istore 4 35)) := ok_istore dX5_marked_33
theorem kX5_marked_35 (z : XKT) : XOi z xInf Y_X5_marked 35 (.inl (i_iload 4 37)) := ok_iload dX5_marked_35
theorem kX5_marked_37 (z : XKT) : XOi z xInf Y_X5_marked 37 (.inl (i_aload 0 38)) := ok_aload_n dX5_marked_37 rfl
theorem kX5_marked_38 (z : XKT) : XOi z xInf Y_X5_marked 38 (.inl (i_getr [4] 40 41)) := ok_getr dX5_marked_38 q2517 (List.forall_mem_cons.mpr ⟨⟨_, _, _, _, fd_40_4_0⟩, (fun _ h => absurd h List.not_mem_nil)⟩)
theorem kX5_marked_41 (z : XKT) : XOi z xInf Y_X5_marked 41 (.inl (i_push (vI 5) 42)) := ok_iconst dX5_marked_41 rfl
theorem kX5_marked_42 (z : XKT) : XOi z xInf Y_X5_marked 42 (.inl (i_ald 1000 43)) := ok_iald dX5_marked_42
theorem kX5_marked_43 (z : XKT) : XOi z xInf Y_X5_marked 43 (.inl (i_icmp (fun x y => y ≤ x) 87 46)) := ok_icmp_ge dX5_marked_43 rfl
theorem kX5_marked_46 (z : XKT) : XOi z xInf Y_X5_marked 46 (.inl (i_iload 3 47)) := ok_iload_n dX5_marked_46 rfl
theorem kX5_marked_47 (z : XKT) : XOi z xInf Y_X5_marked 47 (.inl (i_aload 0 48)) := ok_aload_n dX5_marked_47 rfl
theorem kX5_marked_48 (z : XKT) : XOi z xInf Y_X5_marked 48 (.inl (i_iload 4 50)) := ok_iload dX5_marked_48
theorem kX5_marked_50 (z : XKT) : XOi z xInf Y_X5_marked 50 (.inl (i_push (vI 2) 51)) := ok_iconst dX5_marked_50 rfl
theorem kX5_marked_51 (z : XKT) : XOi z xInf Y_X5_marked 51 (.inr (.inl (54, g_virt [(4, 253)] 2))) := show XOkC z xInf Y_X5_marked 51 54 (g_virt [(4, 253)] 2) from okc_V (q := Y_X5_marked) (List.forall_mem_cons.mpr ⟨(show XOkV z xInf Y_X5_marked 51 54 2 (4, 253) from okv_V (q := Y_X5_marked) (q1 := Y_X5_of) Z_X5_of rfl (by decide) ⟨by decide, by decide, Or.inl ⟨_, _, (List.mem_of_getElem? (l := xCls) (i := 3) rfl)⟩⟩ dX5_marked_51 q2622 q2624 qs50 q153 q2625 hy_265), (fun _ h => absurd h List.not_mem_nil)⟩)
theorem kX5_marked_54 (z : XKT) : XOi z xInf Y_X5_marked 54 (.inl (i_iload 1 55)) := ok_iload_n dX5_marked_54 rfl
theorem kX5_marked_55 (z : XKT) : XOi z xInf Y_X5_marked 55 (.inl (i_icmp (fun x y => ¬ x = y) 78 58)) := ok_icmp_ne dX5_marked_55 rfl
theorem kX5_marked_58 (z : XKT) : XOi z xInf Y_X5_marked 58 (.inl (i_aload 0 59)) := ok_aload_n dX5_marked_58 rfl
theorem kX5_marked_59 (z : XKT) : XOi z xInf Y_X5_marked 59 (.inl (i_iload 4 61)) := ok_iload dX5_marked_59
theorem kX5_marked_61 (z : XKT) : XOi z xInf Y_X5_marked 61 (.inl (i_iload 2 62)) := ok_iload_n dX5_marked_61 rfl
theorem kX5_marked_62 (z : XKT) : XOi z xInf Y_X5_marked 62 (.inr (.inl (65, g_virt [(4, 233)] 2))) := show XOkC z xInf Y_X5_marked 62 65 (g_virt [(4, 233)] 2) from okc_V (q := Y_X5_marked) (List.forall_mem_cons.mpr ⟨(show XOkV z xInf Y_X5_marked 62 65 2 (4, 233) from okv_V (q := Y_X5_marked) (q1 := Y_X5_isIn) Z_X5_isIn rfl (by decide) ⟨by decide, by decide, Or.inl ⟨_, _, (List.mem_of_getElem? (l := xCls) (i := 3) rfl)⟩⟩ dX5_marked_62 q2618 q2620 qs49 q153 q2621 hy_270), (fun _ h => absurd h List.not_mem_nil)⟩)
theorem kX5_marked_65 (z : XKT) : XOi z xInf Y_X5_marked 65 (.inl (i_if (fun x => x = 0) 78 68)) := ok_if_eq dX5_marked_65 rfl
theorem kX5_marked_68 (z : XKT) : XOi z xInf Y_X5_marked 68 (.inl (i_aload 0 69)) := ok_aload_n dX5_marked_68 rfl
theorem kX5_marked_69 (z : XKT) : XOi z xInf Y_X5_marked 69 (.inl (i_iload 4 71)) := ok_iload dX5_marked_69
theorem kX5_marked_71 (z : XKT) : XOi z xInf Y_X5_marked 71 (.inl (i_push (vI 1) 72)) := ok_iconst dX5_marked_71 rfl
theorem kX5_marked_72 (z : XKT) : XOi z xInf Y_X5_marked 72 (.inr (.inl (75, g_virt [(4, 253)] 2))) := show XOkC z xInf Y_X5_marked 72 75 (g_virt [(4, 253)] 2) from okc_V (q := Y_X5_marked) (List.forall_mem_cons.mpr ⟨(show XOkV z xInf Y_X5_marked 72 75 2 (4, 253) from okv_V (q := Y_X5_marked) (q1 := Y_X5_of) Z_X5_of rfl (by decide) ⟨by decide, by decide, Or.inl ⟨_, _, (List.mem_of_getElem? (l := xCls) (i := 3) rfl)⟩⟩ dX5_marked_72 q2622 q2624 qs50 q153 q2625 hy_265), (fun _ h => absurd h List.not_mem_nil)⟩)
theorem kX5_marked_75 (z : XKT) : XOi z xInf Y_X5_marked 75 (.inl (i_goto 79)) := ok_goto dX5_marked_75 rfl
theorem kX5_marked_78 (z : XKT) : XOi z xInf Y_X5_marked 78 (.inl (i_push (vI 0) 79)) := ok_iconst dX5_marked_78 rfl
theorem kX5_marked_79 (z : XKT) : XOi z xInf Y_X5_marked 79 (.inl (i_bin (fun x y => x + y) 80)) := ok_iadd dX5_marked_79
theorem kX5_marked_80 (z : XKT) : XOi z xInf Y_X5_marked 80 (.inl (i_istore 3 81)) := ok_istore_n dX5_marked_80 rfl
theorem kX5_marked_81 (z : XKT) : XOi z xInf Y_X5_marked 81 (.inl (i_iinc 4 1 84)) := ok_iinc dX5_marked_81 rfl
theorem kX5_marked_84 (z : XKT) : XOi z xInf Y_X5_marked 84 (.inl (i_goto 35)) := ok_goto dX5_marked_84 rfl
theorem kX5_marked_87 (z : XKT) : XOi z xInf Y_X5_marked 87 (.inl (i_iload 3 88)) := ok_iload_n dX5_marked_87 rfl
theorem kX5_marked_88 (z : XKT) : XOi z xInf Y_X5_marked 88 (.inr (.inr (.inl (r_i .int)))) := show XOkR Y_X5_marked 88 ((r_i .int)) from okr_i (q := Y_X5_marked) (ty := .int) rfl rfl dX5_marked_88
theorem o_X5_marked (z : XKT) : XMi z xInf Y_X5_marked := XMi.mk9 (T := T_X5_marked z) rfl (⟨kX5_marked_0 z, ⟨kX5_marked_1 z, ⟨kX5_marked_2 z, ⟨kX5_marked_5 z, ⟨kX5_marked_8 z, ⟨kX5_marked_9 z, ⟨kX5_marked_10 z, ⟨kX5_marked_11 z, ⟨kX5_marked_14 z, ⟨kX5_marked_17 z, ⟨kX5_marked_18 z, ⟨kX5_marked_21 z, ⟨kX5_marked_22 z, ⟨kX5_marked_25 z, ⟨kX5_marked_28 z, ⟨kX5_marked_29 z, ⟨kX5_marked_30 z, ⟨kX5_marked_31 z, ⟨kX5_marked_32 z, ⟨kX5_marked_33 z, ⟨kX5_marked_35 z, ⟨kX5_marked_37 z, ⟨kX5_marked_38 z, ⟨kX5_marked_41 z, ⟨kX5_marked_42 z, ⟨kX5_marked_43 z, ⟨kX5_marked_46 z, ⟨kX5_marked_47 z, ⟨kX5_marked_48 z, ⟨kX5_marked_50 z, ⟨kX5_marked_51 z, ⟨kX5_marked_54 z, ⟨kX5_marked_55 z, ⟨kX5_marked_58 z, ⟨kX5_marked_59 z, ⟨kX5_marked_61 z, ⟨kX5_marked_62 z, ⟨kX5_marked_65 z, ⟨kX5_marked_68 z, ⟨kX5_marked_69 z, ⟨kX5_marked_71 z, ⟨kX5_marked_72 z, ⟨kX5_marked_75 z, ⟨kX5_marked_78 z, ⟨kX5_marked_79 z, ⟨kX5_marked_80 z, ⟨kX5_marked_81 z, ⟨kX5_marked_84 z, ⟨kX5_marked_87 z, ⟨kX5_marked_88 z, trivial⟩⟩⟩⟩⟩⟩⟩⟩⟩⟩⟩⟩⟩⟩⟩⟩⟩⟩⟩⟩⟩⟩⟩⟩⟩⟩⟩⟩⟩⟩⟩⟩⟩⟩⟩⟩⟩⟩⟩⟩⟩⟩⟩⟩⟩⟩⟩⟩⟩⟩) (hd_X5_marked z) rfl rfl (by decide +kernel)
theorem hd_X5_nextLost (z : XKT) : XHd z Y_X5_nextLost := xHd_none rfl (xhd0 rfl)
theorem kX5_nextLost_0 (z : XKT) : XOi z xInf Y_X5_nextLost 0 (.inl (i_aload 0 1)) := ok_aload_n dX5_nextLost_0 rfl
theorem kX5_nextLost_1 (z : XKT) : XOi z xInf Y_X5_nextLost 1 (.inl (i_push (vI 0) 2)) := ok_iconst dX5_nextLost_1 rfl
theorem kX5_nextLost_2 (z : XKT) : XOi z xInf Y_X5_nextLost 2 (.inl (i_puti z.1 [4] .int 42 5)) := ok_puti dX5_nextLost_2 q2519 rfl (List.forall_mem_cons.mpr ⟨⟨_, _, _, _, tyX5, fd_42_4_0, ⟨tyX5_ok, nmX5, (Or.inl rfl)⟩, rfl⟩, (fun _ h => absurd h List.not_mem_nil)⟩)
theorem kX5_nextLost_5 (z : XKT) : XOi z xInf Y_X5_nextLost 5 (.inl (i_push (vI (-1)) 6)) := ok_iconst dX5_nextLost_5 rfl
theorem kX5_nextLost_6 (z : XKT) : XOi z xInf Y_X5_nextLost 6 (.inl (i_istore 1 7)) := ok_istore_n dX5_nextLost_6 rfl
theorem kX5_nextLost_7 (z : XKT) : XOi z xInf Y_X5_nextLost 7 (.inl (i_push (vI 0) 8)) := ok_iconst dX5_nextLost_7 rfl
theorem kX5_nextLost_8 (z : XKT) : XOi z xInf Y_X5_nextLost 8 (.inl (i_istore 2 9)) := ok_istore_n dX5_nextLost_8 rfl
theorem kX5_nextLost_9 (z : XKT) : XOi z xInf Y_X5_nextLost 9 (.inl (i_push (vI 0) 10)) := ok_iconst dX5_nextLost_9 rfl
theorem kX5_nextLost_10 (z : XKT) : XOi z xInf Y_X5_nextLost 10 (.inl (i_istore 3 11)) := ok_istore_n dX5_nextLost_10 rfl
theorem kX5_nextLost_11 (z : XKT) : XOi z xInf Y_X5_nextLost 11 (.inl (i_iload 3 12)) := ok_iload_n dX5_nextLost_11 rfl
theorem kX5_nextLost_12 (z : XKT) : XOi z xInf Y_X5_nextLost 12 (.inl (i_aload 0 13)) := ok_aload_n dX5_nextLost_12 rfl
theorem kX5_nextLost_13 (z : XKT) : XOi z xInf Y_X5_nextLost 13 (.inl (i_getr [4] 40 16)) := ok_getr dX5_nextLost_13 q2517 (List.forall_mem_cons.mpr ⟨⟨_, _, _, _, fd_40_4_0⟩, (fun _ h => absurd h List.not_mem_nil)⟩)
theorem kX5_nextLost_16 (z : XKT) : XOi z xInf Y_X5_nextLost 16 (.inl (i_push (vI 5) 17)) := ok_iconst dX5_nextLost_16 rfl
theorem kX5_nextLost_17 (z : XKT) : XOi z xInf Y_X5_nextLost 17 (.inl (i_ald 1000 18)) := ok_iald dX5_nextLost_17
theorem kX5_nextLost_18 (z : XKT) : XOi z xInf Y_X5_nextLost 18 (.inl (i_icmp (fun x y => y ≤ x) 56 21)) := ok_icmp_ge dX5_nextLost_18 rfl
theorem kX5_nextLost_21 (z : XKT) : XOi z xInf Y_X5_nextLost 21 (.inl (i_aload 0 22)) := ok_aload_n dX5_nextLost_21 rfl
theorem kX5_nextLost_22 (z : XKT) : XOi z xInf Y_X5_nextLost 22 (.inl (i_iload 3 23)) := ok_iload_n dX5_nextLost_22 rfl
theorem kX5_nextLost_23 (z : XKT) : XOi z xInf Y_X5_nextLost 23 (.inr (.inl (26, g_virt [(4, 296)] 1))) := show XOkC z xInf Y_X5_nextLost 23 26 (g_virt [(4, 296)] 1) from okc_V (q := Y_X5_nextLost) (List.forall_mem_cons.mpr ⟨(show XOkV z xInf Y_X5_nextLost 23 26 1 (4, 296) from okv_V (q := Y_X5_nextLost) (q1 := Y_X5_ticksToLoss) Z_X5_ticksToLoss rfl (by decide) ⟨by decide, by decide, Or.inl ⟨_, _, (List.mem_of_getElem? (l := xCls) (i := 3) rfl)⟩⟩ dX5_nextLost_23 q2790 q2792 qs75 q153 q2793 hy_323), (fun _ h => absurd h List.not_mem_nil)⟩)
theorem kX5_nextLost_26 (z : XKT) : XOi z xInf Y_X5_nextLost 26 (.inl (i_istore 4 28)) := ok_istore dX5_nextLost_26
theorem kX5_nextLost_28 (z : XKT) : XOi z xInf Y_X5_nextLost 28 (.inl (i_iload 4 30)) := ok_iload dX5_nextLost_28
theorem kX5_nextLost_30 (z : XKT) : XOi z xInf Y_X5_nextLost 30 (.inl (i_push (vI (-1)) 31)) := ok_iconst dX5_nextLost_30 rfl
theorem kX5_nextLost_31 (z : XKT) : XOi z xInf Y_X5_nextLost 31 (.inl (i_icmp (fun x y => x = y) 50 34)) := ok_icmp_eq dX5_nextLost_31 rfl
theorem kX5_nextLost_34 (z : XKT) : XOi z xInf Y_X5_nextLost 34 (.inl (i_iload 1 35)) := ok_iload_n dX5_nextLost_34 rfl
theorem kX5_nextLost_35 (z : XKT) : XOi z xInf Y_X5_nextLost 35 (.inl (i_push (vI (-1)) 36)) := ok_iconst dX5_nextLost_35 rfl
theorem kX5_nextLost_36 (z : XKT) : XOi z xInf Y_X5_nextLost 36 (.inl (i_icmp (fun x y => x = y) 45 39)) := ok_icmp_eq dX5_nextLost_36 rfl
theorem kX5_nextLost_39 (z : XKT) : XOi z xInf Y_X5_nextLost 39 (.inl (i_iload 4 41)) := ok_iload dX5_nextLost_39
theorem kX5_nextLost_41 (z : XKT) : XOi z xInf Y_X5_nextLost 41 (.inl (i_iload 2 42)) := ok_iload_n dX5_nextLost_41 rfl
theorem kX5_nextLost_42 (z : XKT) : XOi z xInf Y_X5_nextLost 42 (.inl (i_icmp (fun x y => y ≤ x) 50 45)) := ok_icmp_ge dX5_nextLost_42 rfl
theorem kX5_nextLost_45 (z : XKT) : XOi z xInf Y_X5_nextLost 45 (.inl (i_iload 3 46)) := ok_iload_n dX5_nextLost_45 rfl
theorem kX5_nextLost_46 (z : XKT) : XOi z xInf Y_X5_nextLost 46 (.inl (i_istore 1 47)) := ok_istore_n dX5_nextLost_46 rfl
theorem kX5_nextLost_47 (z : XKT) : XOi z xInf Y_X5_nextLost 47 (.inl (i_iload 4 49)) := ok_iload dX5_nextLost_47
theorem kX5_nextLost_49 (z : XKT) : XOi z xInf Y_X5_nextLost 49 (.inl (i_istore 2 50)) := ok_istore_n dX5_nextLost_49 rfl
theorem kX5_nextLost_50 (z : XKT) : XOi z xInf Y_X5_nextLost 50 (.inl (i_iinc 3 1 53)) := ok_iinc dX5_nextLost_50 rfl
theorem kX5_nextLost_53 (z : XKT) : XOi z xInf Y_X5_nextLost 53 (.inl (i_goto 11)) := ok_goto dX5_nextLost_53 rfl
theorem kX5_nextLost_56 (z : XKT) : XOi z xInf Y_X5_nextLost 56 (.inl (i_iload 1 57)) := ok_iload_n dX5_nextLost_56 rfl
theorem kX5_nextLost_57 (z : XKT) : XOi z xInf Y_X5_nextLost 57 (.inr (.inr (.inl (r_i .int)))) := show XOkR Y_X5_nextLost 57 ((r_i .int)) from okr_i (q := Y_X5_nextLost) (ty := .int) rfl rfl dX5_nextLost_57
theorem o_X5_nextLost (z : XKT) : XMi z xInf Y_X5_nextLost := XMi.mk9 (T := T_X5_nextLost z) rfl (⟨kX5_nextLost_0 z, ⟨kX5_nextLost_1 z, ⟨kX5_nextLost_2 z, ⟨kX5_nextLost_5 z, ⟨kX5_nextLost_6 z, ⟨kX5_nextLost_7 z, ⟨kX5_nextLost_8 z, ⟨kX5_nextLost_9 z, ⟨kX5_nextLost_10 z, ⟨kX5_nextLost_11 z, ⟨kX5_nextLost_12 z, ⟨kX5_nextLost_13 z, ⟨kX5_nextLost_16 z, ⟨kX5_nextLost_17 z, ⟨kX5_nextLost_18 z, ⟨kX5_nextLost_21 z, ⟨kX5_nextLost_22 z, ⟨kX5_nextLost_23 z, ⟨kX5_nextLost_26 z, ⟨kX5_nextLost_28 z, ⟨kX5_nextLost_30 z, ⟨kX5_nextLost_31 z, ⟨kX5_nextLost_34 z, ⟨kX5_nextLost_35 z, ⟨kX5_nextLost_36 z, ⟨kX5_nextLost_39 z, ⟨kX5_nextLost_41 z, ⟨kX5_nextLost_42 z, ⟨kX5_nextLost_45 z, ⟨kX5_nextLost_46 z, ⟨kX5_nextLost_47 z, ⟨kX5_nextLost_49 z, ⟨kX5_nextLost_50 z, ⟨kX5_nextLost_53 z, ⟨kX5_nextLost_56 z, ⟨kX5_nextLost_57 z, trivial⟩⟩⟩⟩⟩⟩⟩⟩⟩⟩⟩⟩⟩⟩⟩⟩⟩⟩⟩⟩⟩⟩⟩⟩⟩⟩⟩⟩⟩⟩⟩⟩⟩⟩⟩⟩) (hd_X5_nextLost z) rfl rfl (by decide +kernel)
theorem hd_X5_of (z : XKT) : XHd z Y_X5_of := xHd_none rfl (xhd0 rfl)
theorem kX5_of_0 (z : XKT) : XOi z xInf Y_X5_of 0 (.inl (i_aload 0 1)) := ok_aload_n dX5_of_0 rfl
theorem kX5_of_1 (z : XKT) : XOi z xInf Y_X5_of 1 (.inl (i_getr [4] 40 4)) := ok_getr dX5_of_1 q2517 (List.forall_mem_cons.mpr ⟨⟨_, _, _, _, fd_40_4_0⟩, (fun _ h => absurd h List.not_mem_nil)⟩)
theorem kX5_of_4 (z : XKT) : XOi z xInf Y_X5_of 4 (.inl (i_push (vI 36) 6)) := ok_bipush dX5_of_4 rfl
theorem kX5_of_6 (z : XKT) : XOi z xInf Y_X5_of 6 (.inl (i_push (vI 18) 8)) := ok_bipush dX5_of_6 rfl
theorem kX5_of_8 (z : XKT) : XOi z xInf Y_X5_of 8 (.inl (i_iload 1 9)) := ok_iload_n dX5_of_8 rfl
theorem kX5_of_9 (z : XKT) : XOi z xInf Y_X5_of 9 (.inl (i_bin (fun x y => x * y) 10)) := ok_imul dX5_of_9
theorem kX5_of_10 (z : XKT) : XOi z xInf Y_X5_of 10 (.inl (i_bin (fun x y => x + y) 11)) := ok_iadd dX5_of_10
theorem kX5_of_11 (z : XKT) : XOi z xInf Y_X5_of 11 (.inl (i_iload 2 12)) := ok_iload_n dX5_of_11 rfl
theorem kX5_of_12 (z : XKT) : XOi z xInf Y_X5_of 12 (.inl (i_bin (fun x y => x + y) 13)) := ok_iadd dX5_of_12
theorem kX5_of_13 (z : XKT) : XOi z xInf Y_X5_of 13 (.inl (i_ald 1000 14)) := ok_iald dX5_of_13
theorem kX5_of_14 (z : XKT) : XOi z xInf Y_X5_of 14 (.inr (.inr (.inl (r_i .int)))) := show XOkR Y_X5_of 14 ((r_i .int)) from okr_i (q := Y_X5_of) (ty := .int) rfl rfl dX5_of_14
theorem o_X5_of (z : XKT) : XMi z xInf Y_X5_of := XMi.mk9 (T := T_X5_of z) rfl (⟨kX5_of_0 z, ⟨kX5_of_1 z, ⟨kX5_of_4 z, ⟨kX5_of_6 z, ⟨kX5_of_8 z, ⟨kX5_of_9 z, ⟨kX5_of_10 z, ⟨kX5_of_11 z, ⟨kX5_of_12 z, ⟨kX5_of_13 z, ⟨kX5_of_14 z, trivial⟩⟩⟩⟩⟩⟩⟩⟩⟩⟩⟩) (hd_X5_of z) rfl rfl (by decide +kernel)
theorem hd_X5_ofFinder (z : XKT) : XHd z Y_X5_ofFinder := xHd_none rfl (xhd0 rfl)
theorem kX5_ofFinder_0 (z : XKT) : XOi z xInf Y_X5_ofFinder 0 (.inl (i_aload 0 1)) := ok_aload_n dX5_ofFinder_0 rfl
theorem kX5_ofFinder_1 (z : XKT) : XOi z xInf Y_X5_ofFinder 1 (.inl (i_getr [4] 40 4)) := ok_getr dX5_ofFinder_1 q2517 (List.forall_mem_cons.mpr ⟨⟨_, _, _, _, fd_40_4_0⟩, (fun _ h => absurd h List.not_mem_nil)⟩)
theorem kX5_ofFinder_4 (z : XKT) : XOi z xInf Y_X5_ofFinder 4 (.inl (i_push (vI 20) 6)) := ok_bipush dX5_ofFinder_4 rfl
theorem kX5_ofFinder_6 (z : XKT) : XOi z xInf Y_X5_ofFinder 6 (.inl (i_push (vI 2) 7)) := ok_iconst dX5_ofFinder_6 rfl
theorem kX5_ofFinder_7 (z : XKT) : XOi z xInf Y_X5_ofFinder 7 (.inl (i_iload 1 8)) := ok_iload_n dX5_ofFinder_7 rfl
theorem kX5_ofFinder_8 (z : XKT) : XOi z xInf Y_X5_ofFinder 8 (.inl (i_bin (fun x y => x * y) 9)) := ok_imul dX5_ofFinder_8
theorem kX5_ofFinder_9 (z : XKT) : XOi z xInf Y_X5_ofFinder 9 (.inl (i_bin (fun x y => x + y) 10)) := ok_iadd dX5_ofFinder_9
theorem kX5_ofFinder_10 (z : XKT) : XOi z xInf Y_X5_ofFinder 10 (.inl (i_iload 2 11)) := ok_iload_n dX5_ofFinder_10 rfl
theorem kX5_ofFinder_11 (z : XKT) : XOi z xInf Y_X5_ofFinder 11 (.inl (i_bin (fun x y => x + y) 12)) := ok_iadd dX5_ofFinder_11
theorem kX5_ofFinder_12 (z : XKT) : XOi z xInf Y_X5_ofFinder 12 (.inl (i_ald 1000 13)) := ok_iald dX5_ofFinder_12
theorem kX5_ofFinder_13 (z : XKT) : XOi z xInf Y_X5_ofFinder 13 (.inr (.inr (.inl (r_i .int)))) := show XOkR Y_X5_ofFinder 13 ((r_i .int)) from okr_i (q := Y_X5_ofFinder) (ty := .int) rfl rfl dX5_ofFinder_13
theorem o_X5_ofFinder (z : XKT) : XMi z xInf Y_X5_ofFinder := XMi.mk9 (T := T_X5_ofFinder z) rfl (⟨kX5_ofFinder_0 z, ⟨kX5_ofFinder_1 z, ⟨kX5_ofFinder_4 z, ⟨kX5_ofFinder_6 z, ⟨kX5_ofFinder_7 z, ⟨kX5_ofFinder_8 z, ⟨kX5_ofFinder_9 z, ⟨kX5_ofFinder_10 z, ⟨kX5_ofFinder_11 z, ⟨kX5_ofFinder_12 z, ⟨kX5_ofFinder_13 z, trivial⟩⟩⟩⟩⟩⟩⟩⟩⟩⟩⟩) (hd_X5_ofFinder z) rfl rfl (by decide +kernel)
theorem hd_X5_off (z : XKT) : XHd z Y_X5_off := xHd_none rfl (xhd0 rfl)
theorem kX5_off_0 (z : XKT) : XOi z xInf Y_X5_off 0 (.inl (i_aload 0 1)) := ok_aload_n dX5_off_0 rfl
theorem kX5_off_1 (z : XKT) : XOi z xInf Y_X5_off 1 (.inl (i_aload 0 2)) := ok_aload_n dX5_off_1 rfl
theorem kX5_off_2 (z : XKT) : XOi z xInf Y_X5_off 2 (.inl (i_iload 1 3)) := ok_iload_n dX5_off_2 rfl
theorem kX5_off_3 (z : XKT) : XOi z xInf Y_X5_off 3 (.inr (.inl (6, g_virt [(4, 231)] 1))) := show XOkC z xInf Y_X5_off 3 6 (g_virt [(4, 231)] 1) from okc_V (q := Y_X5_off) (List.forall_mem_cons.mpr ⟨(show XOkV z xInf Y_X5_off 3 6 1 (4, 231) from okv_V (q := Y_X5_off) (q1 := Y_X5_isFinder) Z_X5_isFinder rfl (by decide) ⟨by decide, by decide, Or.inl ⟨_, _, (List.mem_of_getElem? (l := xCls) (i := 3) rfl)⟩⟩ dX5_off_3 q2666 q2668 qs58 q153 q2669 hy_298), (fun _ h => absurd h List.not_mem_nil)⟩)
theorem kX5_off_6 (z : XKT) : XOi z xInf Y_X5_off 6 (.inr (.inl (9, g_virt [(4, 240)] 1))) := show XOkC z xInf Y_X5_off 6 9 (g_virt [(4, 240)] 1) from okc_V (q := Y_X5_off) (List.forall_mem_cons.mpr ⟨(show XOkV z xInf Y_X5_off 6 9 1 (4, 240) from okv_V (q := Y_X5_off) (q1 := Y_X5_lacks) Z_X5_lacks rfl (by decide) ⟨by decide, by decide, Or.inl ⟨_, _, (List.mem_of_getElem? (l := xCls) (i := 3) rfl)⟩⟩ dX5_off_6 q2606 q2608 qs46 q153 q2609 hy_262), (fun _ h => absurd h List.not_mem_nil)⟩)
theorem kX5_off_9 (z : XKT) : XOi z xInf Y_X5_off 9 (.inl (i_if (fun x => x = 0) 14 12)) := ok_if_eq dX5_off_9 rfl
theorem kX5_off_12 (z : XKT) : XOi z xInf Y_X5_off 12 (.inl (i_push (vI 0) 13)) := ok_iconst dX5_off_12 rfl
theorem kX5_off_13 (z : XKT) : XOi z xInf Y_X5_off 13 (.inr (.inr (.inl (r_i .int)))) := show XOkR Y_X5_off 13 ((r_i .int)) from okr_i (q := Y_X5_off) (ty := .int) rfl rfl dX5_off_13
theorem kX5_off_14 (z : XKT) : XOi z xInf Y_X5_off 14 (.inl (i_aload 0 15)) := ok_aload_n dX5_off_14 rfl
theorem kX5_off_15 (z : XKT) : XOi z xInf Y_X5_off 15 (.inr (.inl (18, g_virt [(4, 238)] 0))) := show XOkC z xInf Y_X5_off 15 18 (g_virt [(4, 238)] 0) from okc_V (q := Y_X5_off) (List.forall_mem_cons.mpr ⟨(show XOkV z xInf Y_X5_off 15 18 0 (4, 238) from okv_V (q := Y_X5_off) (q1 := Y_X5_keep) Z_X5_keep rfl (by decide) ⟨by decide, by decide, Or.inl ⟨_, _, (List.mem_of_getElem? (l := xCls) (i := 3) rfl)⟩⟩ dX5_off_15 q2878 q2880 qs79 q153 q2881 hy_276), (fun _ h => absurd h List.not_mem_nil)⟩)
theorem kX5_off_18 (z : XKT) : XOi z xInf Y_X5_off 18 (.inl (i_aload 0 19)) := ok_aload_n dX5_off_18 rfl
theorem kX5_off_19 (z : XKT) : XOi z xInf Y_X5_off 19 (.inl (i_aload 0 20)) := ok_aload_n dX5_off_19 rfl
theorem kX5_off_20 (z : XKT) : XOi z xInf Y_X5_off 20 (.inl (i_iload 1 21)) := ok_iload_n dX5_off_20 rfl
theorem kX5_off_21 (z : XKT) : XOi z xInf Y_X5_off 21 (.inr (.inl (24, g_virt [(4, 202)] 1))) := show XOkC z xInf Y_X5_off 21 24 (g_virt [(4, 202)] 1) from okc_V (q := Y_X5_off) (List.forall_mem_cons.mpr ⟨(show XOkV z xInf Y_X5_off 21 24 1 (4, 202) from okv_V (q := Y_X5_off) (q1 := Y_X5_doOff) Z_X5_doOff rfl (by decide) ⟨by decide, by decide, Or.inl ⟨_, _, (List.mem_of_getElem? (l := xCls) (i := 3) rfl)⟩⟩ dX5_off_21 q2914 q2916 qs86 q153 q2917 hy_300), (fun _ h => absurd h List.not_mem_nil)⟩)
theorem kX5_off_24 (z : XKT) : XOi z xInf Y_X5_off 24 (.inr (.inl (27, g_virt [(4, 275)] 1))) := show XOkC z xInf Y_X5_off 24 27 (g_virt [(4, 275)] 1) from okc_V (q := Y_X5_off) (List.forall_mem_cons.mpr ⟨(show XOkV z xInf Y_X5_off 24 27 1 (4, 275) from okv_V (q := Y_X5_off) (q1 := Y_X5_recorded) Z_X5_recorded rfl (by decide) ⟨by decide, by decide, Or.inl ⟨_, _, (List.mem_of_getElem? (l := xCls) (i := 3) rfl)⟩⟩ dX5_off_24 q2902 q2904 qs84 q153 q2905 hy_278), (fun _ h => absurd h List.not_mem_nil)⟩)
theorem kX5_off_27 (z : XKT) : XOi z xInf Y_X5_off 27 (.inr (.inr (.inl (r_i .int)))) := show XOkR Y_X5_off 27 ((r_i .int)) from okr_i (q := Y_X5_off) (ty := .int) rfl rfl dX5_off_27
theorem o_X5_off (z : XKT) : XMi z xInf Y_X5_off := XMi.mk9 (T := T_X5_off z) rfl (⟨kX5_off_0 z, ⟨kX5_off_1 z, ⟨kX5_off_2 z, ⟨kX5_off_3 z, ⟨kX5_off_6 z, ⟨kX5_off_9 z, ⟨kX5_off_12 z, ⟨kX5_off_13 z, ⟨kX5_off_14 z, ⟨kX5_off_15 z, ⟨kX5_off_18 z, ⟨kX5_off_19 z, ⟨kX5_off_20 z, ⟨kX5_off_21 z, ⟨kX5_off_24 z, ⟨kX5_off_27 z, trivial⟩⟩⟩⟩⟩⟩⟩⟩⟩⟩⟩⟩⟩⟩⟩⟩) (hd_X5_off z) rfl rfl (by decide +kernel)
theorem hd_X5_offAll (z : XKT) : XHd z Y_X5_offAll := xHd_none rfl (xhd0 rfl)
theorem kX5_offAll_0 (z : XKT) : XOi z xInf Y_X5_offAll 0 (.inl (i_aload 0 1)) := ok_aload_n dX5_offAll_0 rfl
theorem kX5_offAll_1 (z : XKT) : XOi z xInf Y_X5_offAll 1 (.inl (i_push (vI 0) 2)) := ok_iconst dX5_offAll_1 rfl
theorem kX5_offAll_2 (z : XKT) : XOi z xInf Y_X5_offAll 2 (.inl (i_puti z.1 [4] .int 42 5)) := ok_puti dX5_offAll_2 q2519 rfl (List.forall_mem_cons.mpr ⟨⟨_, _, _, _, tyX5, fd_42_4_0, ⟨tyX5_ok, nmX5, (Or.inl rfl)⟩, rfl⟩, (fun _ h => absurd h List.not_mem_nil)⟩)
theorem kX5_offAll_5 (z : XKT) : XOi z xInf Y_X5_offAll 5 (.inl (i_aload 0 6)) := ok_aload_n dX5_offAll_5 rfl
theorem kX5_offAll_6 (z : XKT) : XOi z xInf Y_X5_offAll 6 (.inr (.inl (9, g_virt [(4, 238)] 0))) := show XOkC z xInf Y_X5_offAll 6 9 (g_virt [(4, 238)] 0) from okc_V (q := Y_X5_offAll) (List.forall_mem_cons.mpr ⟨(show XOkV z xInf Y_X5_offAll 6 9 0 (4, 238) from okv_V (q := Y_X5_offAll) (q1 := Y_X5_keep) Z_X5_keep rfl (by decide) ⟨by decide, by decide, Or.inl ⟨_, _, (List.mem_of_getElem? (l := xCls) (i := 3) rfl)⟩⟩ dX5_offAll_6 q2878 q2880 qs79 q153 q2881 hy_276), (fun _ h => absurd h List.not_mem_nil)⟩)
theorem kX5_offAll_9 (z : XKT) : XOi z xInf Y_X5_offAll 9 (.inl (i_aload 0 10)) := ok_aload_n dX5_offAll_9 rfl
theorem kX5_offAll_10 (z : XKT) : XOi z xInf Y_X5_offAll 10 (.inl (i_aload 0 11)) := ok_aload_n dX5_offAll_10 rfl
theorem kX5_offAll_11 (z : XKT) : XOi z xInf Y_X5_offAll 11 (.inr (.inl (14, g_virt [(4, 203)] 0))) := show XOkC z xInf Y_X5_offAll 11 14 (g_virt [(4, 203)] 0) from okc_V (q := Y_X5_offAll) (List.forall_mem_cons.mpr ⟨(show XOkV z xInf Y_X5_offAll 11 14 0 (4, 203) from okv_V (q := Y_X5_offAll) (q1 := Y_X5_doOffAll) Z_X5_doOffAll rfl (by decide) ⟨by decide, by decide, Or.inl ⟨_, _, (List.mem_of_getElem? (l := xCls) (i := 3) rfl)⟩⟩ dX5_offAll_11 q2922 q2924 qs87 q153 q2925 hy_324), (fun _ h => absurd h List.not_mem_nil)⟩)
theorem kX5_offAll_14 (z : XKT) : XOi z xInf Y_X5_offAll 14 (.inr (.inl (17, g_virt [(4, 275)] 1))) := show XOkC z xInf Y_X5_offAll 14 17 (g_virt [(4, 275)] 1) from okc_V (q := Y_X5_offAll) (List.forall_mem_cons.mpr ⟨(show XOkV z xInf Y_X5_offAll 14 17 1 (4, 275) from okv_V (q := Y_X5_offAll) (q1 := Y_X5_recorded) Z_X5_recorded rfl (by decide) ⟨by decide, by decide, Or.inl ⟨_, _, (List.mem_of_getElem? (l := xCls) (i := 3) rfl)⟩⟩ dX5_offAll_14 q2902 q2904 qs84 q153 q2905 hy_278), (fun _ h => absurd h List.not_mem_nil)⟩)
theorem kX5_offAll_17 (z : XKT) : XOi z xInf Y_X5_offAll 17 (.inr (.inr (.inl (r_i .int)))) := show XOkR Y_X5_offAll 17 ((r_i .int)) from okr_i (q := Y_X5_offAll) (ty := .int) rfl rfl dX5_offAll_17
theorem o_X5_offAll (z : XKT) : XMi z xInf Y_X5_offAll := XMi.mk9 (T := T_X5_offAll z) rfl (⟨kX5_offAll_0 z, ⟨kX5_offAll_1 z, ⟨kX5_offAll_2 z, ⟨kX5_offAll_5 z, ⟨kX5_offAll_6 z, ⟨kX5_offAll_9 z, ⟨kX5_offAll_10 z, ⟨kX5_offAll_11 z, ⟨kX5_offAll_14 z, ⟨kX5_offAll_17 z, trivial⟩⟩⟩⟩⟩⟩⟩⟩⟩⟩) (hd_X5_offAll z) rfl rfl (by decide +kernel)
theorem hd_X5_orderHere (z : XKT) : XHd z Y_X5_orderHere := xHd_none rfl (xhd0 rfl)
theorem kX5_orderHere_0 (z : XKT) : XOi z xInf Y_X5_orderHere 0 (.inl (i_push (vI 0) 1)) := ok_iconst dX5_orderHere_0 rfl
theorem kX5_orderHere_1 (z : XKT) : XOi z xInf Y_X5_orderHere 1 (.inl (i_istore 1 2)) := ok_istore_n dX5_orderHere_1 rfl
theorem kX5_orderHere_2 (z : XKT) : XOi z xInf Y_X5_orderHere 2 (.inl (i_iload 1 3)) := ok_iload_n dX5_orderHere_2 rfl
theorem kX5_orderHere_3 (z : XKT) : XOi z xInf Y_X5_orderHere 3 (.inl (i_aload 0 4)) := ok_aload_n dX5_orderHere_3 rfl
theorem kX5_orderHere_4 (z : XKT) : XOi z xInf Y_X5_orderHere 4 (.inl (i_getr [4] 57 7)) := ok_getr dX5_orderHere_4 q2534 (List.forall_mem_cons.mpr ⟨⟨_, _, _, _, fd_57_4_0⟩, (fun _ h => absurd h List.not_mem_nil)⟩)
theorem kX5_orderHere_7 (z : XKT) : XOi z xInf Y_X5_orderHere 7 (.inl (i_alen 8)) := ok_alen dX5_orderHere_7
theorem kX5_orderHere_8 (z : XKT) : XOi z xInf Y_X5_orderHere 8 (.inl (i_icmp (fun x y => y ≤ x) 32 11)) := ok_icmp_ge dX5_orderHere_8 rfl
theorem kX5_orderHere_11 (z : XKT) : XOi z xInf Y_X5_orderHere 11 (.inl (i_aload 0 12)) := ok_aload_n dX5_orderHere_11 rfl
theorem kX5_orderHere_12 (z : XKT) : XOi z xInf Y_X5_orderHere 12 (.inl (i_aload 0 13)) := ok_aload_n dX5_orderHere_12 rfl
theorem kX5_orderHere_13 (z : XKT) : XOi z xInf Y_X5_orderHere 13 (.inl (i_getr [4] 57 16)) := ok_getr dX5_orderHere_13 q2534 (List.forall_mem_cons.mpr ⟨⟨_, _, _, _, fd_57_4_0⟩, (fun _ h => absurd h List.not_mem_nil)⟩)
theorem kX5_orderHere_16 (z : XKT) : XOi z xInf Y_X5_orderHere 16 (.inl (i_iload 1 17)) := ok_iload_n dX5_orderHere_16 rfl
theorem kX5_orderHere_17 (z : XKT) : XOi z xInf Y_X5_orderHere 17 (.inl (i_arld [1003, 1004, 1005, 1006, 1007] 18)) := ok_arld (by decide) dX5_orderHere_17
theorem kX5_orderHere_18 (z : XKT) : XOi z xInf Y_X5_orderHere 18 (.inr (.inl (21, g_virt [(4, 237)] 1))) := show XOkC z xInf Y_X5_orderHere 18 21 (g_virt [(4, 237)] 1) from okc_V (q := Y_X5_orderHere) (List.forall_mem_cons.mpr ⟨(show XOkV z xInf Y_X5_orderHere 18 21 1 (4, 237) from okv_V (q := Y_X5_orderHere) (q1 := Y_X5_isWord) Z_X5_isWord rfl (by decide) ⟨by decide, by decide, Or.inl ⟨_, _, (List.mem_of_getElem? (l := xCls) (i := 3) rfl)⟩⟩ dX5_orderHere_18 q3067 q3069 qs108 q153 q3070 hy_259), (fun _ h => absurd h List.not_mem_nil)⟩)
theorem kX5_orderHere_21 (z : XKT) : XOi z xInf Y_X5_orderHere 21 (.inl (i_if (fun x => x = 0) 26 24)) := ok_if_eq dX5_orderHere_21 rfl
theorem kX5_orderHere_24 (z : XKT) : XOi z xInf Y_X5_orderHere 24 (.inl (i_iload 1 25)) := ok_iload_n dX5_orderHere_24 rfl
theorem kX5_orderHere_25 (z : XKT) : XOi z xInf Y_X5_orderHere 25 (.inr (.inr (.inl (r_i .int)))) := show XOkR Y_X5_orderHere 25 ((r_i .int)) from okr_i (q := Y_X5_orderHere) (ty := .int) rfl rfl dX5_orderHere_25
theorem kX5_orderHere_26 (z : XKT) : XOi z xInf Y_X5_orderHere 26 (.inl (i_iinc 1 1 29)) := ok_iinc dX5_orderHere_26 rfl
theorem kX5_orderHere_29 (z : XKT) : XOi z xInf Y_X5_orderHere 29 (.inl (i_goto 2)) := ok_goto dX5_orderHere_29 rfl
theorem kX5_orderHere_32 (z : XKT) : XOi z xInf Y_X5_orderHere 32 (.inl (i_push (vI (-1)) 33)) := ok_iconst dX5_orderHere_32 rfl
theorem kX5_orderHere_33 (z : XKT) : XOi z xInf Y_X5_orderHere 33 (.inr (.inr (.inl (r_i .int)))) := show XOkR Y_X5_orderHere 33 ((r_i .int)) from okr_i (q := Y_X5_orderHere) (ty := .int) rfl rfl dX5_orderHere_33
theorem o_X5_orderHere (z : XKT) : XMi z xInf Y_X5_orderHere := XMi.mk9 (T := T_X5_orderHere z) rfl (⟨kX5_orderHere_0 z, ⟨kX5_orderHere_1 z, ⟨kX5_orderHere_2 z, ⟨kX5_orderHere_3 z, ⟨kX5_orderHere_4 z, ⟨kX5_orderHere_7 z, ⟨kX5_orderHere_8 z, ⟨kX5_orderHere_11 z, ⟨kX5_orderHere_12 z, ⟨kX5_orderHere_13 z, ⟨kX5_orderHere_16 z, ⟨kX5_orderHere_17 z, ⟨kX5_orderHere_18 z, ⟨kX5_orderHere_21 z, ⟨kX5_orderHere_24 z, ⟨kX5_orderHere_25 z, ⟨kX5_orderHere_26 z, ⟨kX5_orderHere_29 z, ⟨kX5_orderHere_32 z, ⟨kX5_orderHere_33 z, trivial⟩⟩⟩⟩⟩⟩⟩⟩⟩⟩⟩⟩⟩⟩⟩⟩⟩⟩⟩⟩) (hd_X5_orderHere z) rfl rfl (by decide +kernel)
theorem hd_X5_owner (z : XKT) : XHd z Y_X5_owner := xHd_none rfl (xhd0 rfl)
theorem kX5_owner_0 (z : XKT) : XOi z xInf Y_X5_owner 0 (.inl (i_aload 0 1)) := ok_aload_n dX5_owner_0 rfl
theorem kX5_owner_1 (z : XKT) : XOi z xInf Y_X5_owner 1 (.inl (i_iload 1 2)) := ok_iload_n dX5_owner_1 rfl
theorem kX5_owner_2 (z : XKT) : XOi z xInf Y_X5_owner 2 (.inr (.inl (5, g_stat 235 1))) := show XOkC z xInf Y_X5_owner 2 5 (g_stat 235 1) from okc_S (q := Y_X5_owner) (q1 := Y_X5_isOwner) Z_X5_isOwner rfl (by decide) dX5_owner_2 q2686 q2687 q153 q2688 hy_275
theorem kX5_owner_5 (z : XKT) : XOi z xInf Y_X5_owner 5 (.inr (.inl (8, g_virt [(4, 240)] 1))) := show XOkC z xInf Y_X5_owner 5 8 (g_virt [(4, 240)] 1) from okc_V (q := Y_X5_owner) (List.forall_mem_cons.mpr ⟨(show XOkV z xInf Y_X5_owner 5 8 1 (4, 240) from okv_V (q := Y_X5_owner) (q1 := Y_X5_lacks) Z_X5_lacks rfl (by decide) ⟨by decide, by decide, Or.inl ⟨_, _, (List.mem_of_getElem? (l := xCls) (i := 3) rfl)⟩⟩ dX5_owner_5 q2606 q2608 qs46 q153 q2609 hy_262), (fun _ h => absurd h List.not_mem_nil)⟩)
theorem kX5_owner_8 (z : XKT) : XOi z xInf Y_X5_owner 8 (.inl (i_if (fun x => x = 0) 15 11)) := ok_if_eq dX5_owner_8 rfl
theorem kX5_owner_11 (z : XKT) : XOi z xInf Y_X5_owner 11 (.inl (i_push (vI 0) 12)) := ok_iconst dX5_owner_11 rfl
theorem kX5_owner_12 (z : XKT) : XOi z xInf Y_X5_owner 12 (.inl (i_goto 26)) := ok_goto dX5_owner_12 rfl
theorem kX5_owner_15 (z : XKT) : XOi z xInf Y_X5_owner 15 (.inl (i_aload 0 16)) := ok_aload_n dX5_owner_15 rfl
theorem kX5_owner_16 (z : XKT) : XOi z xInf Y_X5_owner 16 (.inl (i_getr [4] 40 19)) := ok_getr dX5_owner_16 q2517 (List.forall_mem_cons.mpr ⟨⟨_, _, _, _, fd_40_4_0⟩, (fun _ h => absurd h List.not_mem_nil)⟩)
theorem kX5_owner_19 (z : XKT) : XOi z xInf Y_X5_owner 19 (.inl (i_push (vI 15) 21)) := ok_bipush dX5_owner_19 rfl
theorem kX5_owner_21 (z : XKT) : XOi z xInf Y_X5_owner 21 (.inl (i_iload 1 22)) := ok_iload_n dX5_owner_21 rfl
theorem kX5_owner_22 (z : XKT) : XOi z xInf Y_X5_owner 22 (.inl (i_bin (fun x y => x + y) 23)) := ok_iadd dX5_owner_22
theorem kX5_owner_23 (z : XKT) : XOi z xInf Y_X5_owner 23 (.inl (i_push (vI 1) 24)) := ok_iconst dX5_owner_23 rfl
theorem kX5_owner_24 (z : XKT) : XOi z xInf Y_X5_owner 24 (.inl (i_bin (fun x y => x - y) 25)) := ok_isub dX5_owner_24
theorem kX5_owner_25 (z : XKT) : XOi z xInf Y_X5_owner 25 (.inl (i_ald 1000 26)) := ok_iald dX5_owner_25
theorem kX5_owner_26 (z : XKT) : XOi z xInf Y_X5_owner 26 (.inr (.inr (.inl (r_i .int)))) := show XOkR Y_X5_owner 26 ((r_i .int)) from okr_i (q := Y_X5_owner) (ty := .int) rfl rfl dX5_owner_26
theorem o_X5_owner (z : XKT) : XMi z xInf Y_X5_owner := XMi.mk9 (T := T_X5_owner z) rfl (⟨kX5_owner_0 z, ⟨kX5_owner_1 z, ⟨kX5_owner_2 z, ⟨kX5_owner_5 z, ⟨kX5_owner_8 z, ⟨kX5_owner_11 z, ⟨kX5_owner_12 z, ⟨kX5_owner_15 z, ⟨kX5_owner_16 z, ⟨kX5_owner_19 z, ⟨kX5_owner_21 z, ⟨kX5_owner_22 z, ⟨kX5_owner_23 z, ⟨kX5_owner_24 z, ⟨kX5_owner_25 z, ⟨kX5_owner_26 z, trivial⟩⟩⟩⟩⟩⟩⟩⟩⟩⟩⟩⟩⟩⟩⟩⟩) (hd_X5_owner z) rfl rfl (by decide +kernel)
theorem hd_X5_ownerOf (z : XKT) : XHd z Y_X5_ownerOf := xHd_none rfl (xhd0 rfl)
theorem kX5_ownerOf_0 (z : XKT) : XOi z xInf Y_X5_ownerOf 0 (.inl (i_iload 2 1)) := ok_iload_n dX5_ownerOf_0 rfl
theorem kX5_ownerOf_1 (z : XKT) : XOi z xInf Y_X5_ownerOf 1 (.inl (i_if (fun x => x = 0) 19 4)) := ok_if_eq dX5_ownerOf_1 rfl
theorem kX5_ownerOf_4 (z : XKT) : XOi z xInf Y_X5_ownerOf 4 (.inl (i_aload 0 5)) := ok_aload_n dX5_ownerOf_4 rfl
theorem kX5_ownerOf_5 (z : XKT) : XOi z xInf Y_X5_ownerOf 5 (.inl (i_iload 1 6)) := ok_iload_n dX5_ownerOf_5 rfl
theorem kX5_ownerOf_6 (z : XKT) : XOi z xInf Y_X5_ownerOf 6 (.inl (i_push (vI 1) 7)) := ok_iconst dX5_ownerOf_6 rfl
theorem kX5_ownerOf_7 (z : XKT) : XOi z xInf Y_X5_ownerOf 7 (.inr (.inl (10, g_virt [(4, 253)] 2))) := show XOkC z xInf Y_X5_ownerOf 7 10 (g_virt [(4, 253)] 2) from okc_V (q := Y_X5_ownerOf) (List.forall_mem_cons.mpr ⟨(show XOkV z xInf Y_X5_ownerOf 7 10 2 (4, 253) from okv_V (q := Y_X5_ownerOf) (q1 := Y_X5_of) Z_X5_of rfl (by decide) ⟨by decide, by decide, Or.inl ⟨_, _, (List.mem_of_getElem? (l := xCls) (i := 3) rfl)⟩⟩ dX5_ownerOf_7 q2622 q2624 qs50 q153 q2625 hy_265), (fun _ h => absurd h List.not_mem_nil)⟩)
theorem kX5_ownerOf_10 (z : XKT) : XOi z xInf Y_X5_ownerOf 10 (.inl (i_aload 0 11)) := ok_aload_n dX5_ownerOf_10 rfl
theorem kX5_ownerOf_11 (z : XKT) : XOi z xInf Y_X5_ownerOf 11 (.inl (i_iload 1 12)) := ok_iload_n dX5_ownerOf_11 rfl
theorem kX5_ownerOf_12 (z : XKT) : XOi z xInf Y_X5_ownerOf 12 (.inr (.inl (15, g_virt [(4, 281)] 1))) := show XOkC z xInf Y_X5_ownerOf 12 15 (g_virt [(4, 281)] 1) from okc_V (q := Y_X5_ownerOf) (List.forall_mem_cons.mpr ⟨(show XOkV z xInf Y_X5_ownerOf 12 15 1 (4, 281) from okv_V (q := Y_X5_ownerOf) (q1 := Y_X5_salvageOf) Z_X5_salvageOf rfl (by decide) ⟨by decide, by decide, Or.inl ⟨_, _, (List.mem_of_getElem? (l := xCls) (i := 3) rfl)⟩⟩ dX5_ownerOf_12 q2737 q2739 qs69 q153 q2740 hy_284), (fun _ h => absurd h List.not_mem_nil)⟩)
theorem kX5_ownerOf_15 (z : XKT) : XOi z xInf Y_X5_ownerOf 15 (.inl (i_bin (fun x y => x - y) 16)) := ok_isub dX5_ownerOf_15
theorem kX5_ownerOf_16 (z : XKT) : XOi z xInf Y_X5_ownerOf 16 (.inl (i_goto 20)) := ok_goto dX5_ownerOf_16 rfl
theorem kX5_ownerOf_19 (z : XKT) : XOi z xInf Y_X5_ownerOf 19 (.inl (i_push (vI 0) 20)) := ok_iconst dX5_ownerOf_19 rfl
theorem kX5_ownerOf_20 (z : XKT) : XOi z xInf Y_X5_ownerOf 20 (.inr (.inr (.inl (r_i .int)))) := show XOkR Y_X5_ownerOf 20 ((r_i .int)) from okr_i (q := Y_X5_ownerOf) (ty := .int) rfl rfl dX5_ownerOf_20
theorem o_X5_ownerOf (z : XKT) : XMi z xInf Y_X5_ownerOf := XMi.mk9 (T := T_X5_ownerOf z) rfl (⟨kX5_ownerOf_0 z, ⟨kX5_ownerOf_1 z, ⟨kX5_ownerOf_4 z, ⟨kX5_ownerOf_5 z, ⟨kX5_ownerOf_6 z, ⟨kX5_ownerOf_7 z, ⟨kX5_ownerOf_10 z, ⟨kX5_ownerOf_11 z, ⟨kX5_ownerOf_12 z, ⟨kX5_ownerOf_15 z, ⟨kX5_ownerOf_16 z, ⟨kX5_ownerOf_19 z, ⟨kX5_ownerOf_20 z, trivial⟩⟩⟩⟩⟩⟩⟩⟩⟩⟩⟩⟩⟩) (hd_X5_ownerOf z) rfl rfl (by decide +kernel)
theorem hd_X5_ownerShare (z : XKT) : XHd z Y_X5_ownerShare := xHd_none rfl (xhd0 rfl)
theorem kX5_ownerShare_0 (z : XKT) : XOi z xInf Y_X5_ownerShare 0 (.inl (i_aload 0 1)) := ok_aload_n dX5_ownerShare_0 rfl
theorem kX5_ownerShare_1 (z : XKT) : XOi z xInf Y_X5_ownerShare 1 (.inl (i_aload 0 2)) := ok_aload_n dX5_ownerShare_1 rfl
theorem kX5_ownerShare_2 (z : XKT) : XOi z xInf Y_X5_ownerShare 2 (.inl (i_iload 1 3)) := ok_iload_n dX5_ownerShare_2 rfl
theorem kX5_ownerShare_3 (z : XKT) : XOi z xInf Y_X5_ownerShare 3 (.inr (.inl (6, g_virt [(4, 232)] 1))) := show XOkC z xInf Y_X5_ownerShare 3 6 (g_virt [(4, 232)] 1) from okc_V (q := Y_X5_ownerShare) (List.forall_mem_cons.mpr ⟨(show XOkV z xInf Y_X5_ownerShare 3 6 1 (4, 232) from okv_V (q := Y_X5_ownerShare) (q1 := Y_X5_isGood) Z_X5_isGood rfl (by decide) ⟨by decide, by decide, Or.inl ⟨_, _, (List.mem_of_getElem? (l := xCls) (i := 3) rfl)⟩⟩ dX5_ownerShare_3 q2654 q2656 qs56 q153 q2657 hy_272), (fun _ h => absurd h List.not_mem_nil)⟩)
theorem kX5_ownerShare_6 (z : XKT) : XOi z xInf Y_X5_ownerShare 6 (.inr (.inl (9, g_virt [(4, 240)] 1))) := show XOkC z xInf Y_X5_ownerShare 6 9 (g_virt [(4, 240)] 1) from okc_V (q := Y_X5_ownerShare) (List.forall_mem_cons.mpr ⟨(show XOkV z xInf Y_X5_ownerShare 6 9 1 (4, 240) from okv_V (q := Y_X5_ownerShare) (q1 := Y_X5_lacks) Z_X5_lacks rfl (by decide) ⟨by decide, by decide, Or.inl ⟨_, _, (List.mem_of_getElem? (l := xCls) (i := 3) rfl)⟩⟩ dX5_ownerShare_6 q2606 q2608 qs46 q153 q2609 hy_262), (fun _ h => absurd h List.not_mem_nil)⟩)
theorem kX5_ownerShare_9 (z : XKT) : XOi z xInf Y_X5_ownerShare 9 (.inl (i_if (fun x => x = 0) 14 12)) := ok_if_eq dX5_ownerShare_9 rfl
theorem kX5_ownerShare_12 (z : XKT) : XOi z xInf Y_X5_ownerShare 12 (.inl (i_push (vI 0) 13)) := ok_iconst dX5_ownerShare_12 rfl
theorem kX5_ownerShare_13 (z : XKT) : XOi z xInf Y_X5_ownerShare 13 (.inr (.inr (.inl (r_i .int)))) := show XOkR Y_X5_ownerShare 13 ((r_i .int)) from okr_i (q := Y_X5_ownerShare) (ty := .int) rfl rfl dX5_ownerShare_13
theorem kX5_ownerShare_14 (z : XKT) : XOi z xInf Y_X5_ownerShare 14 (.inl (i_aload 0 15)) := ok_aload_n dX5_ownerShare_14 rfl
theorem kX5_ownerShare_15 (z : XKT) : XOi z xInf Y_X5_ownerShare 15 (.inl (i_iload 1 16)) := ok_iload_n dX5_ownerShare_15 rfl
theorem kX5_ownerShare_16 (z : XKT) : XOi z xInf Y_X5_ownerShare 16 (.inl (i_push (vI 3) 17)) := ok_iconst dX5_ownerShare_16 rfl
theorem kX5_ownerShare_17 (z : XKT) : XOi z xInf Y_X5_ownerShare 17 (.inr (.inl (20, g_virt [(4, 233)] 2))) := show XOkC z xInf Y_X5_ownerShare 17 20 (g_virt [(4, 233)] 2) from okc_V (q := Y_X5_ownerShare) (List.forall_mem_cons.mpr ⟨(show XOkV z xInf Y_X5_ownerShare 17 20 2 (4, 233) from okv_V (q := Y_X5_ownerShare) (q1 := Y_X5_isIn) Z_X5_isIn rfl (by decide) ⟨by decide, by decide, Or.inl ⟨_, _, (List.mem_of_getElem? (l := xCls) (i := 3) rfl)⟩⟩ dX5_ownerShare_17 q2618 q2620 qs49 q153 q2621 hy_270), (fun _ h => absurd h List.not_mem_nil)⟩)
theorem kX5_ownerShare_20 (z : XKT) : XOi z xInf Y_X5_ownerShare 20 (.inl (i_if (fun x => x = 0) 27 23)) := ok_if_eq dX5_ownerShare_20 rfl
theorem kX5_ownerShare_23 (z : XKT) : XOi z xInf Y_X5_ownerShare 23 (.inl (i_push (vI 0) 24)) := ok_iconst dX5_ownerShare_23 rfl
theorem kX5_ownerShare_24 (z : XKT) : XOi z xInf Y_X5_ownerShare 24 (.inl (i_goto 37)) := ok_goto dX5_ownerShare_24 rfl
theorem kX5_ownerShare_27 (z : XKT) : XOi z xInf Y_X5_ownerShare 27 (.inl (i_aload 0 28)) := ok_aload_n dX5_ownerShare_27 rfl
theorem kX5_ownerShare_28 (z : XKT) : XOi z xInf Y_X5_ownerShare 28 (.inl (i_iload 1 29)) := ok_iload_n dX5_ownerShare_28 rfl
theorem kX5_ownerShare_29 (z : XKT) : XOi z xInf Y_X5_ownerShare 29 (.inl (i_aload 0 30)) := ok_aload_n dX5_ownerShare_29 rfl
theorem kX5_ownerShare_30 (z : XKT) : XOi z xInf Y_X5_ownerShare 30 (.inl (i_iload 1 31)) := ok_iload_n dX5_ownerShare_30 rfl
theorem kX5_ownerShare_31 (z : XKT) : XOi z xInf Y_X5_ownerShare 31 (.inr (.inl (34, g_virt [(4, 228)] 1))) := show XOkC z xInf Y_X5_ownerShare 31 34 (g_virt [(4, 228)] 1) from okc_V (q := Y_X5_ownerShare) (List.forall_mem_cons.mpr ⟨(show XOkV z xInf Y_X5_ownerShare 31 34 1 (4, 228) from okv_V (q := Y_X5_ownerShare) (q1 := Y_X5_isClaimed) Z_X5_isClaimed rfl (by decide) ⟨by decide, by decide, Or.inl ⟨_, _, (List.mem_of_getElem? (l := xCls) (i := 3) rfl)⟩⟩ dX5_ownerShare_31 q2725 q2727 qs66 q153 q2728 hy_280), (fun _ h => absurd h List.not_mem_nil)⟩)
theorem kX5_ownerShare_34 (z : XKT) : XOi z xInf Y_X5_ownerShare 34 (.inr (.inl (37, g_virt [(4, 259)] 2))) := show XOkC z xInf Y_X5_ownerShare 34 37 (g_virt [(4, 259)] 2) from okc_V (q := Y_X5_ownerShare) (List.forall_mem_cons.mpr ⟨(show XOkV z xInf Y_X5_ownerShare 34 37 2 (4, 259) from okv_V (q := Y_X5_ownerShare) (q1 := Y_X5_ownerOf) Z_X5_ownerOf rfl (by decide) ⟨by decide, by decide, Or.inl ⟨_, _, (List.mem_of_getElem? (l := xCls) (i := 3) rfl)⟩⟩ dX5_ownerShare_34 q2733 q2735 qs68 q153 q2736 hy_281), (fun _ h => absurd h List.not_mem_nil)⟩)
theorem kX5_ownerShare_37 (z : XKT) : XOi z xInf Y_X5_ownerShare 37 (.inr (.inr (.inl (r_i .int)))) := show XOkR Y_X5_ownerShare 37 ((r_i .int)) from okr_i (q := Y_X5_ownerShare) (ty := .int) rfl rfl dX5_ownerShare_37
theorem o_X5_ownerShare (z : XKT) : XMi z xInf Y_X5_ownerShare := XMi.mk9 (T := T_X5_ownerShare z) rfl (⟨kX5_ownerShare_0 z, ⟨kX5_ownerShare_1 z, ⟨kX5_ownerShare_2 z, ⟨kX5_ownerShare_3 z, ⟨kX5_ownerShare_6 z, ⟨kX5_ownerShare_9 z, ⟨kX5_ownerShare_12 z, ⟨kX5_ownerShare_13 z, ⟨kX5_ownerShare_14 z, ⟨kX5_ownerShare_15 z, ⟨kX5_ownerShare_16 z, ⟨kX5_ownerShare_17 z, ⟨kX5_ownerShare_20 z, ⟨kX5_ownerShare_23 z, ⟨kX5_ownerShare_24 z, ⟨kX5_ownerShare_27 z, ⟨kX5_ownerShare_28 z, ⟨kX5_ownerShare_29 z, ⟨kX5_ownerShare_30 z, ⟨kX5_ownerShare_31 z, ⟨kX5_ownerShare_34 z, ⟨kX5_ownerShare_37 z, trivial⟩⟩⟩⟩⟩⟩⟩⟩⟩⟩⟩⟩⟩⟩⟩⟩⟩⟩⟩⟩⟩⟩) (hd_X5_ownerShare z) rfl rfl (by decide +kernel)
theorem hd_X5_partOf (z : XKT) : XHd z Y_X5_partOf := xHd_none rfl (xhd0 rfl)
theorem kX5_partOf_0 (z : XKT) : XOi z xInf Y_X5_partOf 0 (.inl (i_iload 2 1)) := ok_iload_n dX5_partOf_0 rfl
theorem kX5_partOf_1 (z : XKT) : XOi z xInf Y_X5_partOf 1 (.inl (i_if (fun x => ¬ x = 0) 8 4)) := ok_if_ne dX5_partOf_1 rfl
theorem kX5_partOf_4 (z : XKT) : XOi z xInf Y_X5_partOf 4 (.inl (i_push (vI 2) 5)) := ok_iconst dX5_partOf_4 rfl
theorem kX5_partOf_5 (z : XKT) : XOi z xInf Y_X5_partOf 5 (.inl (i_goto 9)) := ok_goto dX5_partOf_5 rfl
theorem kX5_partOf_8 (z : XKT) : XOi z xInf Y_X5_partOf 8 (.inl (i_push (vI 1) 9)) := ok_iconst dX5_partOf_8 rfl
theorem kX5_partOf_9 (z : XKT) : XOi z xInf Y_X5_partOf 9 (.inl (i_istore 3 10)) := ok_istore_n dX5_partOf_9 rfl
theorem kX5_partOf_10 (z : XKT) : XOi z xInf Y_X5_partOf 10 (.inl (i_aload 0 11)) := ok_aload_n dX5_partOf_10 rfl
theorem kX5_partOf_11 (z : XKT) : XOi z xInf Y_X5_partOf 11 (.inl (i_iload 1 12)) := ok_iload_n dX5_partOf_11 rfl
theorem kX5_partOf_12 (z : XKT) : XOi z xInf Y_X5_partOf 12 (.inl (i_aload 0 13)) := ok_aload_n dX5_partOf_12 rfl
theorem kX5_partOf_13 (z : XKT) : XOi z xInf Y_X5_partOf 13 (.inl (i_iload 1 14)) := ok_iload_n dX5_partOf_13 rfl
theorem kX5_partOf_14 (z : XKT) : XOi z xInf Y_X5_partOf 14 (.inr (.inl (17, g_virt [(4, 228)] 1))) := show XOkC z xInf Y_X5_partOf 14 17 (g_virt [(4, 228)] 1) from okc_V (q := Y_X5_partOf) (List.forall_mem_cons.mpr ⟨(show XOkV z xInf Y_X5_partOf 14 17 1 (4, 228) from okv_V (q := Y_X5_partOf) (q1 := Y_X5_isClaimed) Z_X5_isClaimed rfl (by decide) ⟨by decide, by decide, Or.inl ⟨_, _, (List.mem_of_getElem? (l := xCls) (i := 3) rfl)⟩⟩ dX5_partOf_14 q2725 q2727 qs66 q153 q2728 hy_280), (fun _ h => absurd h List.not_mem_nil)⟩)
theorem kX5_partOf_17 (z : XKT) : XOi z xInf Y_X5_partOf 17 (.inr (.inl (20, g_virt [(4, 189)] 2))) := show XOkC z xInf Y_X5_partOf 17 20 (g_virt [(4, 189)] 2) from okc_V (q := Y_X5_partOf) (List.forall_mem_cons.mpr ⟨(show XOkV z xInf Y_X5_partOf 17 20 2 (4, 189) from okv_V (q := Y_X5_partOf) (q1 := Y_X5_crewOf) Z_X5_crewOf rfl (by decide) ⟨by decide, by decide, Or.inl ⟨_, _, (List.mem_of_getElem? (l := xCls) (i := 3) rfl)⟩⟩ dX5_partOf_17 q2729 q2731 qs67 q153 q2732 hy_279), (fun _ h => absurd h List.not_mem_nil)⟩)
theorem kX5_partOf_20 (z : XKT) : XOi z xInf Y_X5_partOf 20 (.inl (i_iload 3 21)) := ok_iload_n dX5_partOf_20 rfl
theorem kX5_partOf_21 (z : XKT) : XOi z xInf Y_X5_partOf 21 (.inl (i_bin (fun x y => x * y) 22)) := ok_imul dX5_partOf_21
theorem kX5_partOf_22 (z : XKT) : XOi z xInf Y_X5_partOf 22 (.inl (i_aload 0 23)) := ok_aload_n dX5_partOf_22 rfl
theorem kX5_partOf_23 (z : XKT) : XOi z xInf Y_X5_partOf 23 (.inl (i_iload 1 24)) := ok_iload_n dX5_partOf_23 rfl
theorem kX5_partOf_24 (z : XKT) : XOi z xInf Y_X5_partOf 24 (.inl (i_push (vI 9) 26)) := ok_bipush dX5_partOf_24 rfl
theorem kX5_partOf_26 (z : XKT) : XOi z xInf Y_X5_partOf 26 (.inr (.inl (29, g_virt [(4, 253)] 2))) := show XOkC z xInf Y_X5_partOf 26 29 (g_virt [(4, 253)] 2) from okc_V (q := Y_X5_partOf) (List.forall_mem_cons.mpr ⟨(show XOkV z xInf Y_X5_partOf 26 29 2 (4, 253) from okv_V (q := Y_X5_partOf) (q1 := Y_X5_of) Z_X5_of rfl (by decide) ⟨by decide, by decide, Or.inl ⟨_, _, (List.mem_of_getElem? (l := xCls) (i := 3) rfl)⟩⟩ dX5_partOf_26 q2622 q2624 qs50 q153 q2625 hy_265), (fun _ h => absurd h List.not_mem_nil)⟩)
theorem kX5_partOf_29 (z : XKT) : XOi z xInf Y_X5_partOf 29 (.inl (i_push (vI 1) 30)) := ok_iconst dX5_partOf_29 rfl
theorem kX5_partOf_30 (z : XKT) : XOi z xInf Y_X5_partOf 30 (.inl (i_bin (fun x y => x + y) 31)) := ok_iadd dX5_partOf_30
theorem kX5_partOf_31 (z : XKT) : XOi z xInf Y_X5_partOf 31 (.inl (i_quo (fun x y => x / y) 32)) := ok_idiv dX5_partOf_31
theorem kX5_partOf_32 (z : XKT) : XOi z xInf Y_X5_partOf 32 (.inr (.inr (.inl (r_i .int)))) := show XOkR Y_X5_partOf 32 ((r_i .int)) from okr_i (q := Y_X5_partOf) (ty := .int) rfl rfl dX5_partOf_32
theorem o_X5_partOf (z : XKT) : XMi z xInf Y_X5_partOf := XMi.mk9 (T := T_X5_partOf z) rfl (⟨kX5_partOf_0 z, ⟨kX5_partOf_1 z, ⟨kX5_partOf_4 z, ⟨kX5_partOf_5 z, ⟨kX5_partOf_8 z, ⟨kX5_partOf_9 z, ⟨kX5_partOf_10 z, ⟨kX5_partOf_11 z, ⟨kX5_partOf_12 z, ⟨kX5_partOf_13 z, ⟨kX5_partOf_14 z, ⟨kX5_partOf_17 z, ⟨kX5_partOf_20 z, ⟨kX5_partOf_21 z, ⟨kX5_partOf_22 z, ⟨kX5_partOf_23 z, ⟨kX5_partOf_24 z, ⟨kX5_partOf_26 z, ⟨kX5_partOf_29 z, ⟨kX5_partOf_30 z, ⟨kX5_partOf_31 z, ⟨kX5_partOf_32 z, trivial⟩⟩⟩⟩⟩⟩⟩⟩⟩⟩⟩⟩⟩⟩⟩⟩⟩⟩⟩⟩⟩⟩) (hd_X5_partOf z) rfl rfl (by decide +kernel)
theorem hd_X5_pay (z : XKT) : XHd z Y_X5_pay := xHd_none rfl (xhd0 rfl)
theorem kX5_pay_0 (z : XKT) : XOi z xInf Y_X5_pay 0 (.inl (i_aload 0 1)) := ok_aload_n dX5_pay_0 rfl
theorem kX5_pay_1 (z : XKT) : XOi z xInf Y_X5_pay 1 (.inl (i_aload 0 2)) := ok_aload_n dX5_pay_1 rfl
theorem kX5_pay_2 (z : XKT) : XOi z xInf Y_X5_pay 2 (.inl (i_iload 1 3)) := ok_iload_n dX5_pay_2 rfl
theorem kX5_pay_3 (z : XKT) : XOi z xInf Y_X5_pay 3 (.inr (.inl (6, g_virt [(4, 231)] 1))) := show XOkC z xInf Y_X5_pay 3 6 (g_virt [(4, 231)] 1) from okc_V (q := Y_X5_pay) (List.forall_mem_cons.mpr ⟨(show XOkV z xInf Y_X5_pay 3 6 1 (4, 231) from okv_V (q := Y_X5_pay) (q1 := Y_X5_isFinder) Z_X5_isFinder rfl (by decide) ⟨by decide, by decide, Or.inl ⟨_, _, (List.mem_of_getElem? (l := xCls) (i := 3) rfl)⟩⟩ dX5_pay_3 q2666 q2668 qs58 q153 q2669 hy_298), (fun _ h => absurd h List.not_mem_nil)⟩)
theorem kX5_pay_6 (z : XKT) : XOi z xInf Y_X5_pay 6 (.inl (i_if (fun x => x = 0) 21 9)) := ok_if_eq dX5_pay_6 rfl
theorem kX5_pay_9 (z : XKT) : XOi z xInf Y_X5_pay 9 (.inl (i_aload 0 10)) := ok_aload_n dX5_pay_9 rfl
theorem kX5_pay_10 (z : XKT) : XOi z xInf Y_X5_pay 10 (.inl (i_iload 2 11)) := ok_iload_n dX5_pay_10 rfl
theorem kX5_pay_11 (z : XKT) : XOi z xInf Y_X5_pay 11 (.inr (.inl (14, g_virt [(4, 231)] 1))) := show XOkC z xInf Y_X5_pay 11 14 (g_virt [(4, 231)] 1) from okc_V (q := Y_X5_pay) (List.forall_mem_cons.mpr ⟨(show XOkV z xInf Y_X5_pay 11 14 1 (4, 231) from okv_V (q := Y_X5_pay) (q1 := Y_X5_isFinder) Z_X5_isFinder rfl (by decide) ⟨by decide, by decide, Or.inl ⟨_, _, (List.mem_of_getElem? (l := xCls) (i := 3) rfl)⟩⟩ dX5_pay_11 q2666 q2668 qs58 q153 q2669 hy_298), (fun _ h => absurd h List.not_mem_nil)⟩)
theorem kX5_pay_14 (z : XKT) : XOi z xInf Y_X5_pay 14 (.inl (i_if (fun x => x = 0) 21 17)) := ok_if_eq dX5_pay_14 rfl
theorem kX5_pay_17 (z : XKT) : XOi z xInf Y_X5_pay 17 (.inl (i_push (vI 1) 18)) := ok_iconst dX5_pay_17 rfl
theorem kX5_pay_18 (z : XKT) : XOi z xInf Y_X5_pay 18 (.inl (i_goto 22)) := ok_goto dX5_pay_18 rfl
theorem kX5_pay_21 (z : XKT) : XOi z xInf Y_X5_pay 21 (.inl (i_push (vI 0) 22)) := ok_iconst dX5_pay_21 rfl
theorem kX5_pay_22 (z : XKT) : XOi z xInf Y_X5_pay 22 (.inr (.inl (25, g_virt [(4, 240)] 1))) := show XOkC z xInf Y_X5_pay 22 25 (g_virt [(4, 240)] 1) from okc_V (q := Y_X5_pay) (List.forall_mem_cons.mpr ⟨(show XOkV z xInf Y_X5_pay 22 25 1 (4, 240) from okv_V (q := Y_X5_pay) (q1 := Y_X5_lacks) Z_X5_lacks rfl (by decide) ⟨by decide, by decide, Or.inl ⟨_, _, (List.mem_of_getElem? (l := xCls) (i := 3) rfl)⟩⟩ dX5_pay_22 q2606 q2608 qs46 q153 q2609 hy_262), (fun _ h => absurd h List.not_mem_nil)⟩)
theorem kX5_pay_25 (z : XKT) : XOi z xInf Y_X5_pay 25 (.inl (i_if (fun x => x = 0) 30 28)) := ok_if_eq dX5_pay_25 rfl
theorem kX5_pay_28 (z : XKT) : XOi z xInf Y_X5_pay 28 (.inl (i_push (vI 0) 29)) := ok_iconst dX5_pay_28 rfl
theorem kX5_pay_29 (z : XKT) : XOi z xInf Y_X5_pay 29 (.inr (.inr (.inl (r_i .int)))) := show XOkR Y_X5_pay 29 ((r_i .int)) from okr_i (q := Y_X5_pay) (ty := .int) rfl rfl dX5_pay_29
theorem kX5_pay_30 (z : XKT) : XOi z xInf Y_X5_pay 30 (.inl (i_iload 3 31)) := ok_iload_n dX5_pay_30 rfl
theorem kX5_pay_31 (z : XKT) : XOi z xInf Y_X5_pay 31 (.inl (i_push (vI 1) 32)) := ok_iconst dX5_pay_31 rfl
theorem kX5_pay_32 (z : XKT) : XOi z xInf Y_X5_pay 32 (.inl (i_push (vI 999) 35)) := ok_sipush dX5_pay_32 rfl
theorem kX5_pay_35 (z : XKT) : XOi z xInf Y_X5_pay 35 (.inr (.inl (38, g_stat 226 3))) := show XOkC z xInf Y_X5_pay 35 38 (g_stat 226 3) from okc_S (q := Y_X5_pay) (q1 := Y_X5_inRange) Z_X5_inRange rfl (by decide) dX5_pay_35 q2603 q2604 q153 q2605 hy_261
theorem kX5_pay_38 (z : XKT) : XOi z xInf Y_X5_pay 38 (.inl (i_if (fun x => ¬ x = 0) 47 41)) := ok_if_ne dX5_pay_38 rfl
theorem kX5_pay_41 (z : XKT) : XOi z xInf Y_X5_pay 41 (.inl (i_aload 0 42)) := ok_aload_n dX5_pay_41 rfl
theorem kX5_pay_42 (z : XKT) : XOi z xInf Y_X5_pay 42 (.inl (i_push (vI 2) 43)) := ok_iconst dX5_pay_42 rfl
theorem kX5_pay_43 (z : XKT) : XOi z xInf Y_X5_pay 43 (.inr (.inl (46, g_virt [(4, 266)] 1))) := show XOkC z xInf Y_X5_pay 43 46 (g_virt [(4, 266)] 1) from okc_V (q := Y_X5_pay) (List.forall_mem_cons.mpr ⟨(show XOkV z xInf Y_X5_pay 43 46 1 (4, 266) from okv_V (q := Y_X5_pay) (q1 := Y_X5_raise) Z_X5_raise rfl (by decide) ⟨by decide, by decide, Or.inl ⟨_, _, (List.mem_of_getElem? (l := xCls) (i := 3) rfl)⟩⟩ dX5_pay_43 q2658 q2660 qs57 q153 q2661 hy_310), (fun _ h => absurd h List.not_mem_nil)⟩)
theorem kX5_pay_46 (z : XKT) : XOi z xInf Y_X5_pay 46 (.inr (.inr (.inl (r_i .int)))) := show XOkR Y_X5_pay 46 ((r_i .int)) from okr_i (q := Y_X5_pay) (ty := .int) rfl rfl dX5_pay_46
theorem kX5_pay_47 (z : XKT) : XOi z xInf Y_X5_pay 47 (.inl (i_aload 0 48)) := ok_aload_n dX5_pay_47 rfl
theorem kX5_pay_48 (z : XKT) : XOi z xInf Y_X5_pay 48 (.inr (.inl (51, g_virt [(4, 238)] 0))) := show XOkC z xInf Y_X5_pay 48 51 (g_virt [(4, 238)] 0) from okc_V (q := Y_X5_pay) (List.forall_mem_cons.mpr ⟨(show XOkV z xInf Y_X5_pay 48 51 0 (4, 238) from okv_V (q := Y_X5_pay) (q1 := Y_X5_keep) Z_X5_keep rfl (by decide) ⟨by decide, by decide, Or.inl ⟨_, _, (List.mem_of_getElem? (l := xCls) (i := 3) rfl)⟩⟩ dX5_pay_48 q2878 q2880 qs79 q153 q2881 hy_276), (fun _ h => absurd h List.not_mem_nil)⟩)
theorem kX5_pay_51 (z : XKT) : XOi z xInf Y_X5_pay 51 (.inl (i_aload 0 52)) := ok_aload_n dX5_pay_51 rfl
theorem kX5_pay_52 (z : XKT) : XOi z xInf Y_X5_pay 52 (.inl (i_aload 0 53)) := ok_aload_n dX5_pay_52 rfl
theorem kX5_pay_53 (z : XKT) : XOi z xInf Y_X5_pay 53 (.inl (i_iload 1 54)) := ok_iload_n dX5_pay_53 rfl
theorem kX5_pay_54 (z : XKT) : XOi z xInf Y_X5_pay 54 (.inl (i_iload 2 55)) := ok_iload_n dX5_pay_54 rfl
theorem kX5_pay_55 (z : XKT) : XOi z xInf Y_X5_pay 55 (.inl (i_iload 3 56)) := ok_iload_n dX5_pay_55 rfl
theorem kX5_pay_56 (z : XKT) : XOi z xInf Y_X5_pay 56 (.inr (.inl (59, g_virt [(4, 204)] 3))) := show XOkC z xInf Y_X5_pay 56 59 (g_virt [(4, 204)] 3) from okc_V (q := Y_X5_pay) (List.forall_mem_cons.mpr ⟨(show XOkV z xInf Y_X5_pay 56 59 3 (4, 204) from okv_V (q := Y_X5_pay) (q1 := Y_X5_doPay) Z_X5_doPay rfl (by decide) ⟨by decide, by decide, Or.inl ⟨_, _, (List.mem_of_getElem? (l := xCls) (i := 3) rfl)⟩⟩ dX5_pay_56 q2930 q2932 qs88 q153 q2933 hy_302), (fun _ h => absurd h List.not_mem_nil)⟩)
theorem kX5_pay_59 (z : XKT) : XOi z xInf Y_X5_pay 59 (.inr (.inl (62, g_virt [(4, 275)] 1))) := show XOkC z xInf Y_X5_pay 59 62 (g_virt [(4, 275)] 1) from okc_V (q := Y_X5_pay) (List.forall_mem_cons.mpr ⟨(show XOkV z xInf Y_X5_pay 59 62 1 (4, 275) from okv_V (q := Y_X5_pay) (q1 := Y_X5_recorded) Z_X5_recorded rfl (by decide) ⟨by decide, by decide, Or.inl ⟨_, _, (List.mem_of_getElem? (l := xCls) (i := 3) rfl)⟩⟩ dX5_pay_59 q2902 q2904 qs84 q153 q2905 hy_278), (fun _ h => absurd h List.not_mem_nil)⟩)
theorem kX5_pay_62 (z : XKT) : XOi z xInf Y_X5_pay 62 (.inr (.inr (.inl (r_i .int)))) := show XOkR Y_X5_pay 62 ((r_i .int)) from okr_i (q := Y_X5_pay) (ty := .int) rfl rfl dX5_pay_62
theorem o_X5_pay (z : XKT) : XMi z xInf Y_X5_pay := XMi.mk9 (T := T_X5_pay z) rfl (⟨kX5_pay_0 z, ⟨kX5_pay_1 z, ⟨kX5_pay_2 z, ⟨kX5_pay_3 z, ⟨kX5_pay_6 z, ⟨kX5_pay_9 z, ⟨kX5_pay_10 z, ⟨kX5_pay_11 z, ⟨kX5_pay_14 z, ⟨kX5_pay_17 z, ⟨kX5_pay_18 z, ⟨kX5_pay_21 z, ⟨kX5_pay_22 z, ⟨kX5_pay_25 z, ⟨kX5_pay_28 z, ⟨kX5_pay_29 z, ⟨kX5_pay_30 z, ⟨kX5_pay_31 z, ⟨kX5_pay_32 z, ⟨kX5_pay_35 z, ⟨kX5_pay_38 z, ⟨kX5_pay_41 z, ⟨kX5_pay_42 z, ⟨kX5_pay_43 z, ⟨kX5_pay_46 z, ⟨kX5_pay_47 z, ⟨kX5_pay_48 z, ⟨kX5_pay_51 z, ⟨kX5_pay_52 z, ⟨kX5_pay_53 z, ⟨kX5_pay_54 z, ⟨kX5_pay_55 z, ⟨kX5_pay_56 z, ⟨kX5_pay_59 z, ⟨kX5_pay_62 z, trivial⟩⟩⟩⟩⟩⟩⟩⟩⟩⟩⟩⟩⟩⟩⟩⟩⟩⟩⟩⟩⟩⟩⟩⟩⟩⟩⟩⟩⟩⟩⟩⟩⟩⟩⟩) (hd_X5_pay z) rfl rfl (by decide +kernel)
theorem hd_X5_placeOf (z : XKT) : XHd z Y_X5_placeOf := xHd_none rfl (xhd0 rfl)
theorem kX5_placeOf_0 (z : XKT) : XOi z xInf Y_X5_placeOf 0 (.inl (i_push (vI 0) 1)) := ok_iconst dX5_placeOf_0 rfl
theorem kX5_placeOf_1 (z : XKT) : XOi z xInf Y_X5_placeOf 1 (.inl (i_istore 3 2)) := ok_istore_n dX5_placeOf_1 rfl
theorem kX5_placeOf_2 (z : XKT) : XOi z xInf Y_X5_placeOf 2 (.inl (i_iload 3 3)) := ok_iload_n dX5_placeOf_2 rfl
theorem kX5_placeOf_3 (z : XKT) : XOi z xInf Y_X5_placeOf 3 (.inl (i_aload 0 4)) := ok_aload_n dX5_placeOf_3 rfl
theorem kX5_placeOf_4 (z : XKT) : XOi z xInf Y_X5_placeOf 4 (.inl (i_iload 1 5)) := ok_iload_n dX5_placeOf_4 rfl
theorem kX5_placeOf_5 (z : XKT) : XOi z xInf Y_X5_placeOf 5 (.inl (i_push (vI 9) 7)) := ok_bipush dX5_placeOf_5 rfl
theorem kX5_placeOf_7 (z : XKT) : XOi z xInf Y_X5_placeOf 7 (.inr (.inl (10, g_virt [(4, 253)] 2))) := show XOkC z xInf Y_X5_placeOf 7 10 (g_virt [(4, 253)] 2) from okc_V (q := Y_X5_placeOf) (List.forall_mem_cons.mpr ⟨(show XOkV z xInf Y_X5_placeOf 7 10 2 (4, 253) from okv_V (q := Y_X5_placeOf) (q1 := Y_X5_of) Z_X5_of rfl (by decide) ⟨by decide, by decide, Or.inl ⟨_, _, (List.mem_of_getElem? (l := xCls) (i := 3) rfl)⟩⟩ dX5_placeOf_7 q2622 q2624 qs50 q153 q2625 hy_265), (fun _ h => absurd h List.not_mem_nil)⟩)
theorem kX5_placeOf_10 (z : XKT) : XOi z xInf Y_X5_placeOf 10 (.inl (i_icmp (fun x y => y ≤ x) 31 13)) := ok_icmp_ge dX5_placeOf_10 rfl
theorem kX5_placeOf_13 (z : XKT) : XOi z xInf Y_X5_placeOf 13 (.inl (i_aload 0 14)) := ok_aload_n dX5_placeOf_13 rfl
theorem kX5_placeOf_14 (z : XKT) : XOi z xInf Y_X5_placeOf 14 (.inl (i_iload 1 15)) := ok_iload_n dX5_placeOf_14 rfl
theorem kX5_placeOf_15 (z : XKT) : XOi z xInf Y_X5_placeOf 15 (.inl (i_iload 3 16)) := ok_iload_n dX5_placeOf_15 rfl
theorem kX5_placeOf_16 (z : XKT) : XOi z xInf Y_X5_placeOf 16 (.inr (.inl (19, g_virt [(4, 223)] 2))) := show XOkC z xInf Y_X5_placeOf 16 19 (g_virt [(4, 223)] 2) from okc_V (q := Y_X5_placeOf) (List.forall_mem_cons.mpr ⟨(show XOkV z xInf Y_X5_placeOf 16 19 2 (4, 223) from okv_V (q := Y_X5_placeOf) (q1 := Y_X5_handOf) Z_X5_handOf rfl (by decide) ⟨by decide, by decide, Or.inl ⟨_, _, (List.mem_of_getElem? (l := xCls) (i := 3) rfl)⟩⟩ dX5_placeOf_16 q2674 q2676 qs60 q153 q2677 hy_287), (fun _ h => absurd h List.not_mem_nil)⟩)
theorem kX5_placeOf_19 (z : XKT) : XOi z xInf Y_X5_placeOf 19 (.inl (i_iload 2 20)) := ok_iload_n dX5_placeOf_19 rfl
theorem kX5_placeOf_20 (z : XKT) : XOi z xInf Y_X5_placeOf 20 (.inl (i_icmp (fun x y => ¬ x = y) 25 23)) := ok_icmp_ne dX5_placeOf_20 rfl
theorem kX5_placeOf_23 (z : XKT) : XOi z xInf Y_X5_placeOf 23 (.inl (i_iload 3 24)) := ok_iload_n dX5_placeOf_23 rfl
theorem kX5_placeOf_24 (z : XKT) : XOi z xInf Y_X5_placeOf 24 (.inr (.inr (.inl (r_i .int)))) := show XOkR Y_X5_placeOf 24 ((r_i .int)) from okr_i (q := Y_X5_placeOf) (ty := .int) rfl rfl dX5_placeOf_24
theorem kX5_placeOf_25 (z : XKT) : XOi z xInf Y_X5_placeOf 25 (.inl (i_iinc 3 1 28)) := ok_iinc dX5_placeOf_25 rfl
theorem kX5_placeOf_28 (z : XKT) : XOi z xInf Y_X5_placeOf 28 (.inl (i_goto 2)) := ok_goto dX5_placeOf_28 rfl
theorem kX5_placeOf_31 (z : XKT) : XOi z xInf Y_X5_placeOf 31 (.inl (i_push (vI (-1)) 32)) := ok_iconst dX5_placeOf_31 rfl
theorem kX5_placeOf_32 (z : XKT) : XOi z xInf Y_X5_placeOf 32 (.inr (.inr (.inl (r_i .int)))) := show XOkR Y_X5_placeOf 32 ((r_i .int)) from okr_i (q := Y_X5_placeOf) (ty := .int) rfl rfl dX5_placeOf_32
theorem o_X5_placeOf (z : XKT) : XMi z xInf Y_X5_placeOf := XMi.mk9 (T := T_X5_placeOf z) rfl (⟨kX5_placeOf_0 z, ⟨kX5_placeOf_1 z, ⟨kX5_placeOf_2 z, ⟨kX5_placeOf_3 z, ⟨kX5_placeOf_4 z, ⟨kX5_placeOf_5 z, ⟨kX5_placeOf_7 z, ⟨kX5_placeOf_10 z, ⟨kX5_placeOf_13 z, ⟨kX5_placeOf_14 z, ⟨kX5_placeOf_15 z, ⟨kX5_placeOf_16 z, ⟨kX5_placeOf_19 z, ⟨kX5_placeOf_20 z, ⟨kX5_placeOf_23 z, ⟨kX5_placeOf_24 z, ⟨kX5_placeOf_25 z, ⟨kX5_placeOf_28 z, ⟨kX5_placeOf_31 z, ⟨kX5_placeOf_32 z, trivial⟩⟩⟩⟩⟩⟩⟩⟩⟩⟩⟩⟩⟩⟩⟩⟩⟩⟩⟩⟩) (hd_X5_placeOf z) rfl rfl (by decide +kernel)
theorem hd_X5_play (z : XKT) : XHd z Y_X5_play := xHd_none rfl (xhd0 rfl)
theorem kX5_play_0 (z : XKT) : XOi z xInf Y_X5_play 0 (.inl (i_aload 0 1)) := ok_aload_n dX5_play_0 rfl
theorem kX5_play_1 (z : XKT) : XOi z xInf Y_X5_play 1 (.inl (i_push (vI 0) 2)) := ok_iconst dX5_play_1 rfl
theorem kX5_play_2 (z : XKT) : XOi z xInf Y_X5_play 2 (.inl (i_puti z.1 [4] .int 42 5)) := ok_puti dX5_play_2 q2519 rfl (List.forall_mem_cons.mpr ⟨⟨_, _, _, _, tyX5, fd_42_4_0, ⟨tyX5_ok, nmX5, (Or.inl rfl)⟩, rfl⟩, (fun _ h => absurd h List.not_mem_nil)⟩)
theorem kX5_play_5 (z : XKT) : XOi z xInf Y_X5_play 5 (.inl (i_iload 1 6)) := ok_iload_n dX5_play_5 rfl
theorem kX5_play_6 (z : XKT) : XOi z xInf Y_X5_play 6 (.inl (i_push (vI 0) 7)) := ok_iconst dX5_play_6 rfl
theorem kX5_play_7 (z : XKT) : XOi z xInf Y_X5_play 7 (.inl (i_aload 0 8)) := ok_aload_n dX5_play_7 rfl
theorem kX5_play_8 (z : XKT) : XOi z xInf Y_X5_play 8 (.inl (i_geti [4] 47 11)) := ok_geti dX5_play_8 q2524 (List.forall_mem_cons.mpr ⟨⟨_, _, _, _, fd_47_4_0⟩, (fun _ h => absurd h List.not_mem_nil)⟩)
theorem kX5_play_11 (z : XKT) : XOi z xInf Y_X5_play 11 (.inr (.inl (14, g_stat 226 3))) := show XOkC z xInf Y_X5_play 11 14 (g_stat 226 3) from okc_S (q := Y_X5_play) (q1 := Y_X5_inRange) Z_X5_inRange rfl (by decide) dX5_play_11 q2603 q2604 q153 q2605 hy_261
theorem kX5_play_14 (z : XKT) : XOi z xInf Y_X5_play 14 (.inl (i_if (fun x => ¬ x = 0) 23 17)) := ok_if_ne dX5_play_14 rfl
theorem kX5_play_17 (z : XKT) : XOi z xInf Y_X5_play 17 (.inl (i_aload 0 18)) := ok_aload_n dX5_play_17 rfl
theorem kX5_play_18 (z : XKT) : XOi z xInf Y_X5_play 18 (.inl (i_push (vI 1) 19)) := ok_iconst dX5_play_18 rfl
theorem kX5_play_19 (z : XKT) : XOi z xInf Y_X5_play 19 (.inr (.inl (22, g_virt [(4, 266)] 1))) := show XOkC z xInf Y_X5_play 19 22 (g_virt [(4, 266)] 1) from okc_V (q := Y_X5_play) (List.forall_mem_cons.mpr ⟨(show XOkV z xInf Y_X5_play 19 22 1 (4, 266) from okv_V (q := Y_X5_play) (q1 := Y_X5_raise) Z_X5_raise rfl (by decide) ⟨by decide, by decide, Or.inl ⟨_, _, (List.mem_of_getElem? (l := xCls) (i := 3) rfl)⟩⟩ dX5_play_19 q2658 q2660 qs57 q153 q2661 hy_310), (fun _ h => absurd h List.not_mem_nil)⟩)
theorem kX5_play_22 (z : XKT) : XOi z xInf Y_X5_play 22 (.inr (.inr (.inl (r_i .int)))) := show XOkR Y_X5_play 22 ((r_i .int)) from okr_i (q := Y_X5_play) (ty := .int) rfl rfl dX5_play_22
theorem kX5_play_23 (z : XKT) : XOi z xInf Y_X5_play 23 (.inl (i_aload 0 24)) := ok_aload_n dX5_play_23 rfl
theorem kX5_play_24 (z : XKT) : XOi z xInf Y_X5_play 24 (.inl (i_push (vI 0) 25)) := ok_iconst dX5_play_24 rfl
theorem kX5_play_25 (z : XKT) : XOi z xInf Y_X5_play 25 (.inl (i_puti z.1 [4] .int 58 28)) := ok_puti dX5_play_25 q2535 rfl (List.forall_mem_cons.mpr ⟨⟨_, _, _, _, tyX5, fd_58_4_0, ⟨tyX5_ok, nmX5, (Or.inl rfl)⟩, rfl⟩, (fun _ h => absurd h List.not_mem_nil)⟩)
theorem kX5_play_28 (z : XKT) : XOi z xInf Y_X5_play 28 (.inl (i_aload 0 29)) := ok_aload_n dX5_play_28 rfl
theorem kX5_play_29 (z : XKT) : XOi z xInf Y_X5_play 29 (.inl (i_iload 1 30)) := ok_iload_n dX5_play_29 rfl
theorem kX5_play_30 (z : XKT) : XOi z xInf Y_X5_play 30 (.inr (.inl (33, g_virt [(4, 289)] 1))) := show XOkC z xInf Y_X5_play 30 33 (g_virt [(4, 289)] 1) from okc_V (q := Y_X5_play) (List.forall_mem_cons.mpr ⟨(show XOkV z xInf Y_X5_play 30 33 1 (4, 289) from okv_V (q := Y_X5_play) (q1 := Y_X5_startText) Z_X5_startText rfl (by decide) ⟨by decide, by decide, Or.inl ⟨_, _, (List.mem_of_getElem? (l := xCls) (i := 3) rfl)⟩⟩ dX5_play_30 q3042 q3044 qs102 q153 q3045 hy_319), (fun _ h => absurd h List.not_mem_nil)⟩)
theorem kX5_play_33 (z : XKT) : XOi z xInf Y_X5_play 33 (.inl (i_aload 0 34)) := ok_aload_n dX5_play_33 rfl
theorem kX5_play_34 (z : XKT) : XOi z xInf Y_X5_play 34 (.inl (i_geti [4] 52 37)) := ok_geti dX5_play_34 q2529 (List.forall_mem_cons.mpr ⟨⟨_, _, _, _, fd_52_4_0⟩, (fun _ h => absurd h List.not_mem_nil)⟩)
theorem kX5_play_37 (z : XKT) : XOi z xInf Y_X5_play 37 (.inl (i_if (fun x => ¬ x = 0) 54 40)) := ok_if_ne dX5_play_37 rfl
theorem kX5_play_40 (z : XKT) : XOi z xInf Y_X5_play 40 (.inl (i_aload 0 41)) := ok_aload_n dX5_play_40 rfl
theorem kX5_play_41 (z : XKT) : XOi z xInf Y_X5_play 41 (.inl (i_geti [4] 51 44)) := ok_geti dX5_play_41 q2528 (List.forall_mem_cons.mpr ⟨⟨_, _, _, _, fd_51_4_0⟩, (fun _ h => absurd h List.not_mem_nil)⟩)
theorem kX5_play_44 (z : XKT) : XOi z xInf Y_X5_play 44 (.inl (i_if (fun x => x = 0) 54 47)) := ok_if_eq dX5_play_44 rfl
theorem kX5_play_47 (z : XKT) : XOi z xInf Y_X5_play 47 (.inl (i_aload 0 48)) := ok_aload_n dX5_play_47 rfl
theorem kX5_play_48 (z : XKT) : XOi z xInf Y_X5_play 48 (.inr (.inl (51, g_virt [(4, 272)] 0))) := show XOkC z xInf Y_X5_play 48 51 (g_virt [(4, 272)] 0) from okc_V (q := Y_X5_play) (List.forall_mem_cons.mpr ⟨(show XOkV z xInf Y_X5_play 48 51 0 (4, 272) from okv_V (q := Y_X5_play) (q1 := Y_X5_readOrder) Z_X5_readOrder rfl (by decide) ⟨by decide, by decide, Or.inl ⟨_, _, (List.mem_of_getElem? (l := xCls) (i := 3) rfl)⟩⟩ dX5_play_48 q3123 q3125 qs120 q153 q3126 hy_325), (fun _ h => absurd h List.not_mem_nil)⟩)
theorem kX5_play_51 (z : XKT) : XOi z xInf Y_X5_play 51 (.inl (i_goto 33)) := ok_goto dX5_play_51 rfl
theorem kX5_play_54 (z : XKT) : XOi z xInf Y_X5_play 54 (.inl (i_aload 0 55)) := ok_aload_n dX5_play_54 rfl
theorem kX5_play_55 (z : XKT) : XOi z xInf Y_X5_play 55 (.inr (.inl (58, g_virt [(4, 216)] 0))) := show XOkC z xInf Y_X5_play 55 58 (g_virt [(4, 216)] 0) from okc_V (q := Y_X5_play) (List.forall_mem_cons.mpr ⟨(show XOkV z xInf Y_X5_play 55 58 0 (4, 216) from okv_V (q := Y_X5_play) (q1 := Y_X5_finish) Z_X5_finish rfl (by decide) ⟨by decide, by decide, Or.inl ⟨_, _, (List.mem_of_getElem? (l := xCls) (i := 3) rfl)⟩⟩ dX5_play_55 q3115 q3117 qs119 q153 q3118 hy_321), (fun _ h => absurd h List.not_mem_nil)⟩)
theorem kX5_play_58 (z : XKT) : XOi z xInf Y_X5_play 58 (.inl (i_if (fun x => x = 0) 69 61)) := ok_if_eq dX5_play_58 rfl
theorem kX5_play_61 (z : XKT) : XOi z xInf Y_X5_play 61 (.inl (i_push (vI (-10)) 63)) := ok_bipush dX5_play_61 rfl
theorem kX5_play_63 (z : XKT) : XOi z xInf Y_X5_play 63 (.inl (i_aload 0 64)) := ok_aload_n dX5_play_63 rfl
theorem kX5_play_64 (z : XKT) : XOi z xInf Y_X5_play 64 (.inl (i_geti [4] 52 67)) := ok_geti dX5_play_64 q2529 (List.forall_mem_cons.mpr ⟨⟨_, _, _, _, fd_52_4_0⟩, (fun _ h => absurd h List.not_mem_nil)⟩)
theorem kX5_play_67 (z : XKT) : XOi z xInf Y_X5_play 67 (.inl (i_bin (fun x y => x - y) 68)) := ok_isub dX5_play_67
theorem kX5_play_68 (z : XKT) : XOi z xInf Y_X5_play 68 (.inr (.inr (.inl (r_i .int)))) := show XOkR Y_X5_play 68 ((r_i .int)) from okr_i (q := Y_X5_play) (ty := .int) rfl rfl dX5_play_68
theorem kX5_play_69 (z : XKT) : XOi z xInf Y_X5_play 69 (.inl (i_aload 0 70)) := ok_aload_n dX5_play_69 rfl
theorem kX5_play_70 (z : XKT) : XOi z xInf Y_X5_play 70 (.inr (.inl (73, g_virt [(4, 238)] 0))) := show XOkC z xInf Y_X5_play 70 73 (g_virt [(4, 238)] 0) from okc_V (q := Y_X5_play) (List.forall_mem_cons.mpr ⟨(show XOkV z xInf Y_X5_play 70 73 0 (4, 238) from okv_V (q := Y_X5_play) (q1 := Y_X5_keep) Z_X5_keep rfl (by decide) ⟨by decide, by decide, Or.inl ⟨_, _, (List.mem_of_getElem? (l := xCls) (i := 3) rfl)⟩⟩ dX5_play_70 q2878 q2880 qs79 q153 q2881 hy_276), (fun _ h => absurd h List.not_mem_nil)⟩)
theorem kX5_play_73 (z : XKT) : XOi z xInf Y_X5_play 73 (.inl (i_aload 0 74)) := ok_aload_n dX5_play_73 rfl
theorem kX5_play_74 (z : XKT) : XOi z xInf Y_X5_play 74 (.inr (.inl (77, g_virt [(4, 274)] 0))) := show XOkC z xInf Y_X5_play 74 77 (g_virt [(4, 274)] 0) from okc_V (q := Y_X5_play) (List.forall_mem_cons.mpr ⟨(show XOkV z xInf Y_X5_play 74 77 0 (4, 274) from okv_V (q := Y_X5_play) (q1 := Y_X5_record) Z_X5_record rfl (by decide) ⟨by decide, by decide, Or.inl ⟨_, _, (List.mem_of_getElem? (l := xCls) (i := 3) rfl)⟩⟩ dX5_play_74 q2906 q2908 qs85 q153 q2909 hy_326), (fun _ h => absurd h List.not_mem_nil)⟩)
theorem kX5_play_77 (z : XKT) : XOi z xInf Y_X5_play 77 (.inl (i_push (vI 0) 78)) := ok_iconst dX5_play_77 rfl
theorem kX5_play_78 (z : XKT) : XOi z xInf Y_X5_play 78 (.inl (i_istore 2 79)) := ok_istore_n dX5_play_78 rfl
theorem kX5_play_79 (z : XKT) : XOi z xInf Y_X5_play 79 (.inl (i_iload 2 80)) := ok_iload_n dX5_play_79 rfl
theorem kX5_play_80 (z : XKT) : XOi z xInf Y_X5_play 80 (.inl (i_aload 0 81)) := ok_aload_n dX5_play_80 rfl
theorem kX5_play_81 (z : XKT) : XOi z xInf Y_X5_play 81 (.inl (i_geti [4] 58 84)) := ok_geti dX5_play_81 q2535 (List.forall_mem_cons.mpr ⟨⟨_, _, _, _, fd_58_4_0⟩, (fun _ h => absurd h List.not_mem_nil)⟩)
theorem kX5_play_84 (z : XKT) : XOi z xInf Y_X5_play 84 (.inl (i_icmp (fun x y => y ≤ x) 103 87)) := ok_icmp_ge dX5_play_84 rfl
theorem kX5_play_87 (z : XKT) : XOi z xInf Y_X5_play 87 (.inl (i_aload 0 88)) := ok_aload_n dX5_play_87 rfl
theorem kX5_play_88 (z : XKT) : XOi z xInf Y_X5_play 88 (.inl (i_push (vI 4) 89)) := ok_iconst dX5_play_88 rfl
theorem kX5_play_89 (z : XKT) : XOi z xInf Y_X5_play 89 (.inl (i_iload 2 90)) := ok_iload_n dX5_play_89 rfl
theorem kX5_play_90 (z : XKT) : XOi z xInf Y_X5_play 90 (.inl (i_bin (fun x y => x * y) 91)) := ok_imul dX5_play_90
theorem kX5_play_91 (z : XKT) : XOi z xInf Y_X5_play 91 (.inr (.inl (94, g_virt [(4, 207)] 1))) := show XOkC z xInf Y_X5_play 91 94 (g_virt [(4, 207)] 1) from okc_V (q := Y_X5_play) (List.forall_mem_cons.mpr ⟨(show XOkV z xInf Y_X5_play 91 94 1 (4, 207) from okv_V (q := Y_X5_play) (q1 := Y_X5_does) Z_X5_does rfl (by decide) ⟨by decide, by decide, Or.inl ⟨_, _, (List.mem_of_getElem? (l := xCls) (i := 3) rfl)⟩⟩ dX5_play_91 q3135 q3137 qs123 q153 q3138 hy_327), (fun _ h => absurd h List.not_mem_nil)⟩)
theorem kX5_play_94 (z : XKT) : XOi z xInf Y_X5_play 94 (.inl (i_if (fun x => x < 0) 103 97)) := ok_if_lt dX5_play_94 rfl
theorem kX5_play_97 (z : XKT) : XOi z xInf Y_X5_play 97 (.inl (i_iinc 2 1 100)) := ok_iinc dX5_play_97 rfl
theorem kX5_play_100 (z : XKT) : XOi z xInf Y_X5_play 100 (.inl (i_goto 79)) := ok_goto dX5_play_100 rfl
theorem kX5_play_103 (z : XKT) : XOi z xInf Y_X5_play 103 (.inl (i_iload 2 104)) := ok_iload_n dX5_play_103 rfl
theorem kX5_play_104 (z : XKT) : XOi z xInf Y_X5_play 104 (.inr (.inr (.inl (r_i .int)))) := show XOkR Y_X5_play 104 ((r_i .int)) from okr_i (q := Y_X5_play) (ty := .int) rfl rfl dX5_play_104
theorem o_X5_play (z : XKT) : XMi z xInf Y_X5_play := XMi.mk9 (T := T_X5_play z) rfl (⟨kX5_play_0 z, ⟨kX5_play_1 z, ⟨kX5_play_2 z, ⟨kX5_play_5 z, ⟨kX5_play_6 z, ⟨kX5_play_7 z, ⟨kX5_play_8 z, ⟨kX5_play_11 z, ⟨kX5_play_14 z, ⟨kX5_play_17 z, ⟨kX5_play_18 z, ⟨kX5_play_19 z, ⟨kX5_play_22 z, ⟨kX5_play_23 z, ⟨kX5_play_24 z, ⟨kX5_play_25 z, ⟨kX5_play_28 z, ⟨kX5_play_29 z, ⟨kX5_play_30 z, ⟨kX5_play_33 z, ⟨kX5_play_34 z, ⟨kX5_play_37 z, ⟨kX5_play_40 z, ⟨kX5_play_41 z, ⟨kX5_play_44 z, ⟨kX5_play_47 z, ⟨kX5_play_48 z, ⟨kX5_play_51 z, ⟨kX5_play_54 z, ⟨kX5_play_55 z, ⟨kX5_play_58 z, ⟨kX5_play_61 z, ⟨kX5_play_63 z, ⟨kX5_play_64 z, ⟨kX5_play_67 z, ⟨kX5_play_68 z, ⟨kX5_play_69 z, ⟨kX5_play_70 z, ⟨kX5_play_73 z, ⟨kX5_play_74 z, ⟨kX5_play_77 z, ⟨kX5_play_78 z, ⟨kX5_play_79 z, ⟨kX5_play_80 z, ⟨kX5_play_81 z, ⟨kX5_play_84 z, ⟨kX5_play_87 z, ⟨kX5_play_88 z, ⟨kX5_play_89 z, ⟨kX5_play_90 z, ⟨kX5_play_91 z, ⟨kX5_play_94 z, ⟨kX5_play_97 z, ⟨kX5_play_100 z, ⟨kX5_play_103 z, ⟨kX5_play_104 z, trivial⟩⟩⟩⟩⟩⟩⟩⟩⟩⟩⟩⟩⟩⟩⟩⟩⟩⟩⟩⟩⟩⟩⟩⟩⟩⟩⟩⟩⟩⟩⟩⟩⟩⟩⟩⟩⟩⟩⟩⟩⟩⟩⟩⟩⟩⟩⟩⟩⟩⟩⟩⟩⟩⟩⟩⟩) (hd_X5_play z) rfl rfl (by decide +kernel)
theorem hd_X5_purseIf (z : XKT) : XHd z Y_X5_purseIf := xHd_none rfl (xhd0 rfl)
theorem kX5_purseIf_0 (z : XKT) : XOi z xInf Y_X5_purseIf 0 (.inl (i_aload 0 1)) := ok_aload_n dX5_purseIf_0 rfl
theorem kX5_purseIf_1 (z : XKT) : XOi z xInf Y_X5_purseIf 1 (.inl (i_aload 0 2)) := ok_aload_n dX5_purseIf_1 rfl
theorem kX5_purseIf_2 (z : XKT) : XOi z xInf Y_X5_purseIf 2 (.inl (i_iload 1 3)) := ok_iload_n dX5_purseIf_2 rfl
theorem kX5_purseIf_3 (z : XKT) : XOi z xInf Y_X5_purseIf 3 (.inr (.inl (6, g_virt [(4, 231)] 1))) := show XOkC z xInf Y_X5_purseIf 3 6 (g_virt [(4, 231)] 1) from okc_V (q := Y_X5_purseIf) (List.forall_mem_cons.mpr ⟨(show XOkV z xInf Y_X5_purseIf 3 6 1 (4, 231) from okv_V (q := Y_X5_purseIf) (q1 := Y_X5_isFinder) Z_X5_isFinder rfl (by decide) ⟨by decide, by decide, Or.inl ⟨_, _, (List.mem_of_getElem? (l := xCls) (i := 3) rfl)⟩⟩ dX5_purseIf_3 q2666 q2668 qs58 q153 q2669 hy_298), (fun _ h => absurd h List.not_mem_nil)⟩)
theorem kX5_purseIf_6 (z : XKT) : XOi z xInf Y_X5_purseIf 6 (.inr (.inl (9, g_virt [(4, 240)] 1))) := show XOkC z xInf Y_X5_purseIf 6 9 (g_virt [(4, 240)] 1) from okc_V (q := Y_X5_purseIf) (List.forall_mem_cons.mpr ⟨(show XOkV z xInf Y_X5_purseIf 6 9 1 (4, 240) from okv_V (q := Y_X5_purseIf) (q1 := Y_X5_lacks) Z_X5_lacks rfl (by decide) ⟨by decide, by decide, Or.inl ⟨_, _, (List.mem_of_getElem? (l := xCls) (i := 3) rfl)⟩⟩ dX5_purseIf_6 q2606 q2608 qs46 q153 q2609 hy_262), (fun _ h => absurd h List.not_mem_nil)⟩)
theorem kX5_purseIf_9 (z : XKT) : XOi z xInf Y_X5_purseIf 9 (.inl (i_if (fun x => x = 0) 14 12)) := ok_if_eq dX5_purseIf_9 rfl
theorem kX5_purseIf_12 (z : XKT) : XOi z xInf Y_X5_purseIf 12 (.inl (i_push (vI 0) 13)) := ok_iconst dX5_purseIf_12 rfl
theorem kX5_purseIf_13 (z : XKT) : XOi z xInf Y_X5_purseIf 13 (.inr (.inr (.inl (r_i .int)))) := show XOkR Y_X5_purseIf 13 ((r_i .int)) from okr_i (q := Y_X5_purseIf) (ty := .int) rfl rfl dX5_purseIf_13
theorem kX5_purseIf_14 (z : XKT) : XOi z xInf Y_X5_purseIf 14 (.inl (i_aload 0 15)) := ok_aload_n dX5_purseIf_14 rfl
theorem kX5_purseIf_15 (z : XKT) : XOi z xInf Y_X5_purseIf 15 (.inl (i_iload 1 16)) := ok_iload_n dX5_purseIf_15 rfl
theorem kX5_purseIf_16 (z : XKT) : XOi z xInf Y_X5_purseIf 16 (.inl (i_push (vI 0) 17)) := ok_iconst dX5_purseIf_16 rfl
theorem kX5_purseIf_17 (z : XKT) : XOi z xInf Y_X5_purseIf 17 (.inr (.inl (20, g_virt [(4, 254)] 2))) := show XOkC z xInf Y_X5_purseIf 17 20 (g_virt [(4, 254)] 2) from okc_V (q := Y_X5_purseIf) (List.forall_mem_cons.mpr ⟨(show XOkV z xInf Y_X5_purseIf 17 20 2 (4, 254) from okv_V (q := Y_X5_purseIf) (q1 := Y_X5_ofFinder) Z_X5_ofFinder rfl (by decide) ⟨by decide, by decide, Or.inl ⟨_, _, (List.mem_of_getElem? (l := xCls) (i := 3) rfl)⟩⟩ dX5_purseIf_17 q2630 q2632 qs52 q153 q2633 hy_267), (fun _ h => absurd h List.not_mem_nil)⟩)
theorem kX5_purseIf_20 (z : XKT) : XOi z xInf Y_X5_purseIf 20 (.inl (i_istore 2 21)) := ok_istore_n dX5_purseIf_20 rfl
theorem kX5_purseIf_21 (z : XKT) : XOi z xInf Y_X5_purseIf 21 (.inl (i_push (vI 0) 22)) := ok_iconst dX5_purseIf_21 rfl
theorem kX5_purseIf_22 (z : XKT) : XOi z xInf Y_X5_purseIf 22 (.inl (i_istore 3 23)) := ok_istore_n dX5_purseIf_22 rfl
theorem kX5_purseIf_23 (z : XKT) : XOi z xInf Y_X5_purseIf 23 (.inl (i_iload 3 24)) := ok_iload_n dX5_purseIf_23 rfl
theorem kX5_purseIf_24 (z : XKT) : XOi z xInf Y_X5_purseIf 24 (.inl (i_aload 0 25)) := ok_aload_n dX5_purseIf_24 rfl
theorem kX5_purseIf_25 (z : XKT) : XOi z xInf Y_X5_purseIf 25 (.inl (i_getr [4] 40 28)) := ok_getr dX5_purseIf_25 q2517 (List.forall_mem_cons.mpr ⟨⟨_, _, _, _, fd_40_4_0⟩, (fun _ h => absurd h List.not_mem_nil)⟩)
theorem kX5_purseIf_28 (z : XKT) : XOi z xInf Y_X5_purseIf 28 (.inl (i_push (vI 5) 29)) := ok_iconst dX5_purseIf_28 rfl
theorem kX5_purseIf_29 (z : XKT) : XOi z xInf Y_X5_purseIf 29 (.inl (i_ald 1000 30)) := ok_iald dX5_purseIf_29
theorem kX5_purseIf_30 (z : XKT) : XOi z xInf Y_X5_purseIf 30 (.inl (i_icmp (fun x y => y ≤ x) 61 33)) := ok_icmp_ge dX5_purseIf_30 rfl
theorem kX5_purseIf_33 (z : XKT) : XOi z xInf Y_X5_purseIf 33 (.inl (i_iload 2 34)) := ok_iload_n dX5_purseIf_33 rfl
theorem kX5_purseIf_34 (z : XKT) : XOi z xInf Y_X5_purseIf 34 (.inl (i_aload 0 35)) := ok_aload_n dX5_purseIf_34 rfl
theorem kX5_purseIf_35 (z : XKT) : XOi z xInf Y_X5_purseIf 35 (.inl (i_iload 3 36)) := ok_iload_n dX5_purseIf_35 rfl
theorem kX5_purseIf_36 (z : XKT) : XOi z xInf Y_X5_purseIf 36 (.inl (i_push (vI 1) 37)) := ok_iconst dX5_purseIf_36 rfl
theorem kX5_purseIf_37 (z : XKT) : XOi z xInf Y_X5_purseIf 37 (.inr (.inl (40, g_virt [(4, 233)] 2))) := show XOkC z xInf Y_X5_purseIf 37 40 (g_virt [(4, 233)] 2) from okc_V (q := Y_X5_purseIf) (List.forall_mem_cons.mpr ⟨(show XOkV z xInf Y_X5_purseIf 37 40 2 (4, 233) from okv_V (q := Y_X5_purseIf) (q1 := Y_X5_isIn) Z_X5_isIn rfl (by decide) ⟨by decide, by decide, Or.inl ⟨_, _, (List.mem_of_getElem? (l := xCls) (i := 3) rfl)⟩⟩ dX5_purseIf_37 q2618 q2620 qs49 q153 q2621 hy_270), (fun _ h => absurd h List.not_mem_nil)⟩)
theorem kX5_purseIf_40 (z : XKT) : XOi z xInf Y_X5_purseIf 40 (.inl (i_if (fun x => x = 0) 52 43)) := ok_if_eq dX5_purseIf_40 rfl
theorem kX5_purseIf_43 (z : XKT) : XOi z xInf Y_X5_purseIf 43 (.inl (i_aload 0 44)) := ok_aload_n dX5_purseIf_43 rfl
theorem kX5_purseIf_44 (z : XKT) : XOi z xInf Y_X5_purseIf 44 (.inl (i_iload 3 45)) := ok_iload_n dX5_purseIf_44 rfl
theorem kX5_purseIf_45 (z : XKT) : XOi z xInf Y_X5_purseIf 45 (.inl (i_iload 1 46)) := ok_iload_n dX5_purseIf_45 rfl
theorem kX5_purseIf_46 (z : XKT) : XOi z xInf Y_X5_purseIf 46 (.inr (.inl (49, g_virt [(4, 287)] 2))) := show XOkC z xInf Y_X5_purseIf 46 49 (g_virt [(4, 287)] 2) from okc_V (q := Y_X5_purseIf) (List.forall_mem_cons.mpr ⟨(show XOkV z xInf Y_X5_purseIf 46 49 2 (4, 287) from okv_V (q := Y_X5_purseIf) (q1 := Y_X5_shareOf) Z_X5_shareOf rfl (by decide) ⟨by decide, by decide, Or.inl ⟨_, _, (List.mem_of_getElem? (l := xCls) (i := 3) rfl)⟩⟩ dX5_purseIf_46 q2713 q2715 qs63 q153 q2716 hy_305), (fun _ h => absurd h List.not_mem_nil)⟩)
theorem kX5_purseIf_49 (z : XKT) : XOi z xInf Y_X5_purseIf 49 (.inl (i_goto 53)) := ok_goto dX5_purseIf_49 rfl
theorem kX5_purseIf_52 (z : XKT) : XOi z xInf Y_X5_purseIf 52 (.inl (i_push (vI 0) 53)) := ok_iconst dX5_purseIf_52 rfl
theorem kX5_purseIf_53 (z : XKT) : XOi z xInf Y_X5_purseIf 53 (.inl (i_bin (fun x y => x + y) 54)) := ok_iadd dX5_purseIf_53
theorem kX5_purseIf_54 (z : XKT) : XOi z xInf Y_X5_purseIf 54 (.inl (i_istore 2 55)) := ok_istore_n dX5_purseIf_54 rfl
theorem kX5_purseIf_55 (z : XKT) : XOi z xInf Y_X5_purseIf 55 (.inl (i_iinc 3 1 58)) := ok_iinc dX5_purseIf_55 rfl
theorem kX5_purseIf_58 (z : XKT) : XOi z xInf Y_X5_purseIf 58 (.inl (i_goto 23)) := ok_goto dX5_purseIf_58 rfl
theorem kX5_purseIf_61 (z : XKT) : XOi z xInf Y_X5_purseIf 61 (.inl (i_iload 2 62)) := ok_iload_n dX5_purseIf_61 rfl
theorem kX5_purseIf_62 (z : XKT) : XOi z xInf Y_X5_purseIf 62 (.inr (.inr (.inl (r_i .int)))) := show XOkR Y_X5_purseIf 62 ((r_i .int)) from okr_i (q := Y_X5_purseIf) (ty := .int) rfl rfl dX5_purseIf_62
theorem o_X5_purseIf (z : XKT) : XMi z xInf Y_X5_purseIf := XMi.mk9 (T := T_X5_purseIf z) rfl (⟨kX5_purseIf_0 z, ⟨kX5_purseIf_1 z, ⟨kX5_purseIf_2 z, ⟨kX5_purseIf_3 z, ⟨kX5_purseIf_6 z, ⟨kX5_purseIf_9 z, ⟨kX5_purseIf_12 z, ⟨kX5_purseIf_13 z, ⟨kX5_purseIf_14 z, ⟨kX5_purseIf_15 z, ⟨kX5_purseIf_16 z, ⟨kX5_purseIf_17 z, ⟨kX5_purseIf_20 z, ⟨kX5_purseIf_21 z, ⟨kX5_purseIf_22 z, ⟨kX5_purseIf_23 z, ⟨kX5_purseIf_24 z, ⟨kX5_purseIf_25 z, ⟨kX5_purseIf_28 z, ⟨kX5_purseIf_29 z, ⟨kX5_purseIf_30 z, ⟨kX5_purseIf_33 z, ⟨kX5_purseIf_34 z, ⟨kX5_purseIf_35 z, ⟨kX5_purseIf_36 z, ⟨kX5_purseIf_37 z, ⟨kX5_purseIf_40 z, ⟨kX5_purseIf_43 z, ⟨kX5_purseIf_44 z, ⟨kX5_purseIf_45 z, ⟨kX5_purseIf_46 z, ⟨kX5_purseIf_49 z, ⟨kX5_purseIf_52 z, ⟨kX5_purseIf_53 z, ⟨kX5_purseIf_54 z, ⟨kX5_purseIf_55 z, ⟨kX5_purseIf_58 z, ⟨kX5_purseIf_61 z, ⟨kX5_purseIf_62 z, trivial⟩⟩⟩⟩⟩⟩⟩⟩⟩⟩⟩⟩⟩⟩⟩⟩⟩⟩⟩⟩⟩⟩⟩⟩⟩⟩⟩⟩⟩⟩⟩⟩⟩⟩⟩⟩⟩⟩⟩) (hd_X5_purseIf z) rfl rfl (by decide +kernel)
theorem hd_X5_raise (z : XKT) : XHd z Y_X5_raise := xHd_none rfl (xhd0 rfl)
theorem kX5_raise_0 (z : XKT) : XOi z xInf Y_X5_raise 0 (.inl (i_aload 0 1)) := ok_aload_n dX5_raise_0 rfl
theorem kX5_raise_1 (z : XKT) : XOi z xInf Y_X5_raise 1 (.inl (i_iload 1 2)) := ok_iload_n dX5_raise_1 rfl
theorem kX5_raise_2 (z : XKT) : XOi z xInf Y_X5_raise 2 (.inl (i_puti z.1 [4] .int 42 5)) := ok_puti dX5_raise_2 q2519 rfl (List.forall_mem_cons.mpr ⟨⟨_, _, _, _, tyX5, fd_42_4_0, ⟨tyX5_ok, nmX5, (Or.inl rfl)⟩, rfl⟩, (fun _ h => absurd h List.not_mem_nil)⟩)
theorem kX5_raise_5 (z : XKT) : XOi z xInf Y_X5_raise 5 (.inl (i_push (vI 0) 6)) := ok_iconst dX5_raise_5 rfl
theorem kX5_raise_6 (z : XKT) : XOi z xInf Y_X5_raise 6 (.inr (.inr (.inl (r_i .int)))) := show XOkR Y_X5_raise 6 ((r_i .int)) from okr_i (q := Y_X5_raise) (ty := .int) rfl rfl dX5_raise_6
theorem o_X5_raise (z : XKT) : XMi z xInf Y_X5_raise := XMi.mk9 (T := T_X5_raise z) rfl (⟨kX5_raise_0 z, ⟨kX5_raise_1 z, ⟨kX5_raise_2 z, ⟨kX5_raise_5 z, ⟨kX5_raise_6 z, trivial⟩⟩⟩⟩⟩) (hd_X5_raise z) rfl rfl (by decide +kernel)
theorem hd_X5_rankOf (z : XKT) : XHd z Y_X5_rankOf := xHd_none rfl (xhd0 rfl)
theorem kX5_rankOf_0 (z : XKT) : XOi z xInf Y_X5_rankOf 0 (.inl (i_push (vI 0) 1)) := ok_iconst dX5_rankOf_0 rfl
theorem kX5_rankOf_1 (z : XKT) : XOi z xInf Y_X5_rankOf 1 (.inl (i_istore 2 2)) := ok_istore_n dX5_rankOf_1 rfl
theorem kX5_rankOf_2 (z : XKT) : XOi z xInf Y_X5_rankOf 2 (.inl (i_push (vI 0) 3)) := ok_iconst dX5_rankOf_2 rfl
theorem kX5_rankOf_3 (z : XKT) : XOi z xInf Y_X5_rankOf 3 (.inl (i_istore 3 4)) := ok_istore_n dX5_rankOf_3 rfl
theorem kX5_rankOf_4 (z : XKT) : XOi z xInf Y_X5_rankOf 4 (.inl (i_iload 3 5)) := ok_iload_n dX5_rankOf_4 rfl
theorem kX5_rankOf_5 (z : XKT) : XOi z xInf Y_X5_rankOf 5 (.inl (i_aload 0 6)) := ok_aload_n dX5_rankOf_5 rfl
theorem kX5_rankOf_6 (z : XKT) : XOi z xInf Y_X5_rankOf 6 (.inl (i_getr [4] 40 9)) := ok_getr dX5_rankOf_6 q2517 (List.forall_mem_cons.mpr ⟨⟨_, _, _, _, fd_40_4_0⟩, (fun _ h => absurd h List.not_mem_nil)⟩)
theorem kX5_rankOf_9 (z : XKT) : XOi z xInf Y_X5_rankOf 9 (.inl (i_push (vI 4) 10)) := ok_iconst dX5_rankOf_9 rfl
theorem kX5_rankOf_10 (z : XKT) : XOi z xInf Y_X5_rankOf 10 (.inl (i_ald 1000 11)) := ok_iald dX5_rankOf_10
theorem kX5_rankOf_11 (z : XKT) : XOi z xInf Y_X5_rankOf 11 (.inl (i_icmp (fun x y => y ≤ x) 58 14)) := ok_icmp_ge dX5_rankOf_11 rfl
theorem kX5_rankOf_14 (z : XKT) : XOi z xInf Y_X5_rankOf 14 (.inl (i_aload 0 15)) := ok_aload_n dX5_rankOf_14 rfl
theorem kX5_rankOf_15 (z : XKT) : XOi z xInf Y_X5_rankOf 15 (.inl (i_iload 3 16)) := ok_iload_n dX5_rankOf_15 rfl
theorem kX5_rankOf_16 (z : XKT) : XOi z xInf Y_X5_rankOf 16 (.inl (i_push (vI 0) 17)) := ok_iconst dX5_rankOf_16 rfl
theorem kX5_rankOf_17 (z : XKT) : XOi z xInf Y_X5_rankOf 17 (.inr (.inl (20, g_virt [(4, 254)] 2))) := show XOkC z xInf Y_X5_rankOf 17 20 (g_virt [(4, 254)] 2) from okc_V (q := Y_X5_rankOf) (List.forall_mem_cons.mpr ⟨(show XOkV z xInf Y_X5_rankOf 17 20 2 (4, 254) from okv_V (q := Y_X5_rankOf) (q1 := Y_X5_ofFinder) Z_X5_ofFinder rfl (by decide) ⟨by decide, by decide, Or.inl ⟨_, _, (List.mem_of_getElem? (l := xCls) (i := 3) rfl)⟩⟩ dX5_rankOf_17 q2630 q2632 qs52 q153 q2633 hy_267), (fun _ h => absurd h List.not_mem_nil)⟩)
theorem kX5_rankOf_20 (z : XKT) : XOi z xInf Y_X5_rankOf 20 (.inl (i_aload 0 21)) := ok_aload_n dX5_rankOf_20 rfl
theorem kX5_rankOf_21 (z : XKT) : XOi z xInf Y_X5_rankOf 21 (.inl (i_iload 1 22)) := ok_iload_n dX5_rankOf_21 rfl
theorem kX5_rankOf_22 (z : XKT) : XOi z xInf Y_X5_rankOf 22 (.inl (i_push (vI 0) 23)) := ok_iconst dX5_rankOf_22 rfl
theorem kX5_rankOf_23 (z : XKT) : XOi z xInf Y_X5_rankOf 23 (.inr (.inl (26, g_virt [(4, 254)] 2))) := show XOkC z xInf Y_X5_rankOf 23 26 (g_virt [(4, 254)] 2) from okc_V (q := Y_X5_rankOf) (List.forall_mem_cons.mpr ⟨(show XOkV z xInf Y_X5_rankOf 23 26 2 (4, 254) from okv_V (q := Y_X5_rankOf) (q1 := Y_X5_ofFinder) Z_X5_ofFinder rfl (by decide) ⟨by decide, by decide, Or.inl ⟨_, _, (List.mem_of_getElem? (l := xCls) (i := 3) rfl)⟩⟩ dX5_rankOf_23 q2630 q2632 qs52 q153 q2633 hy_267), (fun _ h => absurd h List.not_mem_nil)⟩)
theorem kX5_rankOf_26 (z : XKT) : XOi z xInf Y_X5_rankOf 26 (.inl (i_bin (fun x y => x - y) 27)) := ok_isub dX5_rankOf_26
theorem kX5_rankOf_27 (z : XKT) : XOi z xInf Y_X5_rankOf 27 (.inl (i_istore 4 29)) := ok_istore dX5_rankOf_27
theorem kX5_rankOf_29 (z : XKT) : XOi z xInf Y_X5_rankOf 29 (.inl (i_iload 2 30)) := ok_iload_n dX5_rankOf_29 rfl
theorem kX5_rankOf_30 (z : XKT) : XOi z xInf Y_X5_rankOf 30 (.inl (i_iload 4 32)) := ok_iload dX5_rankOf_30
theorem kX5_rankOf_32 (z : XKT) : XOi z xInf Y_X5_rankOf 32 (.inl (i_if (fun x => 0 < x) 45 35)) := ok_if_gt dX5_rankOf_32 rfl
theorem kX5_rankOf_35 (z : XKT) : XOi z xInf Y_X5_rankOf 35 (.inl (i_iload 4 37)) := ok_iload dX5_rankOf_35
theorem kX5_rankOf_37 (z : XKT) : XOi z xInf Y_X5_rankOf 37 (.inl (i_if (fun x => ¬ x = 0) 49 40)) := ok_if_ne dX5_rankOf_37 rfl
theorem kX5_rankOf_40 (z : XKT) : XOi z xInf Y_X5_rankOf 40 (.inl (i_iload 3 41)) := ok_iload_n dX5_rankOf_40 rfl
theorem kX5_rankOf_41 (z : XKT) : XOi z xInf Y_X5_rankOf 41 (.inl (i_iload 1 42)) := ok_iload_n dX5_rankOf_41 rfl
theorem kX5_rankOf_42 (z : XKT) : XOi z xInf Y_X5_rankOf 42 (.inl (i_icmp (fun x y => y ≤ x) 49 45)) := ok_icmp_ge dX5_rankOf_42 rfl
theorem kX5_rankOf_45 (z : XKT) : XOi z xInf Y_X5_rankOf 45 (.inl (i_push (vI 1) 46)) := ok_iconst dX5_rankOf_45 rfl
theorem kX5_rankOf_46 (z : XKT) : XOi z xInf Y_X5_rankOf 46 (.inl (i_goto 50)) := ok_goto dX5_rankOf_46 rfl
theorem kX5_rankOf_49 (z : XKT) : XOi z xInf Y_X5_rankOf 49 (.inl (i_push (vI 0) 50)) := ok_iconst dX5_rankOf_49 rfl
theorem kX5_rankOf_50 (z : XKT) : XOi z xInf Y_X5_rankOf 50 (.inl (i_bin (fun x y => x + y) 51)) := ok_iadd dX5_rankOf_50
theorem kX5_rankOf_51 (z : XKT) : XOi z xInf Y_X5_rankOf 51 (.inl (i_istore 2 52)) := ok_istore_n dX5_rankOf_51 rfl
theorem kX5_rankOf_52 (z : XKT) : XOi z xInf Y_X5_rankOf 52 (.inl (i_iinc 3 1 55)) := ok_iinc dX5_rankOf_52 rfl
theorem kX5_rankOf_55 (z : XKT) : XOi z xInf Y_X5_rankOf 55 (.inl (i_goto 4)) := ok_goto dX5_rankOf_55 rfl
theorem kX5_rankOf_58 (z : XKT) : XOi z xInf Y_X5_rankOf 58 (.inl (i_iload 2 59)) := ok_iload_n dX5_rankOf_58 rfl
theorem kX5_rankOf_59 (z : XKT) : XOi z xInf Y_X5_rankOf 59 (.inr (.inr (.inl (r_i .int)))) := show XOkR Y_X5_rankOf 59 ((r_i .int)) from okr_i (q := Y_X5_rankOf) (ty := .int) rfl rfl dX5_rankOf_59
theorem o_X5_rankOf (z : XKT) : XMi z xInf Y_X5_rankOf := XMi.mk9 (T := T_X5_rankOf z) rfl (⟨kX5_rankOf_0 z, ⟨kX5_rankOf_1 z, ⟨kX5_rankOf_2 z, ⟨kX5_rankOf_3 z, ⟨kX5_rankOf_4 z, ⟨kX5_rankOf_5 z, ⟨kX5_rankOf_6 z, ⟨kX5_rankOf_9 z, ⟨kX5_rankOf_10 z, ⟨kX5_rankOf_11 z, ⟨kX5_rankOf_14 z, ⟨kX5_rankOf_15 z, ⟨kX5_rankOf_16 z, ⟨kX5_rankOf_17 z, ⟨kX5_rankOf_20 z, ⟨kX5_rankOf_21 z, ⟨kX5_rankOf_22 z, ⟨kX5_rankOf_23 z, ⟨kX5_rankOf_26 z, ⟨kX5_rankOf_27 z, ⟨kX5_rankOf_29 z, ⟨kX5_rankOf_30 z, ⟨kX5_rankOf_32 z, ⟨kX5_rankOf_35 z, ⟨kX5_rankOf_37 z, ⟨kX5_rankOf_40 z, ⟨kX5_rankOf_41 z, ⟨kX5_rankOf_42 z, ⟨kX5_rankOf_45 z, ⟨kX5_rankOf_46 z, ⟨kX5_rankOf_49 z, ⟨kX5_rankOf_50 z, ⟨kX5_rankOf_51 z, ⟨kX5_rankOf_52 z, ⟨kX5_rankOf_55 z, ⟨kX5_rankOf_58 z, ⟨kX5_rankOf_59 z, trivial⟩⟩⟩⟩⟩⟩⟩⟩⟩⟩⟩⟩⟩⟩⟩⟩⟩⟩⟩⟩⟩⟩⟩⟩⟩⟩⟩⟩⟩⟩⟩⟩⟩⟩⟩⟩⟩) (hd_X5_rankOf z) rfl rfl (by decide +kernel)
theorem hd_X5_ranked (z : XKT) : XHd z Y_X5_ranked := xHd_none rfl (xhd0 rfl)
theorem kX5_ranked_0 (z : XKT) : XOi z xInf Y_X5_ranked 0 (.inl (i_aload 0 1)) := ok_aload_n dX5_ranked_0 rfl
theorem kX5_ranked_1 (z : XKT) : XOi z xInf Y_X5_ranked 1 (.inl (i_push (vI 0) 2)) := ok_iconst dX5_ranked_1 rfl
theorem kX5_ranked_2 (z : XKT) : XOi z xInf Y_X5_ranked 2 (.inl (i_puti z.1 [4] .int 42 5)) := ok_puti dX5_ranked_2 q2519 rfl (List.forall_mem_cons.mpr ⟨⟨_, _, _, _, tyX5, fd_42_4_0, ⟨tyX5_ok, nmX5, (Or.inl rfl)⟩, rfl⟩, (fun _ h => absurd h List.not_mem_nil)⟩)
theorem kX5_ranked_5 (z : XKT) : XOi z xInf Y_X5_ranked 5 (.inl (i_push (vI 0) 6)) := ok_iconst dX5_ranked_5 rfl
theorem kX5_ranked_6 (z : XKT) : XOi z xInf Y_X5_ranked 6 (.inl (i_istore 2 7)) := ok_istore_n dX5_ranked_6 rfl
theorem kX5_ranked_7 (z : XKT) : XOi z xInf Y_X5_ranked 7 (.inl (i_iload 2 8)) := ok_iload_n dX5_ranked_7 rfl
theorem kX5_ranked_8 (z : XKT) : XOi z xInf Y_X5_ranked 8 (.inl (i_aload 0 9)) := ok_aload_n dX5_ranked_8 rfl
theorem kX5_ranked_9 (z : XKT) : XOi z xInf Y_X5_ranked 9 (.inl (i_getr [4] 40 12)) := ok_getr dX5_ranked_9 q2517 (List.forall_mem_cons.mpr ⟨⟨_, _, _, _, fd_40_4_0⟩, (fun _ h => absurd h List.not_mem_nil)⟩)
theorem kX5_ranked_12 (z : XKT) : XOi z xInf Y_X5_ranked 12 (.inl (i_push (vI 4) 13)) := ok_iconst dX5_ranked_12 rfl
theorem kX5_ranked_13 (z : XKT) : XOi z xInf Y_X5_ranked 13 (.inl (i_ald 1000 14)) := ok_iald dX5_ranked_13
theorem kX5_ranked_14 (z : XKT) : XOi z xInf Y_X5_ranked 14 (.inl (i_icmp (fun x y => y ≤ x) 34 17)) := ok_icmp_ge dX5_ranked_14 rfl
theorem kX5_ranked_17 (z : XKT) : XOi z xInf Y_X5_ranked 17 (.inl (i_aload 0 18)) := ok_aload_n dX5_ranked_17 rfl
theorem kX5_ranked_18 (z : XKT) : XOi z xInf Y_X5_ranked 18 (.inl (i_iload 2 19)) := ok_iload_n dX5_ranked_18 rfl
theorem kX5_ranked_19 (z : XKT) : XOi z xInf Y_X5_ranked 19 (.inr (.inl (22, g_virt [(4, 267)] 1))) := show XOkC z xInf Y_X5_ranked 19 22 (g_virt [(4, 267)] 1) from okc_V (q := Y_X5_ranked) (List.forall_mem_cons.mpr ⟨(show XOkV z xInf Y_X5_ranked 19 22 1 (4, 267) from okv_V (q := Y_X5_ranked) (q1 := Y_X5_rankOf) Z_X5_rankOf rfl (by decide) ⟨by decide, by decide, Or.inl ⟨_, _, (List.mem_of_getElem? (l := xCls) (i := 3) rfl)⟩⟩ dX5_ranked_19 q2705 q2707 qs62 q153 q2708 hy_328), (fun _ h => absurd h List.not_mem_nil)⟩)
theorem kX5_ranked_22 (z : XKT) : XOi z xInf Y_X5_ranked 22 (.inl (i_iload 1 23)) := ok_iload_n dX5_ranked_22 rfl
theorem kX5_ranked_23 (z : XKT) : XOi z xInf Y_X5_ranked 23 (.inl (i_icmp (fun x y => ¬ x = y) 28 26)) := ok_icmp_ne dX5_ranked_23 rfl
theorem kX5_ranked_26 (z : XKT) : XOi z xInf Y_X5_ranked 26 (.inl (i_iload 2 27)) := ok_iload_n dX5_ranked_26 rfl
theorem kX5_ranked_27 (z : XKT) : XOi z xInf Y_X5_ranked 27 (.inr (.inr (.inl (r_i .int)))) := show XOkR Y_X5_ranked 27 ((r_i .int)) from okr_i (q := Y_X5_ranked) (ty := .int) rfl rfl dX5_ranked_27
theorem kX5_ranked_28 (z : XKT) : XOi z xInf Y_X5_ranked 28 (.inl (i_iinc 2 1 31)) := ok_iinc dX5_ranked_28 rfl
theorem kX5_ranked_31 (z : XKT) : XOi z xInf Y_X5_ranked 31 (.inl (i_goto 7)) := ok_goto dX5_ranked_31 rfl
theorem kX5_ranked_34 (z : XKT) : XOi z xInf Y_X5_ranked 34 (.inl (i_push (vI (-1)) 35)) := ok_iconst dX5_ranked_34 rfl
theorem kX5_ranked_35 (z : XKT) : XOi z xInf Y_X5_ranked 35 (.inr (.inr (.inl (r_i .int)))) := show XOkR Y_X5_ranked 35 ((r_i .int)) from okr_i (q := Y_X5_ranked) (ty := .int) rfl rfl dX5_ranked_35
theorem o_X5_ranked (z : XKT) : XMi z xInf Y_X5_ranked := XMi.mk9 (T := T_X5_ranked z) rfl (⟨kX5_ranked_0 z, ⟨kX5_ranked_1 z, ⟨kX5_ranked_2 z, ⟨kX5_ranked_5 z, ⟨kX5_ranked_6 z, ⟨kX5_ranked_7 z, ⟨kX5_ranked_8 z, ⟨kX5_ranked_9 z, ⟨kX5_ranked_12 z, ⟨kX5_ranked_13 z, ⟨kX5_ranked_14 z, ⟨kX5_ranked_17 z, ⟨kX5_ranked_18 z, ⟨kX5_ranked_19 z, ⟨kX5_ranked_22 z, ⟨kX5_ranked_23 z, ⟨kX5_ranked_26 z, ⟨kX5_ranked_27 z, ⟨kX5_ranked_28 z, ⟨kX5_ranked_31 z, ⟨kX5_ranked_34 z, ⟨kX5_ranked_35 z, trivial⟩⟩⟩⟩⟩⟩⟩⟩⟩⟩⟩⟩⟩⟩⟩⟩⟩⟩⟩⟩⟩⟩) (hd_X5_ranked z) rfl rfl (by decide +kernel)
theorem hd_X5_readFirst (z : XKT) : XHd z Y_X5_readFirst := xHd_none rfl (xhd0 rfl)
theorem kX5_readFirst_0 (z : XKT) : XOi z xInf Y_X5_readFirst 0 (.inl (i_iload 1 1)) := ok_iload_n dX5_readFirst_0 rfl
theorem kX5_readFirst_1 (z : XKT) : XOi z xInf Y_X5_readFirst 1 (.inl (i_swt [(0, 44), (1, 44), (2, 68), (3, 52), (4, 68), (5, 59), (6, 44)] 68)) := ok_table dX5_readFirst_1 rfl rfl (by decide +kernel)
theorem kX5_readFirst_44 (z : XKT) : XOi z xInf Y_X5_readFirst 44 (.inl (i_aload 0 45)) := ok_aload_n dX5_readFirst_44 rfl
theorem kX5_readFirst_45 (z : XKT) : XOi z xInf Y_X5_readFirst 45 (.inl (i_push (vI 0) 46)) := ok_iconst dX5_readFirst_45 rfl
theorem kX5_readFirst_46 (z : XKT) : XOi z xInf Y_X5_readFirst 46 (.inl (i_push (vI 7) 48)) := ok_bipush dX5_readFirst_46 rfl
theorem kX5_readFirst_48 (z : XKT) : XOi z xInf Y_X5_readFirst 48 (.inr (.inl (51, g_virt [(4, 271)] 2))) := show XOkC z xInf Y_X5_readFirst 48 51 (g_virt [(4, 271)] 2) from okc_V (q := Y_X5_readFirst) (List.forall_mem_cons.mpr ⟨(show XOkV z xInf Y_X5_readFirst 48 51 2 (4, 271) from okv_V (q := Y_X5_readFirst) (q1 := Y_X5_readNumber) Z_X5_readNumber rfl (by decide) ⟨by decide, by decide, Or.inl ⟨_, _, (List.mem_of_getElem? (l := xCls) (i := 3) rfl)⟩⟩ dX5_readFirst_48 q3090 q3092 qs113 q153 q3093 hy_329), (fun _ h => absurd h List.not_mem_nil)⟩)
theorem kX5_readFirst_51 (z : XKT) : XOi z xInf Y_X5_readFirst 51 (.inr (.inr (.inl (r_i .int)))) := show XOkR Y_X5_readFirst 51 ((r_i .int)) from okr_i (q := Y_X5_readFirst) (ty := .int) rfl rfl dX5_readFirst_51
theorem kX5_readFirst_52 (z : XKT) : XOi z xInf Y_X5_readFirst 52 (.inl (i_aload 0 53)) := ok_aload_n dX5_readFirst_52 rfl
theorem kX5_readFirst_53 (z : XKT) : XOi z xInf Y_X5_readFirst 53 (.inl (i_push (vI 1) 54)) := ok_iconst dX5_readFirst_53 rfl
theorem kX5_readFirst_54 (z : XKT) : XOi z xInf Y_X5_readFirst 54 (.inl (i_push (vI 5) 55)) := ok_iconst dX5_readFirst_54 rfl
theorem kX5_readFirst_55 (z : XKT) : XOi z xInf Y_X5_readFirst 55 (.inr (.inl (58, g_virt [(4, 271)] 2))) := show XOkC z xInf Y_X5_readFirst 55 58 (g_virt [(4, 271)] 2) from okc_V (q := Y_X5_readFirst) (List.forall_mem_cons.mpr ⟨(show XOkV z xInf Y_X5_readFirst 55 58 2 (4, 271) from okv_V (q := Y_X5_readFirst) (q1 := Y_X5_readNumber) Z_X5_readNumber rfl (by decide) ⟨by decide, by decide, Or.inl ⟨_, _, (List.mem_of_getElem? (l := xCls) (i := 3) rfl)⟩⟩ dX5_readFirst_55 q3090 q3092 qs113 q153 q3093 hy_329), (fun _ h => absurd h List.not_mem_nil)⟩)
theorem kX5_readFirst_58 (z : XKT) : XOi z xInf Y_X5_readFirst 58 (.inr (.inr (.inl (r_i .int)))) := show XOkR Y_X5_readFirst 58 ((r_i .int)) from okr_i (q := Y_X5_readFirst) (ty := .int) rfl rfl dX5_readFirst_58
theorem kX5_readFirst_59 (z : XKT) : XOi z xInf Y_X5_readFirst 59 (.inl (i_aload 0 60)) := ok_aload_n dX5_readFirst_59 rfl
theorem kX5_readFirst_60 (z : XKT) : XOi z xInf Y_X5_readFirst 60 (.inl (i_push (vI 1) 61)) := ok_iconst dX5_readFirst_60 rfl
theorem kX5_readFirst_61 (z : XKT) : XOi z xInf Y_X5_readFirst 61 (.inl (i_push (vI 200) 64)) := ok_sipush dX5_readFirst_61 rfl
theorem kX5_readFirst_64 (z : XKT) : XOi z xInf Y_X5_readFirst 64 (.inr (.inl (67, g_virt [(4, 271)] 2))) := show XOkC z xInf Y_X5_readFirst 64 67 (g_virt [(4, 271)] 2) from okc_V (q := Y_X5_readFirst) (List.forall_mem_cons.mpr ⟨(show XOkV z xInf Y_X5_readFirst 64 67 2 (4, 271) from okv_V (q := Y_X5_readFirst) (q1 := Y_X5_readNumber) Z_X5_readNumber rfl (by decide) ⟨by decide, by decide, Or.inl ⟨_, _, (List.mem_of_getElem? (l := xCls) (i := 3) rfl)⟩⟩ dX5_readFirst_64 q3090 q3092 qs113 q153 q3093 hy_329), (fun _ h => absurd h List.not_mem_nil)⟩)
theorem kX5_readFirst_67 (z : XKT) : XOi z xInf Y_X5_readFirst 67 (.inr (.inr (.inl (r_i .int)))) := show XOkR Y_X5_readFirst 67 ((r_i .int)) from okr_i (q := Y_X5_readFirst) (ty := .int) rfl rfl dX5_readFirst_67
theorem kX5_readFirst_68 (z : XKT) : XOi z xInf Y_X5_readFirst 68 (.inl (i_aload 0 69)) := ok_aload_n dX5_readFirst_68 rfl
theorem kX5_readFirst_69 (z : XKT) : XOi z xInf Y_X5_readFirst 69 (.inl (i_push (vI 0) 70)) := ok_iconst dX5_readFirst_69 rfl
theorem kX5_readFirst_70 (z : XKT) : XOi z xInf Y_X5_readFirst 70 (.inl (i_push (vI 23) 72)) := ok_bipush dX5_readFirst_70 rfl
theorem kX5_readFirst_72 (z : XKT) : XOi z xInf Y_X5_readFirst 72 (.inr (.inl (75, g_virt [(4, 271)] 2))) := show XOkC z xInf Y_X5_readFirst 72 75 (g_virt [(4, 271)] 2) from okc_V (q := Y_X5_readFirst) (List.forall_mem_cons.mpr ⟨(show XOkV z xInf Y_X5_readFirst 72 75 2 (4, 271) from okv_V (q := Y_X5_readFirst) (q1 := Y_X5_readNumber) Z_X5_readNumber rfl (by decide) ⟨by decide, by decide, Or.inl ⟨_, _, (List.mem_of_getElem? (l := xCls) (i := 3) rfl)⟩⟩ dX5_readFirst_72 q3090 q3092 qs113 q153 q3093 hy_329), (fun _ h => absurd h List.not_mem_nil)⟩)
theorem kX5_readFirst_75 (z : XKT) : XOi z xInf Y_X5_readFirst 75 (.inr (.inr (.inl (r_i .int)))) := show XOkR Y_X5_readFirst 75 ((r_i .int)) from okr_i (q := Y_X5_readFirst) (ty := .int) rfl rfl dX5_readFirst_75
theorem o_X5_readFirst (z : XKT) : XMi z xInf Y_X5_readFirst := XMi.mk9 (T := T_X5_readFirst z) rfl (⟨kX5_readFirst_0 z, ⟨kX5_readFirst_1 z, ⟨kX5_readFirst_44 z, ⟨kX5_readFirst_45 z, ⟨kX5_readFirst_46 z, ⟨kX5_readFirst_48 z, ⟨kX5_readFirst_51 z, ⟨kX5_readFirst_52 z, ⟨kX5_readFirst_53 z, ⟨kX5_readFirst_54 z, ⟨kX5_readFirst_55 z, ⟨kX5_readFirst_58 z, ⟨kX5_readFirst_59 z, ⟨kX5_readFirst_60 z, ⟨kX5_readFirst_61 z, ⟨kX5_readFirst_64 z, ⟨kX5_readFirst_67 z, ⟨kX5_readFirst_68 z, ⟨kX5_readFirst_69 z, ⟨kX5_readFirst_70 z, ⟨kX5_readFirst_72 z, ⟨kX5_readFirst_75 z, trivial⟩⟩⟩⟩⟩⟩⟩⟩⟩⟩⟩⟩⟩⟩⟩⟩⟩⟩⟩⟩⟩⟩) (hd_X5_readFirst z) rfl rfl (by decide +kernel)
theorem hd_X5_readGood (z : XKT) : XHd z Y_X5_readGood := xHd_none rfl (xhd0 rfl)
theorem kX5_readGood_0 (z : XKT) : XOi z xInf Y_X5_readGood 0 (.inl (i_aload 0 1)) := ok_aload_n dX5_readGood_0 rfl
theorem kX5_readGood_1 (z : XKT) : XOi z xInf Y_X5_readGood 1 (.inr (.inl (4, g_virt [(4, 239)] 0))) := show XOkC z xInf Y_X5_readGood 1 4 (g_virt [(4, 239)] 0) from okc_V (q := Y_X5_readGood) (List.forall_mem_cons.mpr ⟨(show XOkV z xInf Y_X5_readGood 1 4 0 (4, 239) from okv_V (q := Y_X5_readGood) (q1 := Y_X5_kindHere) Z_X5_kindHere rfl (by decide) ⟨by decide, by decide, Or.inl ⟨_, _, (List.mem_of_getElem? (l := xCls) (i := 3) rfl)⟩⟩ dX5_readGood_1 q3106 q3108 qs117 q153 q3109 hy_330), (fun _ h => absurd h List.not_mem_nil)⟩)
theorem kX5_readGood_4 (z : XKT) : XOi z xInf Y_X5_readGood 4 (.inl (i_istore 1 5)) := ok_istore_n dX5_readGood_4 rfl
theorem kX5_readGood_5 (z : XKT) : XOi z xInf Y_X5_readGood 5 (.inl (i_aload 0 6)) := ok_aload_n dX5_readGood_5 rfl
theorem kX5_readGood_6 (z : XKT) : XOi z xInf Y_X5_readGood 6 (.inl (i_iload 1 7)) := ok_iload_n dX5_readGood_6 rfl
theorem kX5_readGood_7 (z : XKT) : XOi z xInf Y_X5_readGood 7 (.inl (i_push (vI (-1)) 8)) := ok_iconst dX5_readGood_7 rfl
theorem kX5_readGood_8 (z : XKT) : XOi z xInf Y_X5_readGood 8 (.inl (i_icmp (fun x y => x = y) 15 11)) := ok_icmp_eq dX5_readGood_8 rfl
theorem kX5_readGood_11 (z : XKT) : XOi z xInf Y_X5_readGood 11 (.inl (i_push (vI 1) 12)) := ok_iconst dX5_readGood_11 rfl
theorem kX5_readGood_12 (z : XKT) : XOi z xInf Y_X5_readGood 12 (.inl (i_goto 16)) := ok_goto dX5_readGood_12 rfl
theorem kX5_readGood_15 (z : XKT) : XOi z xInf Y_X5_readGood 15 (.inl (i_push (vI 0) 16)) := ok_iconst dX5_readGood_15 rfl
theorem kX5_readGood_16 (z : XKT) : XOi z xInf Y_X5_readGood 16 (.inl (i_push (vI 1) 17)) := ok_iconst dX5_readGood_16 rfl
theorem kX5_readGood_17 (z : XKT) : XOi z xInf Y_X5_readGood 17 (.inr (.inl (20, g_virt [(4, 178)] 2))) := show XOkC z xInf Y_X5_readGood 17 20 (g_virt [(4, 178)] 2) from okc_V (q := Y_X5_readGood) (List.forall_mem_cons.mpr ⟨(show XOkV z xInf Y_X5_readGood 17 20 2 (4, 178) from okv_V (q := Y_X5_readGood) (q1 := Y_X5_check) Z_X5_check rfl (by decide) ⟨by decide, by decide, Or.inl ⟨_, _, (List.mem_of_getElem? (l := xCls) (i := 3) rfl)⟩⟩ dX5_readGood_17 q3073 q3075 qs109 q153 q3076 hy_307), (fun _ h => absurd h List.not_mem_nil)⟩)
theorem kX5_readGood_20 (z : XKT) : XOi z xInf Y_X5_readGood 20 (.inl (i_aload 0 21)) := ok_aload_n dX5_readGood_20 rfl
theorem kX5_readGood_21 (z : XKT) : XOi z xInf Y_X5_readGood 21 (.inl (i_aload 0 22)) := ok_aload_n dX5_readGood_21 rfl
theorem kX5_readGood_22 (z : XKT) : XOi z xInf Y_X5_readGood 22 (.inl (i_geti [4] 52 25)) := ok_geti dX5_readGood_22 q2529 (List.forall_mem_cons.mpr ⟨⟨_, _, _, _, fd_52_4_0⟩, (fun _ h => absurd h List.not_mem_nil)⟩)
theorem kX5_readGood_25 (z : XKT) : XOi z xInf Y_X5_readGood 25 (.inl (i_if (fun x => ¬ x = 0) 39 28)) := ok_if_ne dX5_readGood_25 rfl
theorem kX5_readGood_28 (z : XKT) : XOi z xInf Y_X5_readGood 28 (.inl (i_aload 0 29)) := ok_aload_n dX5_readGood_28 rfl
theorem kX5_readGood_29 (z : XKT) : XOi z xInf Y_X5_readGood 29 (.inl (i_getr [4] 40 32)) := ok_getr dX5_readGood_29 q2517 (List.forall_mem_cons.mpr ⟨⟨_, _, _, _, fd_40_4_0⟩, (fun _ h => absurd h List.not_mem_nil)⟩)
theorem kX5_readGood_32 (z : XKT) : XOi z xInf Y_X5_readGood 32 (.inl (i_push (vI 5) 33)) := ok_iconst dX5_readGood_32 rfl
theorem kX5_readGood_33 (z : XKT) : XOi z xInf Y_X5_readGood 33 (.inl (i_ald 1000 34)) := ok_iald dX5_readGood_33
theorem kX5_readGood_34 (z : XKT) : XOi z xInf Y_X5_readGood 34 (.inl (i_push (vI 24) 36)) := ok_bipush dX5_readGood_34 rfl
theorem kX5_readGood_36 (z : XKT) : XOi z xInf Y_X5_readGood 36 (.inl (i_icmp (fun x y => y ≤ x) 43 39)) := ok_icmp_ge dX5_readGood_36 rfl
theorem kX5_readGood_39 (z : XKT) : XOi z xInf Y_X5_readGood 39 (.inl (i_push (vI 1) 40)) := ok_iconst dX5_readGood_39 rfl
theorem kX5_readGood_40 (z : XKT) : XOi z xInf Y_X5_readGood 40 (.inl (i_goto 44)) := ok_goto dX5_readGood_40 rfl
theorem kX5_readGood_43 (z : XKT) : XOi z xInf Y_X5_readGood 43 (.inl (i_push (vI 0) 44)) := ok_iconst dX5_readGood_43 rfl
theorem kX5_readGood_44 (z : XKT) : XOi z xInf Y_X5_readGood 44 (.inl (i_push (vI 4) 45)) := ok_iconst dX5_readGood_44 rfl
theorem kX5_readGood_45 (z : XKT) : XOi z xInf Y_X5_readGood 45 (.inr (.inl (48, g_virt [(4, 178)] 2))) := show XOkC z xInf Y_X5_readGood 45 48 (g_virt [(4, 178)] 2) from okc_V (q := Y_X5_readGood) (List.forall_mem_cons.mpr ⟨(show XOkV z xInf Y_X5_readGood 45 48 2 (4, 178) from okv_V (q := Y_X5_readGood) (q1 := Y_X5_check) Z_X5_check rfl (by decide) ⟨by decide, by decide, Or.inl ⟨_, _, (List.mem_of_getElem? (l := xCls) (i := 3) rfl)⟩⟩ dX5_readGood_45 q3073 q3075 qs109 q153 q3076 hy_307), (fun _ h => absurd h List.not_mem_nil)⟩)
theorem kX5_readGood_48 (z : XKT) : XOi z xInf Y_X5_readGood 48 (.inl (i_aload 0 49)) := ok_aload_n dX5_readGood_48 rfl
theorem kX5_readGood_49 (z : XKT) : XOi z xInf Y_X5_readGood 49 (.inr (.inl (52, g_virt [(4, 171)] 0))) := show XOkC z xInf Y_X5_readGood 49 52 (g_virt [(4, 171)] 0) from okc_V (q := Y_X5_readGood) (List.forall_mem_cons.mpr ⟨(show XOkV z xInf Y_X5_readGood 49 52 0 (4, 171) from okv_V (q := Y_X5_readGood) (q1 := Y_X5_advance) Z_X5_advance rfl (by decide) ⟨by decide, by decide, Or.inl ⟨_, _, (List.mem_of_getElem? (l := xCls) (i := 3) rfl)⟩⟩ dX5_readGood_49 q3077 q3079 qs110 q153 q3080 hy_308), (fun _ h => absurd h List.not_mem_nil)⟩)
theorem kX5_readGood_52 (z : XKT) : XOi z xInf Y_X5_readGood 52 (.inl (i_aload 0 53)) := ok_aload_n dX5_readGood_52 rfl
theorem kX5_readGood_53 (z : XKT) : XOi z xInf Y_X5_readGood 53 (.inl (i_push (vI 1) 54)) := ok_iconst dX5_readGood_53 rfl
theorem kX5_readGood_54 (z : XKT) : XOi z xInf Y_X5_readGood 54 (.inl (i_push (vI 999) 57)) := ok_sipush dX5_readGood_54 rfl
theorem kX5_readGood_57 (z : XKT) : XOi z xInf Y_X5_readGood 57 (.inr (.inl (60, g_virt [(4, 271)] 2))) := show XOkC z xInf Y_X5_readGood 57 60 (g_virt [(4, 271)] 2) from okc_V (q := Y_X5_readGood) (List.forall_mem_cons.mpr ⟨(show XOkV z xInf Y_X5_readGood 57 60 2 (4, 271) from okv_V (q := Y_X5_readGood) (q1 := Y_X5_readNumber) Z_X5_readNumber rfl (by decide) ⟨by decide, by decide, Or.inl ⟨_, _, (List.mem_of_getElem? (l := xCls) (i := 3) rfl)⟩⟩ dX5_readGood_57 q3090 q3092 qs113 q153 q3093 hy_329), (fun _ h => absurd h List.not_mem_nil)⟩)
theorem kX5_readGood_60 (z : XKT) : XOi z xInf Y_X5_readGood 60 (.inl (i_istore 2 61)) := ok_istore_n dX5_readGood_60 rfl
theorem kX5_readGood_61 (z : XKT) : XOi z xInf Y_X5_readGood 61 (.inl (i_aload 0 62)) := ok_aload_n dX5_readGood_61 rfl
theorem kX5_readGood_62 (z : XKT) : XOi z xInf Y_X5_readGood 62 (.inl (i_push (vI 0) 63)) := ok_iconst dX5_readGood_62 rfl
theorem kX5_readGood_63 (z : XKT) : XOi z xInf Y_X5_readGood 63 (.inl (i_push (vI 9) 65)) := ok_bipush dX5_readGood_63 rfl
theorem kX5_readGood_65 (z : XKT) : XOi z xInf Y_X5_readGood 65 (.inr (.inl (68, g_virt [(4, 271)] 2))) := show XOkC z xInf Y_X5_readGood 65 68 (g_virt [(4, 271)] 2) from okc_V (q := Y_X5_readGood) (List.forall_mem_cons.mpr ⟨(show XOkV z xInf Y_X5_readGood 65 68 2 (4, 271) from okv_V (q := Y_X5_readGood) (q1 := Y_X5_readNumber) Z_X5_readNumber rfl (by decide) ⟨by decide, by decide, Or.inl ⟨_, _, (List.mem_of_getElem? (l := xCls) (i := 3) rfl)⟩⟩ dX5_readGood_65 q3090 q3092 qs113 q153 q3093 hy_329), (fun _ h => absurd h List.not_mem_nil)⟩)
theorem kX5_readGood_68 (z : XKT) : XOi z xInf Y_X5_readGood 68 (.inl (i_istore 3 69)) := ok_istore_n dX5_readGood_68 rfl
theorem kX5_readGood_69 (z : XKT) : XOi z xInf Y_X5_readGood 69 (.inl (i_aload 0 70)) := ok_aload_n dX5_readGood_69 rfl
theorem kX5_readGood_70 (z : XKT) : XOi z xInf Y_X5_readGood 70 (.inl (i_push (vI 1) 71)) := ok_iconst dX5_readGood_70 rfl
theorem kX5_readGood_71 (z : XKT) : XOi z xInf Y_X5_readGood 71 (.inl (i_push (vI 4) 72)) := ok_iconst dX5_readGood_71 rfl
theorem kX5_readGood_72 (z : XKT) : XOi z xInf Y_X5_readGood 72 (.inr (.inl (75, g_virt [(4, 271)] 2))) := show XOkC z xInf Y_X5_readGood 72 75 (g_virt [(4, 271)] 2) from okc_V (q := Y_X5_readGood) (List.forall_mem_cons.mpr ⟨(show XOkV z xInf Y_X5_readGood 72 75 2 (4, 271) from okv_V (q := Y_X5_readGood) (q1 := Y_X5_readNumber) Z_X5_readNumber rfl (by decide) ⟨by decide, by decide, Or.inl ⟨_, _, (List.mem_of_getElem? (l := xCls) (i := 3) rfl)⟩⟩ dX5_readGood_72 q3090 q3092 qs113 q153 q3093 hy_329), (fun _ h => absurd h List.not_mem_nil)⟩)
theorem kX5_readGood_75 (z : XKT) : XOi z xInf Y_X5_readGood 75 (.inl (i_istore 4 77)) := ok_istore dX5_readGood_75
theorem kX5_readGood_77 (z : XKT) : XOi z xInf Y_X5_readGood 77 (.inl (i_aload 0 78)) := ok_aload_n dX5_readGood_77 rfl
theorem kX5_readGood_78 (z : XKT) : XOi z xInf Y_X5_readGood 78 (.inl (i_push (vR (some (z.2.1 37))) 81)) := ok_ldcsw dX5_readGood_78 (List.mem_of_getElem? (l := xStr) (i := 28) rfl)
theorem kX5_readGood_81 (z : XKT) : XOi z xInf Y_X5_readGood 81 (.inr (.inl (84, g_virt [(4, 167)] 1))) := show XOkC z xInf Y_X5_readGood 81 84 (g_virt [(4, 167)] 1) from okc_V (q := Y_X5_readGood) (List.forall_mem_cons.mpr ⟨(show XOkV z xInf Y_X5_readGood 81 84 1 (4, 167) from okv_V (q := Y_X5_readGood) (q1 := Y_X5_accept) Z_X5_accept rfl (by decide) ⟨by decide, by decide, Or.inl ⟨_, _, (List.mem_of_getElem? (l := xCls) (i := 3) rfl)⟩⟩ dX5_readGood_81 q3111 q3113 qs118 q153 q3114 hy_331), (fun _ h => absurd h List.not_mem_nil)⟩)
theorem kX5_readGood_84 (z : XKT) : XOi z xInf Y_X5_readGood 84 (.inl (i_if (fun x => x = 0) 96 87)) := ok_if_eq dX5_readGood_84 rfl
theorem kX5_readGood_87 (z : XKT) : XOi z xInf Y_X5_readGood 87 (.inl (i_aload 0 88)) := ok_aload_n dX5_readGood_87 rfl
theorem kX5_readGood_88 (z : XKT) : XOi z xInf Y_X5_readGood 88 (.inl (i_push (vI 1) 89)) := ok_iconst dX5_readGood_88 rfl
theorem kX5_readGood_89 (z : XKT) : XOi z xInf Y_X5_readGood 89 (.inl (i_push (vI 5) 90)) := ok_iconst dX5_readGood_89 rfl
theorem kX5_readGood_90 (z : XKT) : XOi z xInf Y_X5_readGood 90 (.inr (.inl (93, g_virt [(4, 271)] 2))) := show XOkC z xInf Y_X5_readGood 90 93 (g_virt [(4, 271)] 2) from okc_V (q := Y_X5_readGood) (List.forall_mem_cons.mpr ⟨(show XOkV z xInf Y_X5_readGood 90 93 2 (4, 271) from okv_V (q := Y_X5_readGood) (q1 := Y_X5_readNumber) Z_X5_readNumber rfl (by decide) ⟨by decide, by decide, Or.inl ⟨_, _, (List.mem_of_getElem? (l := xCls) (i := 3) rfl)⟩⟩ dX5_readGood_90 q3090 q3092 qs113 q153 q3093 hy_329), (fun _ h => absurd h List.not_mem_nil)⟩)
theorem kX5_readGood_93 (z : XKT) : XOi z xInf Y_X5_readGood 93 (.inl (i_goto 97)) := ok_goto dX5_readGood_93 rfl
theorem kX5_readGood_96 (z : XKT) : XOi z xInf Y_X5_readGood 96 (.inl (i_push (vI 0) 97)) := ok_iconst dX5_readGood_96 rfl
theorem kX5_readGood_97 (z : XKT) : XOi z xInf Y_X5_readGood 97 (.inl (i_istore 5 99)) := ok_istore dX5_readGood_97
theorem kX5_readGood_99 (z : XKT) : XOi z xInf Y_X5_readGood 99 (.inl (i_aload 0 100)) := ok_aload_n dX5_readGood_99 rfl
theorem kX5_readGood_100 (z : XKT) : XOi z xInf Y_X5_readGood 100 (.inl (i_push (vI 59) 102)) := ok_bipush dX5_readGood_100 rfl
theorem kX5_readGood_102 (z : XKT) : XOi z xInf Y_X5_readGood 102 (.inr (.inl (105, g_virt [(4, 213)] 1))) := show XOkC z xInf Y_X5_readGood 102 105 (g_virt [(4, 213)] 1) from okc_V (q := Y_X5_readGood) (List.forall_mem_cons.mpr ⟨(show XOkV z xInf Y_X5_readGood 102 105 1 (4, 213) from okv_V (q := Y_X5_readGood) (q1 := Y_X5_expect) Z_X5_expect rfl (by decide) ⟨by decide, by decide, Or.inl ⟨_, _, (List.mem_of_getElem? (l := xCls) (i := 3) rfl)⟩⟩ dX5_readGood_102 q3094 q3096 qs114 q153 q3097 hy_332), (fun _ h => absurd h List.not_mem_nil)⟩)
theorem kX5_readGood_105 (z : XKT) : XOi z xInf Y_X5_readGood 105 (.inl (i_aload 0 106)) := ok_aload_n dX5_readGood_105 rfl
theorem kX5_readGood_106 (z : XKT) : XOi z xInf Y_X5_readGood 106 (.inl (i_geti [4] 52 109)) := ok_geti dX5_readGood_106 q2529 (List.forall_mem_cons.mpr ⟨⟨_, _, _, _, fd_52_4_0⟩, (fun _ h => absurd h List.not_mem_nil)⟩)
theorem kX5_readGood_109 (z : XKT) : XOi z xInf Y_X5_readGood 109 (.inl (i_if (fun x => ¬ x = 0) 123 112)) := ok_if_ne dX5_readGood_109 rfl
theorem kX5_readGood_112 (z : XKT) : XOi z xInf Y_X5_readGood 112 (.inl (i_aload 0 113)) := ok_aload_n dX5_readGood_112 rfl
theorem kX5_readGood_113 (z : XKT) : XOi z xInf Y_X5_readGood 113 (.inl (i_iload 1 114)) := ok_iload_n dX5_readGood_113 rfl
theorem kX5_readGood_114 (z : XKT) : XOi z xInf Y_X5_readGood 114 (.inl (i_iload 2 115)) := ok_iload_n dX5_readGood_114 rfl
theorem kX5_readGood_115 (z : XKT) : XOi z xInf Y_X5_readGood 115 (.inl (i_iload 3 116)) := ok_iload_n dX5_readGood_115 rfl
theorem kX5_readGood_116 (z : XKT) : XOi z xInf Y_X5_readGood 116 (.inl (i_iload 4 118)) := ok_iload dX5_readGood_116
theorem kX5_readGood_118 (z : XKT) : XOi z xInf Y_X5_readGood 118 (.inl (i_iload 5 120)) := ok_iload dX5_readGood_118
theorem kX5_readGood_120 (z : XKT) : XOi z xInf Y_X5_readGood 120 (.inr (.inl (123, g_virt [(4, 169)] 5))) := show XOkC z xInf Y_X5_readGood 120 123 (g_virt [(4, 169)] 5) from okc_V (q := Y_X5_readGood) (List.forall_mem_cons.mpr ⟨(show XOkV z xInf Y_X5_readGood 120 123 5 (4, 169) from okv_V (q := Y_X5_readGood) (q1 := Y_X5_addGood) Z_X5_addGood rfl (by decide) ⟨by decide, by decide, Or.inl ⟨_, _, (List.mem_of_getElem? (l := xCls) (i := 3) rfl)⟩⟩ dX5_readGood_120 q2499 q2501 qs44 q153 q2502 hy_315), (fun _ h => absurd h List.not_mem_nil)⟩)
theorem kX5_readGood_123 (z : XKT) : XOi z xInf Y_X5_readGood 123 (.inr (.inr (.inl r_v))) := show XOkR Y_X5_readGood 123 (r_v) from okr_v (q := Y_X5_readGood) rfl dX5_readGood_123
theorem o_X5_readGood (z : XKT) : XMi z xInf Y_X5_readGood := XMi.mk9 (T := T_X5_readGood z) rfl (⟨kX5_readGood_0 z, ⟨kX5_readGood_1 z, ⟨kX5_readGood_4 z, ⟨kX5_readGood_5 z, ⟨kX5_readGood_6 z, ⟨kX5_readGood_7 z, ⟨kX5_readGood_8 z, ⟨kX5_readGood_11 z, ⟨kX5_readGood_12 z, ⟨kX5_readGood_15 z, ⟨kX5_readGood_16 z, ⟨kX5_readGood_17 z, ⟨kX5_readGood_20 z, ⟨kX5_readGood_21 z, ⟨kX5_readGood_22 z, ⟨kX5_readGood_25 z, ⟨kX5_readGood_28 z, ⟨kX5_readGood_29 z, ⟨kX5_readGood_32 z, ⟨kX5_readGood_33 z, ⟨kX5_readGood_34 z, ⟨kX5_readGood_36 z, ⟨kX5_readGood_39 z, ⟨kX5_readGood_40 z, ⟨kX5_readGood_43 z, ⟨kX5_readGood_44 z, ⟨kX5_readGood_45 z, ⟨kX5_readGood_48 z, ⟨kX5_readGood_49 z, ⟨kX5_readGood_52 z, ⟨kX5_readGood_53 z, ⟨kX5_readGood_54 z, ⟨kX5_readGood_57 z, ⟨kX5_readGood_60 z, ⟨kX5_readGood_61 z, ⟨kX5_readGood_62 z, ⟨kX5_readGood_63 z, ⟨kX5_readGood_65 z, ⟨kX5_readGood_68 z, ⟨kX5_readGood_69 z, ⟨kX5_readGood_70 z, ⟨kX5_readGood_71 z, ⟨kX5_readGood_72 z, ⟨kX5_readGood_75 z, ⟨kX5_readGood_77 z, ⟨kX5_readGood_78 z, ⟨kX5_readGood_81 z, ⟨kX5_readGood_84 z, ⟨kX5_readGood_87 z, ⟨kX5_readGood_88 z, ⟨kX5_readGood_89 z, ⟨kX5_readGood_90 z, ⟨kX5_readGood_93 z, ⟨kX5_readGood_96 z, ⟨kX5_readGood_97 z, ⟨kX5_readGood_99 z, ⟨kX5_readGood_100 z, ⟨kX5_readGood_102 z, ⟨kX5_readGood_105 z, ⟨kX5_readGood_106 z, ⟨kX5_readGood_109 z, ⟨kX5_readGood_112 z, ⟨kX5_readGood_113 z, ⟨kX5_readGood_114 z, ⟨kX5_readGood_115 z, ⟨kX5_readGood_116 z, ⟨kX5_readGood_118 z, ⟨kX5_readGood_120 z, ⟨kX5_readGood_123 z, trivial⟩⟩⟩⟩⟩⟩⟩⟩⟩⟩⟩⟩⟩⟩⟩⟩⟩⟩⟩⟩⟩⟩⟩⟩⟩⟩⟩⟩⟩⟩⟩⟩⟩⟩⟩⟩⟩⟩⟩⟩⟩⟩⟩⟩⟩⟩⟩⟩⟩⟩⟩⟩⟩⟩⟩⟩⟩⟩⟩⟩⟩⟩⟩⟩⟩⟩⟩⟩⟩) (hd_X5_readGood z) rfl rfl (by decide +kernel)
theorem hd_X5_readNumber (z : XKT) : XHd z Y_X5_readNumber := xHd_none rfl (xhd0 rfl)
theorem kX5_readNumber_0 (z : XKT) : XOi z xInf Y_X5_readNumber 0 (.inl (i_aload 0 1)) := ok_aload_n dX5_readNumber_0 rfl
theorem kX5_readNumber_1 (z : XKT) : XOi z xInf Y_X5_readNumber 1 (.inl (i_iload 1 2)) := ok_iload_n dX5_readNumber_1 rfl
theorem kX5_readNumber_2 (z : XKT) : XOi z xInf Y_X5_readNumber 2 (.inl (i_iload 2 3)) := ok_iload_n dX5_readNumber_2 rfl
theorem kX5_readNumber_3 (z : XKT) : XOi z xInf Y_X5_readNumber 3 (.inr (.inl (6, g_virt [(4, 247)] 2))) := show XOkC z xInf Y_X5_readNumber 3 6 (g_virt [(4, 247)] 2) from okc_V (q := Y_X5_readNumber) (List.forall_mem_cons.mpr ⟨(show XOkV z xInf Y_X5_readNumber 3 6 2 (4, 247) from okv_V (q := Y_X5_readNumber) (q1 := Y_X5_look) Z_X5_look rfl (by decide) ⟨by decide, by decide, Or.inl ⟨_, _, (List.mem_of_getElem? (l := xCls) (i := 3) rfl)⟩⟩ dX5_readNumber_3 q3081 q3083 qs111 q153 q3084 hy_333), (fun _ h => absurd h List.not_mem_nil)⟩)
theorem kX5_readNumber_6 (z : XKT) : XOi z xInf Y_X5_readNumber 6 (.inl (i_istore 3 7)) := ok_istore_n dX5_readNumber_6 rfl
theorem kX5_readNumber_7 (z : XKT) : XOi z xInf Y_X5_readNumber 7 (.inl (i_aload 0 8)) := ok_aload_n dX5_readNumber_7 rfl
theorem kX5_readNumber_8 (z : XKT) : XOi z xInf Y_X5_readNumber 8 (.inr (.inl (11, g_virt [(4, 171)] 0))) := show XOkC z xInf Y_X5_readNumber 8 11 (g_virt [(4, 171)] 0) from okc_V (q := Y_X5_readNumber) (List.forall_mem_cons.mpr ⟨(show XOkV z xInf Y_X5_readNumber 8 11 0 (4, 171) from okv_V (q := Y_X5_readNumber) (q1 := Y_X5_advance) Z_X5_advance rfl (by decide) ⟨by decide, by decide, Or.inl ⟨_, _, (List.mem_of_getElem? (l := xCls) (i := 3) rfl)⟩⟩ dX5_readNumber_8 q3077 q3079 qs110 q153 q3080 hy_308), (fun _ h => absurd h List.not_mem_nil)⟩)
theorem kX5_readNumber_11 (z : XKT) : XOi z xInf Y_X5_readNumber 11 (.inl (i_iload 3 12)) := ok_iload_n dX5_readNumber_11 rfl
theorem kX5_readNumber_12 (z : XKT) : XOi z xInf Y_X5_readNumber 12 (.inr (.inr (.inl (r_i .int)))) := show XOkR Y_X5_readNumber 12 ((r_i .int)) from okr_i (q := Y_X5_readNumber) (ty := .int) rfl rfl dX5_readNumber_12
theorem o_X5_readNumber (z : XKT) : XMi z xInf Y_X5_readNumber := XMi.mk9 (T := T_X5_readNumber z) rfl (⟨kX5_readNumber_0 z, ⟨kX5_readNumber_1 z, ⟨kX5_readNumber_2 z, ⟨kX5_readNumber_3 z, ⟨kX5_readNumber_6 z, ⟨kX5_readNumber_7 z, ⟨kX5_readNumber_8 z, ⟨kX5_readNumber_11 z, ⟨kX5_readNumber_12 z, trivial⟩⟩⟩⟩⟩⟩⟩⟩⟩) (hd_X5_readNumber z) rfl rfl (by decide +kernel)
theorem hd_X5_readOrder (z : XKT) : XHd z Y_X5_readOrder := xHd_none rfl (xhd0 rfl)
theorem kX5_readOrder_0 (z : XKT) : XOi z xInf Y_X5_readOrder 0 (.inl (i_aload 0 1)) := ok_aload_n dX5_readOrder_0 rfl
theorem kX5_readOrder_1 (z : XKT) : XOi z xInf Y_X5_readOrder 1 (.inr (.inl (4, g_virt [(4, 257)] 0))) := show XOkC z xInf Y_X5_readOrder 1 4 (g_virt [(4, 257)] 0) from okc_V (q := Y_X5_readOrder) (List.forall_mem_cons.mpr ⟨(show XOkV z xInf Y_X5_readOrder 1 4 0 (4, 257) from okv_V (q := Y_X5_readOrder) (q1 := Y_X5_orderHere) Z_X5_orderHere rfl (by decide) ⟨by decide, by decide, Or.inl ⟨_, _, (List.mem_of_getElem? (l := xCls) (i := 3) rfl)⟩⟩ dX5_readOrder_1 q3127 q3129 qs121 q153 q3130 hy_334), (fun _ h => absurd h List.not_mem_nil)⟩)
theorem kX5_readOrder_4 (z : XKT) : XOi z xInf Y_X5_readOrder 4 (.inl (i_istore 1 5)) := ok_istore_n dX5_readOrder_4 rfl
theorem kX5_readOrder_5 (z : XKT) : XOi z xInf Y_X5_readOrder 5 (.inl (i_aload 0 6)) := ok_aload_n dX5_readOrder_5 rfl
theorem kX5_readOrder_6 (z : XKT) : XOi z xInf Y_X5_readOrder 6 (.inl (i_iload 1 7)) := ok_iload_n dX5_readOrder_6 rfl
theorem kX5_readOrder_7 (z : XKT) : XOi z xInf Y_X5_readOrder 7 (.inl (i_push (vI (-1)) 8)) := ok_iconst dX5_readOrder_7 rfl
theorem kX5_readOrder_8 (z : XKT) : XOi z xInf Y_X5_readOrder 8 (.inl (i_icmp (fun x y => x = y) 15 11)) := ok_icmp_eq dX5_readOrder_8 rfl
theorem kX5_readOrder_11 (z : XKT) : XOi z xInf Y_X5_readOrder 11 (.inl (i_push (vI 1) 12)) := ok_iconst dX5_readOrder_11 rfl
theorem kX5_readOrder_12 (z : XKT) : XOi z xInf Y_X5_readOrder 12 (.inl (i_goto 16)) := ok_goto dX5_readOrder_12 rfl
theorem kX5_readOrder_15 (z : XKT) : XOi z xInf Y_X5_readOrder 15 (.inl (i_push (vI 0) 16)) := ok_iconst dX5_readOrder_15 rfl
theorem kX5_readOrder_16 (z : XKT) : XOi z xInf Y_X5_readOrder 16 (.inl (i_push (vI 1) 17)) := ok_iconst dX5_readOrder_16 rfl
theorem kX5_readOrder_17 (z : XKT) : XOi z xInf Y_X5_readOrder 17 (.inr (.inl (20, g_virt [(4, 178)] 2))) := show XOkC z xInf Y_X5_readOrder 17 20 (g_virt [(4, 178)] 2) from okc_V (q := Y_X5_readOrder) (List.forall_mem_cons.mpr ⟨(show XOkV z xInf Y_X5_readOrder 17 20 2 (4, 178) from okv_V (q := Y_X5_readOrder) (q1 := Y_X5_check) Z_X5_check rfl (by decide) ⟨by decide, by decide, Or.inl ⟨_, _, (List.mem_of_getElem? (l := xCls) (i := 3) rfl)⟩⟩ dX5_readOrder_17 q3073 q3075 qs109 q153 q3076 hy_307), (fun _ h => absurd h List.not_mem_nil)⟩)
theorem kX5_readOrder_20 (z : XKT) : XOi z xInf Y_X5_readOrder 20 (.inl (i_aload 0 21)) := ok_aload_n dX5_readOrder_20 rfl
theorem kX5_readOrder_21 (z : XKT) : XOi z xInf Y_X5_readOrder 21 (.inl (i_aload 0 22)) := ok_aload_n dX5_readOrder_21 rfl
theorem kX5_readOrder_22 (z : XKT) : XOi z xInf Y_X5_readOrder 22 (.inl (i_geti [4] 52 25)) := ok_geti dX5_readOrder_22 q2529 (List.forall_mem_cons.mpr ⟨⟨_, _, _, _, fd_52_4_0⟩, (fun _ h => absurd h List.not_mem_nil)⟩)
theorem kX5_readOrder_25 (z : XKT) : XOi z xInf Y_X5_readOrder 25 (.inl (i_if (fun x => ¬ x = 0) 37 28)) := ok_if_ne dX5_readOrder_25 rfl
theorem kX5_readOrder_28 (z : XKT) : XOi z xInf Y_X5_readOrder 28 (.inl (i_aload 0 29)) := ok_aload_n dX5_readOrder_28 rfl
theorem kX5_readOrder_29 (z : XKT) : XOi z xInf Y_X5_readOrder 29 (.inl (i_geti [4] 58 32)) := ok_geti dX5_readOrder_29 q2535 (List.forall_mem_cons.mpr ⟨⟨_, _, _, _, fd_58_4_0⟩, (fun _ h => absurd h List.not_mem_nil)⟩)
theorem kX5_readOrder_32 (z : XKT) : XOi z xInf Y_X5_readOrder 32 (.inl (i_push (vI 20) 34)) := ok_bipush dX5_readOrder_32 rfl
theorem kX5_readOrder_34 (z : XKT) : XOi z xInf Y_X5_readOrder 34 (.inl (i_icmp (fun x y => y ≤ x) 41 37)) := ok_icmp_ge dX5_readOrder_34 rfl
theorem kX5_readOrder_37 (z : XKT) : XOi z xInf Y_X5_readOrder 37 (.inl (i_push (vI 1) 38)) := ok_iconst dX5_readOrder_37 rfl
theorem kX5_readOrder_38 (z : XKT) : XOi z xInf Y_X5_readOrder 38 (.inl (i_goto 42)) := ok_goto dX5_readOrder_38 rfl
theorem kX5_readOrder_41 (z : XKT) : XOi z xInf Y_X5_readOrder 41 (.inl (i_push (vI 0) 42)) := ok_iconst dX5_readOrder_41 rfl
theorem kX5_readOrder_42 (z : XKT) : XOi z xInf Y_X5_readOrder 42 (.inl (i_push (vI 4) 43)) := ok_iconst dX5_readOrder_42 rfl
theorem kX5_readOrder_43 (z : XKT) : XOi z xInf Y_X5_readOrder 43 (.inr (.inl (46, g_virt [(4, 178)] 2))) := show XOkC z xInf Y_X5_readOrder 43 46 (g_virt [(4, 178)] 2) from okc_V (q := Y_X5_readOrder) (List.forall_mem_cons.mpr ⟨(show XOkV z xInf Y_X5_readOrder 43 46 2 (4, 178) from okv_V (q := Y_X5_readOrder) (q1 := Y_X5_check) Z_X5_check rfl (by decide) ⟨by decide, by decide, Or.inl ⟨_, _, (List.mem_of_getElem? (l := xCls) (i := 3) rfl)⟩⟩ dX5_readOrder_43 q3073 q3075 qs109 q153 q3076 hy_307), (fun _ h => absurd h List.not_mem_nil)⟩)
theorem kX5_readOrder_46 (z : XKT) : XOi z xInf Y_X5_readOrder 46 (.inl (i_aload 0 47)) := ok_aload_n dX5_readOrder_46 rfl
theorem kX5_readOrder_47 (z : XKT) : XOi z xInf Y_X5_readOrder 47 (.inr (.inl (50, g_virt [(4, 171)] 0))) := show XOkC z xInf Y_X5_readOrder 47 50 (g_virt [(4, 171)] 0) from okc_V (q := Y_X5_readOrder) (List.forall_mem_cons.mpr ⟨(show XOkV z xInf Y_X5_readOrder 47 50 0 (4, 171) from okv_V (q := Y_X5_readOrder) (q1 := Y_X5_advance) Z_X5_advance rfl (by decide) ⟨by decide, by decide, Or.inl ⟨_, _, (List.mem_of_getElem? (l := xCls) (i := 3) rfl)⟩⟩ dX5_readOrder_47 q3077 q3079 qs110 q153 q3080 hy_308), (fun _ h => absurd h List.not_mem_nil)⟩)
theorem kX5_readOrder_50 (z : XKT) : XOi z xInf Y_X5_readOrder 50 (.inl (i_aload 0 51)) := ok_aload_n dX5_readOrder_50 rfl
theorem kX5_readOrder_51 (z : XKT) : XOi z xInf Y_X5_readOrder 51 (.inl (i_geti [4] 52 54)) := ok_geti dX5_readOrder_51 q2529 (List.forall_mem_cons.mpr ⟨⟨_, _, _, _, fd_52_4_0⟩, (fun _ h => absurd h List.not_mem_nil)⟩)
theorem kX5_readOrder_54 (z : XKT) : XOi z xInf Y_X5_readOrder 54 (.inl (i_if (fun x => x = 0) 58 57)) := ok_if_eq dX5_readOrder_54 rfl
theorem kX5_readOrder_57 (z : XKT) : XOi z xInf Y_X5_readOrder 57 (.inr (.inr (.inl r_v))) := show XOkR Y_X5_readOrder 57 (r_v) from okr_v (q := Y_X5_readOrder) rfl dX5_readOrder_57
theorem kX5_readOrder_58 (z : XKT) : XOi z xInf Y_X5_readOrder 58 (.inl (i_push (vI 4) 59)) := ok_iconst dX5_readOrder_58 rfl
theorem kX5_readOrder_59 (z : XKT) : XOi z xInf Y_X5_readOrder 59 (.inl (i_aload 0 60)) := ok_aload_n dX5_readOrder_59 rfl
theorem kX5_readOrder_60 (z : XKT) : XOi z xInf Y_X5_readOrder 60 (.inl (i_geti [4] 58 63)) := ok_geti dX5_readOrder_60 q2535 (List.forall_mem_cons.mpr ⟨⟨_, _, _, _, fd_58_4_0⟩, (fun _ h => absurd h List.not_mem_nil)⟩)
theorem kX5_readOrder_63 (z : XKT) : XOi z xInf Y_X5_readOrder 63 (.inl (i_bin (fun x y => x * y) 64)) := ok_imul dX5_readOrder_63
theorem kX5_readOrder_64 (z : XKT) : XOi z xInf Y_X5_readOrder 64 (.inl (i_istore 2 65)) := ok_istore_n dX5_readOrder_64 rfl
theorem kX5_readOrder_65 (z : XKT) : XOi z xInf Y_X5_readOrder 65 (.inl (i_aload 0 66)) := ok_aload_n dX5_readOrder_65 rfl
theorem kX5_readOrder_66 (z : XKT) : XOi z xInf Y_X5_readOrder 66 (.inl (i_getr [4] 56 69)) := ok_getr dX5_readOrder_66 q2533 (List.forall_mem_cons.mpr ⟨⟨_, _, _, _, fd_56_4_0⟩, (fun _ h => absurd h List.not_mem_nil)⟩)
theorem kX5_readOrder_69 (z : XKT) : XOi z xInf Y_X5_readOrder 69 (.inl (i_iload 2 70)) := ok_iload_n dX5_readOrder_69 rfl
theorem kX5_readOrder_70 (z : XKT) : XOi z xInf Y_X5_readOrder 70 (.inl (i_iload 1 71)) := ok_iload_n dX5_readOrder_70 rfl
theorem kX5_readOrder_71 (z : XKT) : XOi z xInf Y_X5_readOrder 71 (.inl (i_ast z.1 1000 (fun x => x) 72)) := ok_iast dX5_readOrder_71
theorem kX5_readOrder_72 (z : XKT) : XOi z xInf Y_X5_readOrder 72 (.inl (i_aload 0 73)) := ok_aload_n dX5_readOrder_72 rfl
theorem kX5_readOrder_73 (z : XKT) : XOi z xInf Y_X5_readOrder 73 (.inl (i_getr [4] 56 76)) := ok_getr dX5_readOrder_73 q2533 (List.forall_mem_cons.mpr ⟨⟨_, _, _, _, fd_56_4_0⟩, (fun _ h => absurd h List.not_mem_nil)⟩)
theorem kX5_readOrder_76 (z : XKT) : XOi z xInf Y_X5_readOrder 76 (.inl (i_iload 2 77)) := ok_iload_n dX5_readOrder_76 rfl
theorem kX5_readOrder_77 (z : XKT) : XOi z xInf Y_X5_readOrder 77 (.inl (i_push (vI 1) 78)) := ok_iconst dX5_readOrder_77 rfl
theorem kX5_readOrder_78 (z : XKT) : XOi z xInf Y_X5_readOrder 78 (.inl (i_bin (fun x y => x + y) 79)) := ok_iadd dX5_readOrder_78
theorem kX5_readOrder_79 (z : XKT) : XOi z xInf Y_X5_readOrder 79 (.inl (i_aload 0 80)) := ok_aload_n dX5_readOrder_79 rfl
theorem kX5_readOrder_80 (z : XKT) : XOi z xInf Y_X5_readOrder 80 (.inl (i_iload 1 81)) := ok_iload_n dX5_readOrder_80 rfl
theorem kX5_readOrder_81 (z : XKT) : XOi z xInf Y_X5_readOrder 81 (.inr (.inl (84, g_virt [(4, 269)] 1))) := show XOkC z xInf Y_X5_readOrder 81 84 (g_virt [(4, 269)] 1) from okc_V (q := Y_X5_readOrder) (List.forall_mem_cons.mpr ⟨(show XOkV z xInf Y_X5_readOrder 81 84 1 (4, 269) from okv_V (q := Y_X5_readOrder) (q1 := Y_X5_readFirst) Z_X5_readFirst rfl (by decide) ⟨by decide, by decide, Or.inl ⟨_, _, (List.mem_of_getElem? (l := xCls) (i := 3) rfl)⟩⟩ dX5_readOrder_81 q3131 q3133 qs122 q153 q3134 hy_335), (fun _ h => absurd h List.not_mem_nil)⟩)
theorem kX5_readOrder_84 (z : XKT) : XOi z xInf Y_X5_readOrder 84 (.inl (i_ast z.1 1000 (fun x => x) 85)) := ok_iast dX5_readOrder_84
theorem kX5_readOrder_85 (z : XKT) : XOi z xInf Y_X5_readOrder 85 (.inl (i_aload 0 86)) := ok_aload_n dX5_readOrder_85 rfl
theorem kX5_readOrder_86 (z : XKT) : XOi z xInf Y_X5_readOrder 86 (.inl (i_getr [4] 56 89)) := ok_getr dX5_readOrder_86 q2533 (List.forall_mem_cons.mpr ⟨⟨_, _, _, _, fd_56_4_0⟩, (fun _ h => absurd h List.not_mem_nil)⟩)
theorem kX5_readOrder_89 (z : XKT) : XOi z xInf Y_X5_readOrder 89 (.inl (i_iload 2 90)) := ok_iload_n dX5_readOrder_89 rfl
theorem kX5_readOrder_90 (z : XKT) : XOi z xInf Y_X5_readOrder 90 (.inl (i_push (vI 2) 91)) := ok_iconst dX5_readOrder_90 rfl
theorem kX5_readOrder_91 (z : XKT) : XOi z xInf Y_X5_readOrder 91 (.inl (i_bin (fun x y => x + y) 92)) := ok_iadd dX5_readOrder_91
theorem kX5_readOrder_92 (z : XKT) : XOi z xInf Y_X5_readOrder 92 (.inl (i_iload 1 93)) := ok_iload_n dX5_readOrder_92 rfl
theorem kX5_readOrder_93 (z : XKT) : XOi z xInf Y_X5_readOrder 93 (.inl (i_if (fun x => ¬ x = 0) 106 96)) := ok_if_ne dX5_readOrder_93 rfl
theorem kX5_readOrder_96 (z : XKT) : XOi z xInf Y_X5_readOrder 96 (.inl (i_aload 0 97)) := ok_aload_n dX5_readOrder_96 rfl
theorem kX5_readOrder_97 (z : XKT) : XOi z xInf Y_X5_readOrder 97 (.inl (i_push (vI 0) 98)) := ok_iconst dX5_readOrder_97 rfl
theorem kX5_readOrder_98 (z : XKT) : XOi z xInf Y_X5_readOrder 98 (.inl (i_push (vI 23) 100)) := ok_bipush dX5_readOrder_98 rfl
theorem kX5_readOrder_100 (z : XKT) : XOi z xInf Y_X5_readOrder 100 (.inr (.inl (103, g_virt [(4, 271)] 2))) := show XOkC z xInf Y_X5_readOrder 100 103 (g_virt [(4, 271)] 2) from okc_V (q := Y_X5_readOrder) (List.forall_mem_cons.mpr ⟨(show XOkV z xInf Y_X5_readOrder 100 103 2 (4, 271) from okv_V (q := Y_X5_readOrder) (q1 := Y_X5_readNumber) Z_X5_readNumber rfl (by decide) ⟨by decide, by decide, Or.inl ⟨_, _, (List.mem_of_getElem? (l := xCls) (i := 3) rfl)⟩⟩ dX5_readOrder_100 q3090 q3092 qs113 q153 q3093 hy_329), (fun _ h => absurd h List.not_mem_nil)⟩)
theorem kX5_readOrder_103 (z : XKT) : XOi z xInf Y_X5_readOrder 103 (.inl (i_goto 123)) := ok_goto dX5_readOrder_103 rfl
theorem kX5_readOrder_106 (z : XKT) : XOi z xInf Y_X5_readOrder 106 (.inl (i_iload 1 107)) := ok_iload_n dX5_readOrder_106 rfl
theorem kX5_readOrder_107 (z : XKT) : XOi z xInf Y_X5_readOrder 107 (.inl (i_push (vI 6) 109)) := ok_bipush dX5_readOrder_107 rfl
theorem kX5_readOrder_109 (z : XKT) : XOi z xInf Y_X5_readOrder 109 (.inl (i_icmp (fun x y => ¬ x = y) 122 112)) := ok_icmp_ne dX5_readOrder_109 rfl
theorem kX5_readOrder_112 (z : XKT) : XOi z xInf Y_X5_readOrder 112 (.inl (i_aload 0 113)) := ok_aload_n dX5_readOrder_112 rfl
theorem kX5_readOrder_113 (z : XKT) : XOi z xInf Y_X5_readOrder 113 (.inl (i_push (vI 0) 114)) := ok_iconst dX5_readOrder_113 rfl
theorem kX5_readOrder_114 (z : XKT) : XOi z xInf Y_X5_readOrder 114 (.inl (i_push (vI 7) 116)) := ok_bipush dX5_readOrder_114 rfl
theorem kX5_readOrder_116 (z : XKT) : XOi z xInf Y_X5_readOrder 116 (.inr (.inl (119, g_virt [(4, 271)] 2))) := show XOkC z xInf Y_X5_readOrder 116 119 (g_virt [(4, 271)] 2) from okc_V (q := Y_X5_readOrder) (List.forall_mem_cons.mpr ⟨(show XOkV z xInf Y_X5_readOrder 116 119 2 (4, 271) from okv_V (q := Y_X5_readOrder) (q1 := Y_X5_readNumber) Z_X5_readNumber rfl (by decide) ⟨by decide, by decide, Or.inl ⟨_, _, (List.mem_of_getElem? (l := xCls) (i := 3) rfl)⟩⟩ dX5_readOrder_116 q3090 q3092 qs113 q153 q3093 hy_329), (fun _ h => absurd h List.not_mem_nil)⟩)
theorem kX5_readOrder_119 (z : XKT) : XOi z xInf Y_X5_readOrder 119 (.inl (i_goto 123)) := ok_goto dX5_readOrder_119 rfl
theorem kX5_readOrder_122 (z : XKT) : XOi z xInf Y_X5_readOrder 122 (.inl (i_push (vI 0) 123)) := ok_iconst dX5_readOrder_122 rfl
theorem kX5_readOrder_123 (z : XKT) : XOi z xInf Y_X5_readOrder 123 (.inl (i_ast z.1 1000 (fun x => x) 124)) := ok_iast dX5_readOrder_123
theorem kX5_readOrder_124 (z : XKT) : XOi z xInf Y_X5_readOrder 124 (.inl (i_aload 0 125)) := ok_aload_n dX5_readOrder_124 rfl
theorem kX5_readOrder_125 (z : XKT) : XOi z xInf Y_X5_readOrder 125 (.inl (i_getr [4] 56 128)) := ok_getr dX5_readOrder_125 q2533 (List.forall_mem_cons.mpr ⟨⟨_, _, _, _, fd_56_4_0⟩, (fun _ h => absurd h List.not_mem_nil)⟩)
theorem kX5_readOrder_128 (z : XKT) : XOi z xInf Y_X5_readOrder 128 (.inl (i_iload 2 129)) := ok_iload_n dX5_readOrder_128 rfl
theorem kX5_readOrder_129 (z : XKT) : XOi z xInf Y_X5_readOrder 129 (.inl (i_push (vI 3) 130)) := ok_iconst dX5_readOrder_129 rfl
theorem kX5_readOrder_130 (z : XKT) : XOi z xInf Y_X5_readOrder 130 (.inl (i_bin (fun x y => x + y) 131)) := ok_iadd dX5_readOrder_130
theorem kX5_readOrder_131 (z : XKT) : XOi z xInf Y_X5_readOrder 131 (.inl (i_iload 1 132)) := ok_iload_n dX5_readOrder_131 rfl
theorem kX5_readOrder_132 (z : XKT) : XOi z xInf Y_X5_readOrder 132 (.inl (i_push (vI 6) 134)) := ok_bipush dX5_readOrder_132 rfl
theorem kX5_readOrder_134 (z : XKT) : XOi z xInf Y_X5_readOrder 134 (.inl (i_icmp (fun x y => ¬ x = y) 148 137)) := ok_icmp_ne dX5_readOrder_134 rfl
theorem kX5_readOrder_137 (z : XKT) : XOi z xInf Y_X5_readOrder 137 (.inl (i_aload 0 138)) := ok_aload_n dX5_readOrder_137 rfl
theorem kX5_readOrder_138 (z : XKT) : XOi z xInf Y_X5_readOrder 138 (.inl (i_push (vI 1) 139)) := ok_iconst dX5_readOrder_138 rfl
theorem kX5_readOrder_139 (z : XKT) : XOi z xInf Y_X5_readOrder 139 (.inl (i_push (vI 999) 142)) := ok_sipush dX5_readOrder_139 rfl
theorem kX5_readOrder_142 (z : XKT) : XOi z xInf Y_X5_readOrder 142 (.inr (.inl (145, g_virt [(4, 271)] 2))) := show XOkC z xInf Y_X5_readOrder 142 145 (g_virt [(4, 271)] 2) from okc_V (q := Y_X5_readOrder) (List.forall_mem_cons.mpr ⟨(show XOkV z xInf Y_X5_readOrder 142 145 2 (4, 271) from okv_V (q := Y_X5_readOrder) (q1 := Y_X5_readNumber) Z_X5_readNumber rfl (by decide) ⟨by decide, by decide, Or.inl ⟨_, _, (List.mem_of_getElem? (l := xCls) (i := 3) rfl)⟩⟩ dX5_readOrder_142 q3090 q3092 qs113 q153 q3093 hy_329), (fun _ h => absurd h List.not_mem_nil)⟩)
theorem kX5_readOrder_145 (z : XKT) : XOi z xInf Y_X5_readOrder 145 (.inl (i_goto 149)) := ok_goto dX5_readOrder_145 rfl
theorem kX5_readOrder_148 (z : XKT) : XOi z xInf Y_X5_readOrder 148 (.inl (i_push (vI 0) 149)) := ok_iconst dX5_readOrder_148 rfl
theorem kX5_readOrder_149 (z : XKT) : XOi z xInf Y_X5_readOrder 149 (.inl (i_ast z.1 1000 (fun x => x) 150)) := ok_iast dX5_readOrder_149
theorem kX5_readOrder_150 (z : XKT) : XOi z xInf Y_X5_readOrder 150 (.inl (i_aload 0 151)) := ok_aload_n dX5_readOrder_150 rfl
theorem kX5_readOrder_151 (z : XKT) : XOi z xInf Y_X5_readOrder 151 (.inl (i_push (vI 59) 153)) := ok_bipush dX5_readOrder_151 rfl
theorem kX5_readOrder_153 (z : XKT) : XOi z xInf Y_X5_readOrder 153 (.inr (.inl (156, g_virt [(4, 213)] 1))) := show XOkC z xInf Y_X5_readOrder 153 156 (g_virt [(4, 213)] 1) from okc_V (q := Y_X5_readOrder) (List.forall_mem_cons.mpr ⟨(show XOkV z xInf Y_X5_readOrder 153 156 1 (4, 213) from okv_V (q := Y_X5_readOrder) (q1 := Y_X5_expect) Z_X5_expect rfl (by decide) ⟨by decide, by decide, Or.inl ⟨_, _, (List.mem_of_getElem? (l := xCls) (i := 3) rfl)⟩⟩ dX5_readOrder_153 q3094 q3096 qs114 q153 q3097 hy_332), (fun _ h => absurd h List.not_mem_nil)⟩)
theorem kX5_readOrder_156 (z : XKT) : XOi z xInf Y_X5_readOrder 156 (.inl (i_aload 0 157)) := ok_aload_n dX5_readOrder_156 rfl
theorem kX5_readOrder_157 (z : XKT) : XOi z xInf Y_X5_readOrder 157 (.inl (i_dup 158)) := ok_dup dX5_readOrder_157
theorem kX5_readOrder_158 (z : XKT) : XOi z xInf Y_X5_readOrder 158 (.inl (i_geti [4] 58 161)) := ok_geti dX5_readOrder_158 q2535 (List.forall_mem_cons.mpr ⟨⟨_, _, _, _, fd_58_4_0⟩, (fun _ h => absurd h List.not_mem_nil)⟩)
theorem kX5_readOrder_161 (z : XKT) : XOi z xInf Y_X5_readOrder 161 (.inl (i_push (vI 1) 162)) := ok_iconst dX5_readOrder_161 rfl
theorem kX5_readOrder_162 (z : XKT) : XOi z xInf Y_X5_readOrder 162 (.inl (i_bin (fun x y => x + y) 163)) := ok_iadd dX5_readOrder_162
theorem kX5_readOrder_163 (z : XKT) : XOi z xInf Y_X5_readOrder 163 (.inl (i_puti z.1 [4] .int 58 166)) := ok_puti dX5_readOrder_163 q2535 rfl (List.forall_mem_cons.mpr ⟨⟨_, _, _, _, tyX5, fd_58_4_0, ⟨tyX5_ok, nmX5, (Or.inl rfl)⟩, rfl⟩, (fun _ h => absurd h List.not_mem_nil)⟩)
theorem kX5_readOrder_166 (z : XKT) : XOi z xInf Y_X5_readOrder 166 (.inr (.inr (.inl r_v))) := show XOkR Y_X5_readOrder 166 (r_v) from okr_v (q := Y_X5_readOrder) rfl dX5_readOrder_166
theorem o_X5_readOrder (z : XKT) : XMi z xInf Y_X5_readOrder := XMi.mk9 (T := T_X5_readOrder z) rfl (⟨kX5_readOrder_0 z, ⟨kX5_readOrder_1 z, ⟨kX5_readOrder_4 z, ⟨kX5_readOrder_5 z, ⟨kX5_readOrder_6 z, ⟨kX5_readOrder_7 z, ⟨kX5_readOrder_8 z, ⟨kX5_readOrder_11 z, ⟨kX5_readOrder_12 z, ⟨kX5_readOrder_15 z, ⟨kX5_readOrder_16 z, ⟨kX5_readOrder_17 z, ⟨kX5_readOrder_20 z, ⟨kX5_readOrder_21 z, ⟨kX5_readOrder_22 z, ⟨kX5_readOrder_25 z, ⟨kX5_readOrder_28 z, ⟨kX5_readOrder_29 z, ⟨kX5_readOrder_32 z, ⟨kX5_readOrder_34 z, ⟨kX5_readOrder_37 z, ⟨kX5_readOrder_38 z, ⟨kX5_readOrder_41 z, ⟨kX5_readOrder_42 z, ⟨kX5_readOrder_43 z, ⟨kX5_readOrder_46 z, ⟨kX5_readOrder_47 z, ⟨kX5_readOrder_50 z, ⟨kX5_readOrder_51 z, ⟨kX5_readOrder_54 z, ⟨kX5_readOrder_57 z, ⟨kX5_readOrder_58 z, ⟨kX5_readOrder_59 z, ⟨kX5_readOrder_60 z, ⟨kX5_readOrder_63 z, ⟨kX5_readOrder_64 z, ⟨kX5_readOrder_65 z, ⟨kX5_readOrder_66 z, ⟨kX5_readOrder_69 z, ⟨kX5_readOrder_70 z, ⟨kX5_readOrder_71 z, ⟨kX5_readOrder_72 z, ⟨kX5_readOrder_73 z, ⟨kX5_readOrder_76 z, ⟨kX5_readOrder_77 z, ⟨kX5_readOrder_78 z, ⟨kX5_readOrder_79 z, ⟨kX5_readOrder_80 z, ⟨kX5_readOrder_81 z, ⟨kX5_readOrder_84 z, ⟨kX5_readOrder_85 z, ⟨kX5_readOrder_86 z, ⟨kX5_readOrder_89 z, ⟨kX5_readOrder_90 z, ⟨kX5_readOrder_91 z, ⟨kX5_readOrder_92 z, ⟨kX5_readOrder_93 z, ⟨kX5_readOrder_96 z, ⟨kX5_readOrder_97 z, ⟨kX5_readOrder_98 z, ⟨kX5_readOrder_100 z, ⟨kX5_readOrder_103 z, ⟨kX5_readOrder_106 z, ⟨kX5_readOrder_107 z, ⟨kX5_readOrder_109 z, ⟨kX5_readOrder_112 z, ⟨kX5_readOrder_113 z, ⟨kX5_readOrder_114 z, ⟨kX5_readOrder_116 z, ⟨kX5_readOrder_119 z, ⟨kX5_readOrder_122 z, ⟨kX5_readOrder_123 z, ⟨kX5_readOrder_124 z, ⟨kX5_readOrder_125 z, ⟨kX5_readOrder_128 z, ⟨kX5_readOrder_129 z, ⟨kX5_readOrder_130 z, ⟨kX5_readOrder_131 z, ⟨kX5_readOrder_132 z, ⟨kX5_readOrder_134 z, ⟨kX5_readOrder_137 z, ⟨kX5_readOrder_138 z, ⟨kX5_readOrder_139 z, ⟨kX5_readOrder_142 z, ⟨kX5_readOrder_145 z, ⟨kX5_readOrder_148 z, ⟨kX5_readOrder_149 z, ⟨kX5_readOrder_150 z, ⟨kX5_readOrder_151 z, ⟨kX5_readOrder_153 z, ⟨kX5_readOrder_156 z, ⟨kX5_readOrder_157 z, ⟨kX5_readOrder_158 z, ⟨kX5_readOrder_161 z, ⟨kX5_readOrder_162 z, ⟨kX5_readOrder_163 z, ⟨kX5_readOrder_166 z, trivial⟩⟩⟩⟩⟩⟩⟩⟩⟩⟩⟩⟩⟩⟩⟩⟩⟩⟩⟩⟩⟩⟩⟩⟩⟩⟩⟩⟩⟩⟩⟩⟩⟩⟩⟩⟩⟩⟩⟩⟩⟩⟩⟩⟩⟩⟩⟩⟩⟩⟩⟩⟩⟩⟩⟩⟩⟩⟩⟩⟩⟩⟩⟩⟩⟩⟩⟩⟩⟩⟩⟩⟩⟩⟩⟩⟩⟩⟩⟩⟩⟩⟩⟩⟩⟩⟩⟩⟩⟩⟩⟩⟩⟩⟩⟩⟩⟩) (hd_X5_readOrder z) rfl rfl (by decide +kernel)
theorem hd_X5_readText (z : XKT) : XHd z Y_X5_readText := xHd_none rfl (xhd0 rfl)
theorem kX5_readText_0 (z : XKT) : XOi z xInf Y_X5_readText 0 (.inl (i_aload 0 1)) := ok_aload_n dX5_readText_0 rfl
theorem kX5_readText_1 (z : XKT) : XOi z xInf Y_X5_readText 1 (.inl (i_aload 0 2)) := ok_aload_n dX5_readText_1 rfl
theorem kX5_readText_2 (z : XKT) : XOi z xInf Y_X5_readText 2 (.inl (i_push (vR (some (z.2.1 36))) 5)) := ok_ldcsw dX5_readText_2 (List.mem_of_getElem? (l := xStr) (i := 29) rfl)
theorem kX5_readText_5 (z : XKT) : XOi z xInf Y_X5_readText 5 (.inr (.inl (8, g_virt [(4, 237)] 1))) := show XOkC z xInf Y_X5_readText 5 8 (g_virt [(4, 237)] 1) from okc_V (q := Y_X5_readText) (List.forall_mem_cons.mpr ⟨(show XOkV z xInf Y_X5_readText 5 8 1 (4, 237) from okv_V (q := Y_X5_readText) (q1 := Y_X5_isWord) Z_X5_isWord rfl (by decide) ⟨by decide, by decide, Or.inl ⟨_, _, (List.mem_of_getElem? (l := xCls) (i := 3) rfl)⟩⟩ dX5_readText_5 q3067 q3069 qs108 q153 q3070 hy_259), (fun _ h => absurd h List.not_mem_nil)⟩)
theorem kX5_readText_8 (z : XKT) : XOi z xInf Y_X5_readText 8 (.inl (i_push (vI 1) 9)) := ok_iconst dX5_readText_8 rfl
theorem kX5_readText_9 (z : XKT) : XOi z xInf Y_X5_readText 9 (.inr (.inl (12, g_virt [(4, 178)] 2))) := show XOkC z xInf Y_X5_readText 9 12 (g_virt [(4, 178)] 2) from okc_V (q := Y_X5_readText) (List.forall_mem_cons.mpr ⟨(show XOkV z xInf Y_X5_readText 9 12 2 (4, 178) from okv_V (q := Y_X5_readText) (q1 := Y_X5_check) Z_X5_check rfl (by decide) ⟨by decide, by decide, Or.inl ⟨_, _, (List.mem_of_getElem? (l := xCls) (i := 3) rfl)⟩⟩ dX5_readText_9 q3073 q3075 qs109 q153 q3076 hy_307), (fun _ h => absurd h List.not_mem_nil)⟩)
theorem kX5_readText_12 (z : XKT) : XOi z xInf Y_X5_readText 12 (.inl (i_aload 0 13)) := ok_aload_n dX5_readText_12 rfl
theorem kX5_readText_13 (z : XKT) : XOi z xInf Y_X5_readText 13 (.inr (.inl (16, g_virt [(4, 171)] 0))) := show XOkC z xInf Y_X5_readText 13 16 (g_virt [(4, 171)] 0) from okc_V (q := Y_X5_readText) (List.forall_mem_cons.mpr ⟨(show XOkV z xInf Y_X5_readText 13 16 0 (4, 171) from okv_V (q := Y_X5_readText) (q1 := Y_X5_advance) Z_X5_advance rfl (by decide) ⟨by decide, by decide, Or.inl ⟨_, _, (List.mem_of_getElem? (l := xCls) (i := 3) rfl)⟩⟩ dX5_readText_13 q3077 q3079 qs110 q153 q3080 hy_308), (fun _ h => absurd h List.not_mem_nil)⟩)
theorem kX5_readText_16 (z : XKT) : XOi z xInf Y_X5_readText 16 (.inl (i_aload 0 17)) := ok_aload_n dX5_readText_16 rfl
theorem kX5_readText_17 (z : XKT) : XOi z xInf Y_X5_readText 17 (.inl (i_push (vI 4) 18)) := ok_iconst dX5_readText_17 rfl
theorem kX5_readText_18 (z : XKT) : XOi z xInf Y_X5_readText 18 (.inl (i_push (vI 24) 20)) := ok_bipush dX5_readText_18 rfl
theorem kX5_readText_20 (z : XKT) : XOi z xInf Y_X5_readText 20 (.inr (.inl (23, g_virt [(4, 247)] 2))) := show XOkC z xInf Y_X5_readText 20 23 (g_virt [(4, 247)] 2) from okc_V (q := Y_X5_readText) (List.forall_mem_cons.mpr ⟨(show XOkV z xInf Y_X5_readText 20 23 2 (4, 247) from okv_V (q := Y_X5_readText) (q1 := Y_X5_look) Z_X5_look rfl (by decide) ⟨by decide, by decide, Or.inl ⟨_, _, (List.mem_of_getElem? (l := xCls) (i := 3) rfl)⟩⟩ dX5_readText_20 q3081 q3083 qs111 q153 q3084 hy_333), (fun _ h => absurd h List.not_mem_nil)⟩)
theorem kX5_readText_23 (z : XKT) : XOi z xInf Y_X5_readText 23 (.inl (i_istore 1 24)) := ok_istore_n dX5_readText_23 rfl
theorem kX5_readText_24 (z : XKT) : XOi z xInf Y_X5_readText 24 (.inl (i_aload 0 25)) := ok_aload_n dX5_readText_24 rfl
theorem kX5_readText_25 (z : XKT) : XOi z xInf Y_X5_readText 25 (.inl (i_aload 0 26)) := ok_aload_n dX5_readText_25 rfl
theorem kX5_readText_26 (z : XKT) : XOi z xInf Y_X5_readText 26 (.inl (i_geti [4] 52 29)) := ok_geti dX5_readText_26 q2529 (List.forall_mem_cons.mpr ⟨⟨_, _, _, _, fd_52_4_0⟩, (fun _ h => absurd h List.not_mem_nil)⟩)
theorem kX5_readText_29 (z : XKT) : XOi z xInf Y_X5_readText 29 (.inl (i_if (fun x => ¬ x = 0) 38 32)) := ok_if_ne dX5_readText_29 rfl
theorem kX5_readText_32 (z : XKT) : XOi z xInf Y_X5_readText 32 (.inl (i_iload 1 33)) := ok_iload_n dX5_readText_32 rfl
theorem kX5_readText_33 (z : XKT) : XOi z xInf Y_X5_readText 33 (.inl (i_push (vI 2) 34)) := ok_iconst dX5_readText_33 rfl
theorem kX5_readText_34 (z : XKT) : XOi z xInf Y_X5_readText 34 (.inl (i_quo (fun x y => x - x / y * y) 35)) := ok_irem dX5_readText_34
theorem kX5_readText_35 (z : XKT) : XOi z xInf Y_X5_readText 35 (.inl (i_if (fun x => ¬ x = 0) 42 38)) := ok_if_ne dX5_readText_35 rfl
theorem kX5_readText_38 (z : XKT) : XOi z xInf Y_X5_readText 38 (.inl (i_push (vI 1) 39)) := ok_iconst dX5_readText_38 rfl
theorem kX5_readText_39 (z : XKT) : XOi z xInf Y_X5_readText 39 (.inl (i_goto 43)) := ok_goto dX5_readText_39 rfl
theorem kX5_readText_42 (z : XKT) : XOi z xInf Y_X5_readText 42 (.inl (i_push (vI 0) 43)) := ok_iconst dX5_readText_42 rfl
theorem kX5_readText_43 (z : XKT) : XOi z xInf Y_X5_readText 43 (.inl (i_push (vI 3) 44)) := ok_iconst dX5_readText_43 rfl
theorem kX5_readText_44 (z : XKT) : XOi z xInf Y_X5_readText 44 (.inr (.inl (47, g_virt [(4, 178)] 2))) := show XOkC z xInf Y_X5_readText 44 47 (g_virt [(4, 178)] 2) from okc_V (q := Y_X5_readText) (List.forall_mem_cons.mpr ⟨(show XOkV z xInf Y_X5_readText 44 47 2 (4, 178) from okv_V (q := Y_X5_readText) (q1 := Y_X5_check) Z_X5_check rfl (by decide) ⟨by decide, by decide, Or.inl ⟨_, _, (List.mem_of_getElem? (l := xCls) (i := 3) rfl)⟩⟩ dX5_readText_44 q3073 q3075 qs109 q153 q3076 hy_307), (fun _ h => absurd h List.not_mem_nil)⟩)
theorem kX5_readText_47 (z : XKT) : XOi z xInf Y_X5_readText 47 (.inl (i_aload 0 48)) := ok_aload_n dX5_readText_47 rfl
theorem kX5_readText_48 (z : XKT) : XOi z xInf Y_X5_readText 48 (.inr (.inl (51, g_virt [(4, 171)] 0))) := show XOkC z xInf Y_X5_readText 48 51 (g_virt [(4, 171)] 0) from okc_V (q := Y_X5_readText) (List.forall_mem_cons.mpr ⟨(show XOkV z xInf Y_X5_readText 48 51 0 (4, 171) from okv_V (q := Y_X5_readText) (q1 := Y_X5_advance) Z_X5_advance rfl (by decide) ⟨by decide, by decide, Or.inl ⟨_, _, (List.mem_of_getElem? (l := xCls) (i := 3) rfl)⟩⟩ dX5_readText_48 q3077 q3079 qs110 q153 q3080 hy_308), (fun _ h => absurd h List.not_mem_nil)⟩)
theorem kX5_readText_51 (z : XKT) : XOi z xInf Y_X5_readText 51 (.inl (i_aload 0 52)) := ok_aload_n dX5_readText_51 rfl
theorem kX5_readText_52 (z : XKT) : XOi z xInf Y_X5_readText 52 (.inl (i_push (vI 1) 53)) := ok_iconst dX5_readText_52 rfl
theorem kX5_readText_53 (z : XKT) : XOi z xInf Y_X5_readText 53 (.inl (i_push (vI 99) 55)) := ok_bipush dX5_readText_53 rfl
theorem kX5_readText_55 (z : XKT) : XOi z xInf Y_X5_readText 55 (.inr (.inl (58, g_virt [(4, 271)] 2))) := show XOkC z xInf Y_X5_readText 55 58 (g_virt [(4, 271)] 2) from okc_V (q := Y_X5_readText) (List.forall_mem_cons.mpr ⟨(show XOkV z xInf Y_X5_readText 55 58 2 (4, 271) from okv_V (q := Y_X5_readText) (q1 := Y_X5_readNumber) Z_X5_readNumber rfl (by decide) ⟨by decide, by decide, Or.inl ⟨_, _, (List.mem_of_getElem? (l := xCls) (i := 3) rfl)⟩⟩ dX5_readText_55 q3090 q3092 qs113 q153 q3093 hy_329), (fun _ h => absurd h List.not_mem_nil)⟩)
theorem kX5_readText_58 (z : XKT) : XOi z xInf Y_X5_readText 58 (.inl (i_istore 2 59)) := ok_istore_n dX5_readText_58 rfl
theorem kX5_readText_59 (z : XKT) : XOi z xInf Y_X5_readText 59 (.inl (i_aload 0 60)) := ok_aload_n dX5_readText_59 rfl
theorem kX5_readText_60 (z : XKT) : XOi z xInf Y_X5_readText 60 (.inl (i_push (vI 0) 61)) := ok_iconst dX5_readText_60 rfl
theorem kX5_readText_61 (z : XKT) : XOi z xInf Y_X5_readText 61 (.inl (i_push (vI 50) 63)) := ok_bipush dX5_readText_61 rfl
theorem kX5_readText_63 (z : XKT) : XOi z xInf Y_X5_readText 63 (.inr (.inl (66, g_virt [(4, 271)] 2))) := show XOkC z xInf Y_X5_readText 63 66 (g_virt [(4, 271)] 2) from okc_V (q := Y_X5_readText) (List.forall_mem_cons.mpr ⟨(show XOkV z xInf Y_X5_readText 63 66 2 (4, 271) from okv_V (q := Y_X5_readText) (q1 := Y_X5_readNumber) Z_X5_readNumber rfl (by decide) ⟨by decide, by decide, Or.inl ⟨_, _, (List.mem_of_getElem? (l := xCls) (i := 3) rfl)⟩⟩ dX5_readText_63 q3090 q3092 qs113 q153 q3093 hy_329), (fun _ h => absurd h List.not_mem_nil)⟩)
theorem kX5_readText_66 (z : XKT) : XOi z xInf Y_X5_readText 66 (.inl (i_istore 3 67)) := ok_istore_n dX5_readText_66 rfl
theorem kX5_readText_67 (z : XKT) : XOi z xInf Y_X5_readText 67 (.inl (i_aload 0 68)) := ok_aload_n dX5_readText_67 rfl
theorem kX5_readText_68 (z : XKT) : XOi z xInf Y_X5_readText 68 (.inl (i_push (vI 1) 69)) := ok_iconst dX5_readText_68 rfl
theorem kX5_readText_69 (z : XKT) : XOi z xInf Y_X5_readText 69 (.inl (i_push (vI 8) 71)) := ok_bipush dX5_readText_69 rfl
theorem kX5_readText_71 (z : XKT) : XOi z xInf Y_X5_readText 71 (.inr (.inl (74, g_virt [(4, 271)] 2))) := show XOkC z xInf Y_X5_readText 71 74 (g_virt [(4, 271)] 2) from okc_V (q := Y_X5_readText) (List.forall_mem_cons.mpr ⟨(show XOkV z xInf Y_X5_readText 71 74 2 (4, 271) from okv_V (q := Y_X5_readText) (q1 := Y_X5_readNumber) Z_X5_readNumber rfl (by decide) ⟨by decide, by decide, Or.inl ⟨_, _, (List.mem_of_getElem? (l := xCls) (i := 3) rfl)⟩⟩ dX5_readText_71 q3090 q3092 qs113 q153 q3093 hy_329), (fun _ h => absurd h List.not_mem_nil)⟩)
theorem kX5_readText_74 (z : XKT) : XOi z xInf Y_X5_readText 74 (.inl (i_istore 4 76)) := ok_istore dX5_readText_74
theorem kX5_readText_76 (z : XKT) : XOi z xInf Y_X5_readText 76 (.inl (i_aload 0 77)) := ok_aload_n dX5_readText_76 rfl
theorem kX5_readText_77 (z : XKT) : XOi z xInf Y_X5_readText 77 (.inl (i_push (vI 59) 79)) := ok_bipush dX5_readText_77 rfl
theorem kX5_readText_79 (z : XKT) : XOi z xInf Y_X5_readText 79 (.inr (.inl (82, g_virt [(4, 213)] 1))) := show XOkC z xInf Y_X5_readText 79 82 (g_virt [(4, 213)] 1) from okc_V (q := Y_X5_readText) (List.forall_mem_cons.mpr ⟨(show XOkV z xInf Y_X5_readText 79 82 1 (4, 213) from okv_V (q := Y_X5_readText) (q1 := Y_X5_expect) Z_X5_expect rfl (by decide) ⟨by decide, by decide, Or.inl ⟨_, _, (List.mem_of_getElem? (l := xCls) (i := 3) rfl)⟩⟩ dX5_readText_79 q3094 q3096 qs114 q153 q3097 hy_332), (fun _ h => absurd h List.not_mem_nil)⟩)
theorem kX5_readText_82 (z : XKT) : XOi z xInf Y_X5_readText 82 (.inl (i_aload 0 83)) := ok_aload_n dX5_readText_82 rfl
theorem kX5_readText_83 (z : XKT) : XOi z xInf Y_X5_readText 83 (.inl (i_iload 1 84)) := ok_iload_n dX5_readText_83 rfl
theorem kX5_readText_84 (z : XKT) : XOi z xInf Y_X5_readText 84 (.inl (i_iload 2 85)) := ok_iload_n dX5_readText_84 rfl
theorem kX5_readText_85 (z : XKT) : XOi z xInf Y_X5_readText 85 (.inl (i_iload 3 86)) := ok_iload_n dX5_readText_85 rfl
theorem kX5_readText_86 (z : XKT) : XOi z xInf Y_X5_readText 86 (.inl (i_iload 4 88)) := ok_iload dX5_readText_86
theorem kX5_readText_88 (z : XKT) : XOi z xInf Y_X5_readText 88 (.inr (.inl (91, g_virt [(4, 173)] 4))) := show XOkC z xInf Y_X5_readText 88 91 (g_virt [(4, 173)] 4) from okc_V (q := Y_X5_readText) (List.forall_mem_cons.mpr ⟨(show XOkV z xInf Y_X5_readText 88 91 4 (4, 173) from okv_V (q := Y_X5_readText) (q1 := Y_X5_begin) Z_X5_begin rfl (by decide) ⟨by decide, by decide, Or.inl ⟨_, _, (List.mem_of_getElem? (l := xCls) (i := 3) rfl)⟩⟩ dX5_readText_88 q2491 q2493 qs42 q153 q2494 hy_314), (fun _ h => absurd h List.not_mem_nil)⟩)
theorem kX5_readText_91 (z : XKT) : XOi z xInf Y_X5_readText 91 (.inl (i_aload 0 92)) := ok_aload_n dX5_readText_91 rfl
theorem kX5_readText_92 (z : XKT) : XOi z xInf Y_X5_readText 92 (.inl (i_geti [4] 52 95)) := ok_geti dX5_readText_92 q2529 (List.forall_mem_cons.mpr ⟨⟨_, _, _, _, fd_52_4_0⟩, (fun _ h => absurd h List.not_mem_nil)⟩)
theorem kX5_readText_95 (z : XKT) : XOi z xInf Y_X5_readText 95 (.inl (i_if (fun x => ¬ x = 0) 112 98)) := ok_if_ne dX5_readText_95 rfl
theorem kX5_readText_98 (z : XKT) : XOi z xInf Y_X5_readText 98 (.inl (i_aload 0 99)) := ok_aload_n dX5_readText_98 rfl
theorem kX5_readText_99 (z : XKT) : XOi z xInf Y_X5_readText 99 (.inl (i_geti [4] 51 102)) := ok_geti dX5_readText_99 q2528 (List.forall_mem_cons.mpr ⟨⟨_, _, _, _, fd_51_4_0⟩, (fun _ h => absurd h List.not_mem_nil)⟩)
theorem kX5_readText_102 (z : XKT) : XOi z xInf Y_X5_readText 102 (.inl (i_if (fun x => x = 0) 112 105)) := ok_if_eq dX5_readText_102 rfl
theorem kX5_readText_105 (z : XKT) : XOi z xInf Y_X5_readText 105 (.inl (i_aload 0 106)) := ok_aload_n dX5_readText_105 rfl
theorem kX5_readText_106 (z : XKT) : XOi z xInf Y_X5_readText 106 (.inr (.inl (109, g_virt [(4, 270)] 0))) := show XOkC z xInf Y_X5_readText 106 109 (g_virt [(4, 270)] 0) from okc_V (q := Y_X5_readText) (List.forall_mem_cons.mpr ⟨(show XOkV z xInf Y_X5_readText 106 109 0 (4, 270) from okv_V (q := Y_X5_readText) (q1 := Y_X5_readGood) Z_X5_readGood rfl (by decide) ⟨by decide, by decide, Or.inl ⟨_, _, (List.mem_of_getElem? (l := xCls) (i := 3) rfl)⟩⟩ dX5_readText_106 q3102 q3104 qs116 q153 q3105 hy_336), (fun _ h => absurd h List.not_mem_nil)⟩)
theorem kX5_readText_109 (z : XKT) : XOi z xInf Y_X5_readText 109 (.inl (i_goto 91)) := ok_goto dX5_readText_109 rfl
theorem kX5_readText_112 (z : XKT) : XOi z xInf Y_X5_readText 112 (.inr (.inr (.inl r_v))) := show XOkR Y_X5_readText 112 (r_v) from okr_v (q := Y_X5_readText) rfl dX5_readText_112
theorem o_X5_readText (z : XKT) : XMi z xInf Y_X5_readText := XMi.mk9 (T := T_X5_readText z) rfl (⟨kX5_readText_0 z, ⟨kX5_readText_1 z, ⟨kX5_readText_2 z, ⟨kX5_readText_5 z, ⟨kX5_readText_8 z, ⟨kX5_readText_9 z, ⟨kX5_readText_12 z, ⟨kX5_readText_13 z, ⟨kX5_readText_16 z, ⟨kX5_readText_17 z, ⟨kX5_readText_18 z, ⟨kX5_readText_20 z, ⟨kX5_readText_23 z, ⟨kX5_readText_24 z, ⟨kX5_readText_25 z, ⟨kX5_readText_26 z, ⟨kX5_readText_29 z, ⟨kX5_readText_32 z, ⟨kX5_readText_33 z, ⟨kX5_readText_34 z, ⟨kX5_readText_35 z, ⟨kX5_readText_38 z, ⟨kX5_readText_39 z, ⟨kX5_readText_42 z, ⟨kX5_readText_43 z, ⟨kX5_readText_44 z, ⟨kX5_readText_47 z, ⟨kX5_readText_48 z, ⟨kX5_readText_51 z, ⟨kX5_readText_52 z, ⟨kX5_readText_53 z, ⟨kX5_readText_55 z, ⟨kX5_readText_58 z, ⟨kX5_readText_59 z, ⟨kX5_readText_60 z, ⟨kX5_readText_61 z, ⟨kX5_readText_63 z, ⟨kX5_readText_66 z, ⟨kX5_readText_67 z, ⟨kX5_readText_68 z, ⟨kX5_readText_69 z, ⟨kX5_readText_71 z, ⟨kX5_readText_74 z, ⟨kX5_readText_76 z, ⟨kX5_readText_77 z, ⟨kX5_readText_79 z, ⟨kX5_readText_82 z, ⟨kX5_readText_83 z, ⟨kX5_readText_84 z, ⟨kX5_readText_85 z, ⟨kX5_readText_86 z, ⟨kX5_readText_88 z, ⟨kX5_readText_91 z, ⟨kX5_readText_92 z, ⟨kX5_readText_95 z, ⟨kX5_readText_98 z, ⟨kX5_readText_99 z, ⟨kX5_readText_102 z, ⟨kX5_readText_105 z, ⟨kX5_readText_106 z, ⟨kX5_readText_109 z, ⟨kX5_readText_112 z, trivial⟩⟩⟩⟩⟩⟩⟩⟩⟩⟩⟩⟩⟩⟩⟩⟩⟩⟩⟩⟩⟩⟩⟩⟩⟩⟩⟩⟩⟩⟩⟩⟩⟩⟩⟩⟩⟩⟩⟩⟩⟩⟩⟩⟩⟩⟩⟩⟩⟩⟩⟩⟩⟩⟩⟩⟩⟩⟩⟩⟩⟩⟩) (hd_X5_readText z) rfl rfl (by decide +kernel)
theorem hd_X5_record (z : XKT) : XHd z Y_X5_record := xHd_none rfl (xhd0 rfl)
theorem kX5_record_0 (z : XKT) : XOi z xInf Y_X5_record 0 (.inl (i_aload 0 1)) := ok_aload_n dX5_record_0 rfl
theorem kX5_record_1 (z : XKT) : XOi z xInf Y_X5_record 1 (.inl (i_geti [4] 41 4)) := ok_geti dX5_record_1 q2518 (List.forall_mem_cons.mpr ⟨⟨_, _, _, _, fd_41_4_0⟩, (fun _ h => absurd h List.not_mem_nil)⟩)
theorem kX5_record_4 (z : XKT) : XOi z xInf Y_X5_record 4 (.inl (i_push (vI 8) 6)) := ok_bipush dX5_record_4 rfl
theorem kX5_record_6 (z : XKT) : XOi z xInf Y_X5_record 6 (.inl (i_icmp (fun x y => ¬ x = y) 48 9)) := ok_icmp_ne dX5_record_6 rfl
theorem kX5_record_9 (z : XKT) : XOi z xInf Y_X5_record 9 (.inl (i_push (vI 1) 10)) := ok_iconst dX5_record_9 rfl
theorem kX5_record_10 (z : XKT) : XOi z xInf Y_X5_record 10 (.inl (i_istore 1 11)) := ok_istore_n dX5_record_10 rfl
theorem kX5_record_11 (z : XKT) : XOi z xInf Y_X5_record 11 (.inl (i_iload 1 12)) := ok_iload_n dX5_record_11 rfl
theorem kX5_record_12 (z : XKT) : XOi z xInf Y_X5_record 12 (.inl (i_push (vI 8) 14)) := ok_bipush dX5_record_12 rfl
theorem kX5_record_14 (z : XKT) : XOi z xInf Y_X5_record 14 (.inl (i_icmp (fun x y => y ≤ x) 38 17)) := ok_icmp_ge dX5_record_14 rfl
theorem kX5_record_17 (z : XKT) : XOi z xInf Y_X5_record 17 (.inl (i_aload 0 18)) := ok_aload_n dX5_record_17 rfl
theorem kX5_record_18 (z : XKT) : XOi z xInf Y_X5_record 18 (.inl (i_getr [4] 34 21)) := ok_getr dX5_record_18 q2511 (List.forall_mem_cons.mpr ⟨⟨_, _, _, _, fd_34_4_0⟩, (fun _ h => absurd h List.not_mem_nil)⟩)
theorem kX5_record_21 (z : XKT) : XOi z xInf Y_X5_record 21 (.inl (i_iload 1 22)) := ok_iload_n dX5_record_21 rfl
theorem kX5_record_22 (z : XKT) : XOi z xInf Y_X5_record 22 (.inl (i_aload 0 23)) := ok_aload_n dX5_record_22 rfl
theorem kX5_record_23 (z : XKT) : XOi z xInf Y_X5_record 23 (.inl (i_getr [4] 34 26)) := ok_getr dX5_record_23 q2511 (List.forall_mem_cons.mpr ⟨⟨_, _, _, _, fd_34_4_0⟩, (fun _ h => absurd h List.not_mem_nil)⟩)
theorem kX5_record_26 (z : XKT) : XOi z xInf Y_X5_record 26 (.inl (i_iload 1 27)) := ok_iload_n dX5_record_26 rfl
theorem kX5_record_27 (z : XKT) : XOi z xInf Y_X5_record 27 (.inl (i_push (vI 1) 28)) := ok_iconst dX5_record_27 rfl
theorem kX5_record_28 (z : XKT) : XOi z xInf Y_X5_record 28 (.inl (i_bin (fun x y => x - y) 29)) := ok_isub dX5_record_28
theorem kX5_record_29 (z : XKT) : XOi z xInf Y_X5_record 29 (.inr (.inl (32, g_stat 183 4))) := show XOkC z xInf Y_X5_record 29 32 (g_stat 183 4) from okc_S (q := Y_X5_record) (q1 := Y_X5_copy) Z_X5_copy rfl (by decide) dX5_record_29 q2882 q2883 q153 q2884 hy_318
theorem kX5_record_32 (z : XKT) : XOi z xInf Y_X5_record 32 (.inl (i_iinc 1 1 35)) := ok_iinc dX5_record_32 rfl
theorem kX5_record_35 (z : XKT) : XOi z xInf Y_X5_record 35 (.inl (i_goto 11)) := ok_goto dX5_record_35 rfl
theorem kX5_record_38 (z : XKT) : XOi z xInf Y_X5_record 38 (.inl (i_aload 0 39)) := ok_aload_n dX5_record_38 rfl
theorem kX5_record_39 (z : XKT) : XOi z xInf Y_X5_record 39 (.inl (i_dup 40)) := ok_dup dX5_record_39
theorem kX5_record_40 (z : XKT) : XOi z xInf Y_X5_record 40 (.inl (i_geti [4] 41 43)) := ok_geti dX5_record_40 q2518 (List.forall_mem_cons.mpr ⟨⟨_, _, _, _, fd_41_4_0⟩, (fun _ h => absurd h List.not_mem_nil)⟩)
theorem kX5_record_43 (z : XKT) : XOi z xInf Y_X5_record 43 (.inl (i_push (vI 1) 44)) := ok_iconst dX5_record_43 rfl
theorem kX5_record_44 (z : XKT) : XOi z xInf Y_X5_record 44 (.inl (i_bin (fun x y => x - y) 45)) := ok_isub dX5_record_44
theorem kX5_record_45 (z : XKT) : XOi z xInf Y_X5_record 45 (.inl (i_puti z.1 [4] .int 41 48)) := ok_puti dX5_record_45 q2518 rfl (List.forall_mem_cons.mpr ⟨⟨_, _, _, _, tyX5, fd_41_4_0, ⟨tyX5_ok, nmX5, (Or.inl rfl)⟩, rfl⟩, (fun _ h => absurd h List.not_mem_nil)⟩)
theorem kX5_record_48 (z : XKT) : XOi z xInf Y_X5_record 48 (.inl (i_aload 0 49)) := ok_aload_n dX5_record_48 rfl
theorem kX5_record_49 (z : XKT) : XOi z xInf Y_X5_record 49 (.inl (i_getr [4] 32 52)) := ok_getr dX5_record_49 q2509 (List.forall_mem_cons.mpr ⟨⟨_, _, _, _, fd_32_4_0⟩, (fun _ h => absurd h List.not_mem_nil)⟩)
theorem kX5_record_52 (z : XKT) : XOi z xInf Y_X5_record 52 (.inl (i_push (vI 0) 53)) := ok_iconst dX5_record_52 rfl
theorem kX5_record_53 (z : XKT) : XOi z xInf Y_X5_record 53 (.inl (i_aload 0 54)) := ok_aload_n dX5_record_53 rfl
theorem kX5_record_54 (z : XKT) : XOi z xInf Y_X5_record 54 (.inl (i_getr [4] 34 57)) := ok_getr dX5_record_54 q2511 (List.forall_mem_cons.mpr ⟨⟨_, _, _, _, fd_34_4_0⟩, (fun _ h => absurd h List.not_mem_nil)⟩)
theorem kX5_record_57 (z : XKT) : XOi z xInf Y_X5_record 57 (.inl (i_aload 0 58)) := ok_aload_n dX5_record_57 rfl
theorem kX5_record_58 (z : XKT) : XOi z xInf Y_X5_record 58 (.inl (i_geti [4] 41 61)) := ok_geti dX5_record_58 q2518 (List.forall_mem_cons.mpr ⟨⟨_, _, _, _, fd_41_4_0⟩, (fun _ h => absurd h List.not_mem_nil)⟩)
theorem kX5_record_61 (z : XKT) : XOi z xInf Y_X5_record 61 (.inr (.inl (64, g_stat 183 4))) := show XOkC z xInf Y_X5_record 61 64 (g_stat 183 4) from okc_S (q := Y_X5_record) (q1 := Y_X5_copy) Z_X5_copy rfl (by decide) dX5_record_61 q2882 q2883 q153 q2884 hy_318
theorem kX5_record_64 (z : XKT) : XOi z xInf Y_X5_record 64 (.inl (i_aload 0 65)) := ok_aload_n dX5_record_64 rfl
theorem kX5_record_65 (z : XKT) : XOi z xInf Y_X5_record 65 (.inl (i_dup 66)) := ok_dup dX5_record_65
theorem kX5_record_66 (z : XKT) : XOi z xInf Y_X5_record 66 (.inl (i_geti [4] 41 69)) := ok_geti dX5_record_66 q2518 (List.forall_mem_cons.mpr ⟨⟨_, _, _, _, fd_41_4_0⟩, (fun _ h => absurd h List.not_mem_nil)⟩)
theorem kX5_record_69 (z : XKT) : XOi z xInf Y_X5_record 69 (.inl (i_push (vI 1) 70)) := ok_iconst dX5_record_69 rfl
theorem kX5_record_70 (z : XKT) : XOi z xInf Y_X5_record 70 (.inl (i_bin (fun x y => x + y) 71)) := ok_iadd dX5_record_70
theorem kX5_record_71 (z : XKT) : XOi z xInf Y_X5_record 71 (.inl (i_puti z.1 [4] .int 41 74)) := ok_puti dX5_record_71 q2518 rfl (List.forall_mem_cons.mpr ⟨⟨_, _, _, _, tyX5, fd_41_4_0, ⟨tyX5_ok, nmX5, (Or.inl rfl)⟩, rfl⟩, (fun _ h => absurd h List.not_mem_nil)⟩)
theorem kX5_record_74 (z : XKT) : XOi z xInf Y_X5_record 74 (.inr (.inr (.inl r_v))) := show XOkR Y_X5_record 74 (r_v) from okr_v (q := Y_X5_record) rfl dX5_record_74
theorem o_X5_record (z : XKT) : XMi z xInf Y_X5_record := XMi.mk9 (T := T_X5_record z) rfl (⟨kX5_record_0 z, ⟨kX5_record_1 z, ⟨kX5_record_4 z, ⟨kX5_record_6 z, ⟨kX5_record_9 z, ⟨kX5_record_10 z, ⟨kX5_record_11 z, ⟨kX5_record_12 z, ⟨kX5_record_14 z, ⟨kX5_record_17 z, ⟨kX5_record_18 z, ⟨kX5_record_21 z, ⟨kX5_record_22 z, ⟨kX5_record_23 z, ⟨kX5_record_26 z, ⟨kX5_record_27 z, ⟨kX5_record_28 z, ⟨kX5_record_29 z, ⟨kX5_record_32 z, ⟨kX5_record_35 z, ⟨kX5_record_38 z, ⟨kX5_record_39 z, ⟨kX5_record_40 z, ⟨kX5_record_43 z, ⟨kX5_record_44 z, ⟨kX5_record_45 z, ⟨kX5_record_48 z, ⟨kX5_record_49 z, ⟨kX5_record_52 z, ⟨kX5_record_53 z, ⟨kX5_record_54 z, ⟨kX5_record_57 z, ⟨kX5_record_58 z, ⟨kX5_record_61 z, ⟨kX5_record_64 z, ⟨kX5_record_65 z, ⟨kX5_record_66 z, ⟨kX5_record_69 z, ⟨kX5_record_70 z, ⟨kX5_record_71 z, ⟨kX5_record_74 z, trivial⟩⟩⟩⟩⟩⟩⟩⟩⟩⟩⟩⟩⟩⟩⟩⟩⟩⟩⟩⟩⟩⟩⟩⟩⟩⟩⟩⟩⟩⟩⟩⟩⟩⟩⟩⟩⟩⟩⟩⟩⟩) (hd_X5_record z) rfl rfl (by decide +kernel)
theorem hd_X5_recorded (z : XKT) : XHd z Y_X5_recorded := xHd_none rfl (xhd0 rfl)
theorem kX5_recorded_0 (z : XKT) : XOi z xInf Y_X5_recorded 0 (.inl (i_iload 1 1)) := ok_iload_n dX5_recorded_0 rfl
theorem kX5_recorded_1 (z : XKT) : XOi z xInf Y_X5_recorded 1 (.inl (i_if (fun x => x < 0) 8 4)) := ok_if_lt dX5_recorded_1 rfl
theorem kX5_recorded_4 (z : XKT) : XOi z xInf Y_X5_recorded 4 (.inl (i_aload 0 5)) := ok_aload_n dX5_recorded_4 rfl
theorem kX5_recorded_5 (z : XKT) : XOi z xInf Y_X5_recorded 5 (.inr (.inl (8, g_virt [(4, 274)] 0))) := show XOkC z xInf Y_X5_recorded 5 8 (g_virt [(4, 274)] 0) from okc_V (q := Y_X5_recorded) (List.forall_mem_cons.mpr ⟨(show XOkV z xInf Y_X5_recorded 5 8 0 (4, 274) from okv_V (q := Y_X5_recorded) (q1 := Y_X5_record) Z_X5_record rfl (by decide) ⟨by decide, by decide, Or.inl ⟨_, _, (List.mem_of_getElem? (l := xCls) (i := 3) rfl)⟩⟩ dX5_recorded_5 q2906 q2908 qs85 q153 q2909 hy_326), (fun _ h => absurd h List.not_mem_nil)⟩)
theorem kX5_recorded_8 (z : XKT) : XOi z xInf Y_X5_recorded 8 (.inl (i_iload 1 9)) := ok_iload_n dX5_recorded_8 rfl
theorem kX5_recorded_9 (z : XKT) : XOi z xInf Y_X5_recorded 9 (.inr (.inr (.inl (r_i .int)))) := show XOkR Y_X5_recorded 9 ((r_i .int)) from okr_i (q := Y_X5_recorded) (ty := .int) rfl rfl dX5_recorded_9
theorem o_X5_recorded (z : XKT) : XMi z xInf Y_X5_recorded := XMi.mk9 (T := T_X5_recorded z) rfl (⟨kX5_recorded_0 z, ⟨kX5_recorded_1 z, ⟨kX5_recorded_4 z, ⟨kX5_recorded_5 z, ⟨kX5_recorded_8 z, ⟨kX5_recorded_9 z, trivial⟩⟩⟩⟩⟩⟩) (hd_X5_recorded z) rfl rfl (by decide +kernel)
theorem hd_X5_removeHand (z : XKT) : XHd z Y_X5_removeHand := xHd_none rfl (xhd0 rfl)
theorem kX5_removeHand_0 (z : XKT) : XOi z xInf Y_X5_removeHand 0 (.inl (i_aload 0 1)) := ok_aload_n dX5_removeHand_0 rfl
theorem kX5_removeHand_1 (z : XKT) : XOi z xInf Y_X5_removeHand 1 (.inl (i_iload 1 2)) := ok_iload_n dX5_removeHand_1 rfl
theorem kX5_removeHand_2 (z : XKT) : XOi z xInf Y_X5_removeHand 2 (.inl (i_push (vI 1) 3)) := ok_iconst dX5_removeHand_2 rfl
theorem kX5_removeHand_3 (z : XKT) : XOi z xInf Y_X5_removeHand 3 (.inr (.inl (6, g_virt [(4, 254)] 2))) := show XOkC z xInf Y_X5_removeHand 3 6 (g_virt [(4, 254)] 2) from okc_V (q := Y_X5_removeHand) (List.forall_mem_cons.mpr ⟨(show XOkV z xInf Y_X5_removeHand 3 6 2 (4, 254) from okv_V (q := Y_X5_removeHand) (q1 := Y_X5_ofFinder) Z_X5_ofFinder rfl (by decide) ⟨by decide, by decide, Or.inl ⟨_, _, (List.mem_of_getElem? (l := xCls) (i := 3) rfl)⟩⟩ dX5_removeHand_3 q2630 q2632 qs52 q153 q2633 hy_267), (fun _ h => absurd h List.not_mem_nil)⟩)
theorem kX5_removeHand_6 (z : XKT) : XOi z xInf Y_X5_removeHand 6 (.inl (i_istore 2 7)) := ok_istore_n dX5_removeHand_6 rfl
theorem kX5_removeHand_7 (z : XKT) : XOi z xInf Y_X5_removeHand 7 (.inl (i_iload 2 8)) := ok_iload_n dX5_removeHand_7 rfl
theorem kX5_removeHand_8 (z : XKT) : XOi z xInf Y_X5_removeHand 8 (.inl (i_push (vI (-1)) 9)) := ok_iconst dX5_removeHand_8 rfl
theorem kX5_removeHand_9 (z : XKT) : XOi z xInf Y_X5_removeHand 9 (.inl (i_icmp (fun x y => ¬ x = y) 13 12)) := ok_icmp_ne dX5_removeHand_9 rfl
theorem kX5_removeHand_12 (z : XKT) : XOi z xInf Y_X5_removeHand 12 (.inr (.inr (.inl r_v))) := show XOkR Y_X5_removeHand 12 (r_v) from okr_v (q := Y_X5_removeHand) rfl dX5_removeHand_12
theorem kX5_removeHand_13 (z : XKT) : XOi z xInf Y_X5_removeHand 13 (.inl (i_aload 0 14)) := ok_aload_n dX5_removeHand_13 rfl
theorem kX5_removeHand_14 (z : XKT) : XOi z xInf Y_X5_removeHand 14 (.inl (i_iload 2 15)) := ok_iload_n dX5_removeHand_14 rfl
theorem kX5_removeHand_15 (z : XKT) : XOi z xInf Y_X5_removeHand 15 (.inl (i_push (vI 9) 17)) := ok_bipush dX5_removeHand_15 rfl
theorem kX5_removeHand_17 (z : XKT) : XOi z xInf Y_X5_removeHand 17 (.inr (.inl (20, g_virt [(4, 253)] 2))) := show XOkC z xInf Y_X5_removeHand 17 20 (g_virt [(4, 253)] 2) from okc_V (q := Y_X5_removeHand) (List.forall_mem_cons.mpr ⟨(show XOkV z xInf Y_X5_removeHand 17 20 2 (4, 253) from okv_V (q := Y_X5_removeHand) (q1 := Y_X5_of) Z_X5_of rfl (by decide) ⟨by decide, by decide, Or.inl ⟨_, _, (List.mem_of_getElem? (l := xCls) (i := 3) rfl)⟩⟩ dX5_removeHand_17 q2622 q2624 qs50 q153 q2625 hy_265), (fun _ h => absurd h List.not_mem_nil)⟩)
theorem kX5_removeHand_20 (z : XKT) : XOi z xInf Y_X5_removeHand 20 (.inl (i_push (vI 1) 21)) := ok_iconst dX5_removeHand_20 rfl
theorem kX5_removeHand_21 (z : XKT) : XOi z xInf Y_X5_removeHand 21 (.inl (i_bin (fun x y => x - y) 22)) := ok_isub dX5_removeHand_21
theorem kX5_removeHand_22 (z : XKT) : XOi z xInf Y_X5_removeHand 22 (.inl (i_istore 3 23)) := ok_istore_n dX5_removeHand_22 rfl
theorem kX5_removeHand_23 (z : XKT) : XOi z xInf Y_X5_removeHand 23 (.inl (i_aload 0 24)) := ok_aload_n dX5_removeHand_23 rfl
theorem kX5_removeHand_24 (z : XKT) : XOi z xInf Y_X5_removeHand 24 (.inl (i_iload 2 25)) := ok_iload_n dX5_removeHand_24 rfl
theorem kX5_removeHand_25 (z : XKT) : XOi z xInf Y_X5_removeHand 25 (.inl (i_iload 1 26)) := ok_iload_n dX5_removeHand_25 rfl
theorem kX5_removeHand_26 (z : XKT) : XOi z xInf Y_X5_removeHand 26 (.inr (.inl (29, g_virt [(4, 263)] 2))) := show XOkC z xInf Y_X5_removeHand 26 29 (g_virt [(4, 263)] 2) from okc_V (q := Y_X5_removeHand) (List.forall_mem_cons.mpr ⟨(show XOkV z xInf Y_X5_removeHand 26 29 2 (4, 263) from okv_V (q := Y_X5_removeHand) (q1 := Y_X5_placeOf) Z_X5_placeOf rfl (by decide) ⟨by decide, by decide, Or.inl ⟨_, _, (List.mem_of_getElem? (l := xCls) (i := 3) rfl)⟩⟩ dX5_removeHand_26 q2670 q2672 qs59 q153 q2673 hy_283), (fun _ h => absurd h List.not_mem_nil)⟩)
theorem kX5_removeHand_29 (z : XKT) : XOi z xInf Y_X5_removeHand 29 (.inl (i_istore 4 31)) := ok_istore dX5_removeHand_29
theorem kX5_removeHand_31 (z : XKT) : XOi z xInf Y_X5_removeHand 31 (.inl (i_iload 4 33)) := ok_iload dX5_removeHand_31
theorem kX5_removeHand_33 (z : XKT) : XOi z xInf Y_X5_removeHand 33 (.inl (i_iload 3 34)) := ok_iload_n dX5_removeHand_33 rfl
theorem kX5_removeHand_34 (z : XKT) : XOi z xInf Y_X5_removeHand 34 (.inl (i_icmp (fun x y => y ≤ x) 62 37)) := ok_icmp_ge dX5_removeHand_34 rfl
theorem kX5_removeHand_37 (z : XKT) : XOi z xInf Y_X5_removeHand 37 (.inl (i_aload 0 38)) := ok_aload_n dX5_removeHand_37 rfl
theorem kX5_removeHand_38 (z : XKT) : XOi z xInf Y_X5_removeHand 38 (.inl (i_iload 2 39)) := ok_iload_n dX5_removeHand_38 rfl
theorem kX5_removeHand_39 (z : XKT) : XOi z xInf Y_X5_removeHand 39 (.inl (i_push (vI 10) 41)) := ok_bipush dX5_removeHand_39 rfl
theorem kX5_removeHand_41 (z : XKT) : XOi z xInf Y_X5_removeHand 41 (.inl (i_iload 4 43)) := ok_iload dX5_removeHand_41
theorem kX5_removeHand_43 (z : XKT) : XOi z xInf Y_X5_removeHand 43 (.inl (i_bin (fun x y => x + y) 44)) := ok_iadd dX5_removeHand_43
theorem kX5_removeHand_44 (z : XKT) : XOi z xInf Y_X5_removeHand 44 (.inl (i_aload 0 45)) := ok_aload_n dX5_removeHand_44 rfl
theorem kX5_removeHand_45 (z : XKT) : XOi z xInf Y_X5_removeHand 45 (.inl (i_iload 2 46)) := ok_iload_n dX5_removeHand_45 rfl
theorem kX5_removeHand_46 (z : XKT) : XOi z xInf Y_X5_removeHand 46 (.inl (i_iload 4 48)) := ok_iload dX5_removeHand_46
theorem kX5_removeHand_48 (z : XKT) : XOi z xInf Y_X5_removeHand 48 (.inl (i_push (vI 1) 49)) := ok_iconst dX5_removeHand_48 rfl
theorem kX5_removeHand_49 (z : XKT) : XOi z xInf Y_X5_removeHand 49 (.inl (i_bin (fun x y => x + y) 50)) := ok_iadd dX5_removeHand_49
theorem kX5_removeHand_50 (z : XKT) : XOi z xInf Y_X5_removeHand 50 (.inr (.inl (53, g_virt [(4, 223)] 2))) := show XOkC z xInf Y_X5_removeHand 50 53 (g_virt [(4, 223)] 2) from okc_V (q := Y_X5_removeHand) (List.forall_mem_cons.mpr ⟨(show XOkV z xInf Y_X5_removeHand 50 53 2 (4, 223) from okv_V (q := Y_X5_removeHand) (q1 := Y_X5_handOf) Z_X5_handOf rfl (by decide) ⟨by decide, by decide, Or.inl ⟨_, _, (List.mem_of_getElem? (l := xCls) (i := 3) rfl)⟩⟩ dX5_removeHand_50 q2674 q2676 qs60 q153 q2677 hy_287), (fun _ h => absurd h List.not_mem_nil)⟩)
theorem kX5_removeHand_53 (z : XKT) : XOi z xInf Y_X5_removeHand 53 (.inr (.inl (56, g_virt [(4, 241)] 3))) := show XOkC z xInf Y_X5_removeHand 53 56 (g_virt [(4, 241)] 3) from okc_V (q := Y_X5_removeHand) (List.forall_mem_cons.mpr ⟨(show XOkV z xInf Y_X5_removeHand 53 56 3 (4, 241) from okv_V (q := Y_X5_removeHand) (q1 := Y_X5_lay) Z_X5_lay rfl (by decide) ⟨by decide, by decide, Or.inl ⟨_, _, (List.mem_of_getElem? (l := xCls) (i := 3) rfl)⟩⟩ dX5_removeHand_53 q2503 q2505 qs45 q153 q2506 hy_264), (fun _ h => absurd h List.not_mem_nil)⟩)
theorem kX5_removeHand_56 (z : XKT) : XOi z xInf Y_X5_removeHand 56 (.inl (i_iinc 4 1 59)) := ok_iinc dX5_removeHand_56 rfl
theorem kX5_removeHand_59 (z : XKT) : XOi z xInf Y_X5_removeHand 59 (.inl (i_goto 31)) := ok_goto dX5_removeHand_59 rfl
theorem kX5_removeHand_62 (z : XKT) : XOi z xInf Y_X5_removeHand 62 (.inl (i_aload 0 63)) := ok_aload_n dX5_removeHand_62 rfl
theorem kX5_removeHand_63 (z : XKT) : XOi z xInf Y_X5_removeHand 63 (.inl (i_iload 2 64)) := ok_iload_n dX5_removeHand_63 rfl
theorem kX5_removeHand_64 (z : XKT) : XOi z xInf Y_X5_removeHand 64 (.inl (i_push (vI 9) 66)) := ok_bipush dX5_removeHand_64 rfl
theorem kX5_removeHand_66 (z : XKT) : XOi z xInf Y_X5_removeHand 66 (.inl (i_iload 3 67)) := ok_iload_n dX5_removeHand_66 rfl
theorem kX5_removeHand_67 (z : XKT) : XOi z xInf Y_X5_removeHand 67 (.inr (.inl (70, g_virt [(4, 241)] 3))) := show XOkC z xInf Y_X5_removeHand 67 70 (g_virt [(4, 241)] 3) from okc_V (q := Y_X5_removeHand) (List.forall_mem_cons.mpr ⟨(show XOkV z xInf Y_X5_removeHand 67 70 3 (4, 241) from okv_V (q := Y_X5_removeHand) (q1 := Y_X5_lay) Z_X5_lay rfl (by decide) ⟨by decide, by decide, Or.inl ⟨_, _, (List.mem_of_getElem? (l := xCls) (i := 3) rfl)⟩⟩ dX5_removeHand_67 q2503 q2505 qs45 q153 q2506 hy_264), (fun _ h => absurd h List.not_mem_nil)⟩)
theorem kX5_removeHand_70 (z : XKT) : XOi z xInf Y_X5_removeHand 70 (.inl (i_aload 0 71)) := ok_aload_n dX5_removeHand_70 rfl
theorem kX5_removeHand_71 (z : XKT) : XOi z xInf Y_X5_removeHand 71 (.inl (i_iload 1 72)) := ok_iload_n dX5_removeHand_71 rfl
theorem kX5_removeHand_72 (z : XKT) : XOi z xInf Y_X5_removeHand 72 (.inl (i_push (vI 1) 73)) := ok_iconst dX5_removeHand_72 rfl
theorem kX5_removeHand_73 (z : XKT) : XOi z xInf Y_X5_removeHand 73 (.inl (i_push (vI (-1)) 74)) := ok_iconst dX5_removeHand_73 rfl
theorem kX5_removeHand_74 (z : XKT) : XOi z xInf Y_X5_removeHand 74 (.inr (.inl (77, g_virt [(4, 242)] 3))) := show XOkC z xInf Y_X5_removeHand 74 77 (g_virt [(4, 242)] 3) from okc_V (q := Y_X5_removeHand) (List.forall_mem_cons.mpr ⟨(show XOkV z xInf Y_X5_removeHand 74 77 3 (4, 242) from okv_V (q := Y_X5_removeHand) (q1 := Y_X5_layFinder) Z_X5_layFinder rfl (by decide) ⟨by decide, by decide, Or.inl ⟨_, _, (List.mem_of_getElem? (l := xCls) (i := 3) rfl)⟩⟩ dX5_removeHand_74 q2495 q2497 qs43 q153 q2498 hy_266), (fun _ h => absurd h List.not_mem_nil)⟩)
theorem kX5_removeHand_77 (z : XKT) : XOi z xInf Y_X5_removeHand 77 (.inr (.inr (.inl r_v))) := show XOkR Y_X5_removeHand 77 (r_v) from okr_v (q := Y_X5_removeHand) rfl dX5_removeHand_77
theorem o_X5_removeHand (z : XKT) : XMi z xInf Y_X5_removeHand := XMi.mk9 (T := T_X5_removeHand z) rfl (⟨kX5_removeHand_0 z, ⟨kX5_removeHand_1 z, ⟨kX5_removeHand_2 z, ⟨kX5_removeHand_3 z, ⟨kX5_removeHand_6 z, ⟨kX5_removeHand_7 z, ⟨kX5_removeHand_8 z, ⟨kX5_removeHand_9 z, ⟨kX5_removeHand_12 z, ⟨kX5_removeHand_13 z, ⟨kX5_removeHand_14 z, ⟨kX5_removeHand_15 z, ⟨kX5_removeHand_17 z, ⟨kX5_removeHand_20 z, ⟨kX5_removeHand_21 z, ⟨kX5_removeHand_22 z, ⟨kX5_removeHand_23 z, ⟨kX5_removeHand_24 z, ⟨kX5_removeHand_25 z, ⟨kX5_removeHand_26 z, ⟨kX5_removeHand_29 z, ⟨kX5_removeHand_31 z, ⟨kX5_removeHand_33 z, ⟨kX5_removeHand_34 z, ⟨kX5_removeHand_37 z, ⟨kX5_removeHand_38 z, ⟨kX5_removeHand_39 z, ⟨kX5_removeHand_41 z, ⟨kX5_removeHand_43 z, ⟨kX5_removeHand_44 z, ⟨kX5_removeHand_45 z, ⟨kX5_removeHand_46 z, ⟨kX5_removeHand_48 z, ⟨kX5_removeHand_49 z, ⟨kX5_removeHand_50 z, ⟨kX5_removeHand_53 z, ⟨kX5_removeHand_56 z, ⟨kX5_removeHand_59 z, ⟨kX5_removeHand_62 z, ⟨kX5_removeHand_63 z, ⟨kX5_removeHand_64 z, ⟨kX5_removeHand_66 z, ⟨kX5_removeHand_67 z, ⟨kX5_removeHand_70 z, ⟨kX5_removeHand_71 z, ⟨kX5_removeHand_72 z, ⟨kX5_removeHand_73 z, ⟨kX5_removeHand_74 z, ⟨kX5_removeHand_77 z, trivial⟩⟩⟩⟩⟩⟩⟩⟩⟩⟩⟩⟩⟩⟩⟩⟩⟩⟩⟩⟩⟩⟩⟩⟩⟩⟩⟩⟩⟩⟩⟩⟩⟩⟩⟩⟩⟩⟩⟩⟩⟩⟩⟩⟩⟩⟩⟩⟩⟩) (hd_X5_removeHand z) rfl rfl (by decide +kernel)
theorem hd_X5_restOf (z : XKT) : XHd z Y_X5_restOf := xHd_none rfl (xhd0 rfl)
theorem kX5_restOf_0 (z : XKT) : XOi z xInf Y_X5_restOf 0 (.inl (i_aload 0 1)) := ok_aload_n dX5_restOf_0 rfl
theorem kX5_restOf_1 (z : XKT) : XOi z xInf Y_X5_restOf 1 (.inl (i_iload 1 2)) := ok_iload_n dX5_restOf_1 rfl
theorem kX5_restOf_2 (z : XKT) : XOi z xInf Y_X5_restOf 2 (.inl (i_aload 0 3)) := ok_aload_n dX5_restOf_2 rfl
theorem kX5_restOf_3 (z : XKT) : XOi z xInf Y_X5_restOf 3 (.inl (i_iload 1 4)) := ok_iload_n dX5_restOf_3 rfl
theorem kX5_restOf_4 (z : XKT) : XOi z xInf Y_X5_restOf 4 (.inr (.inl (7, g_virt [(4, 228)] 1))) := show XOkC z xInf Y_X5_restOf 4 7 (g_virt [(4, 228)] 1) from okc_V (q := Y_X5_restOf) (List.forall_mem_cons.mpr ⟨(show XOkV z xInf Y_X5_restOf 4 7 1 (4, 228) from okv_V (q := Y_X5_restOf) (q1 := Y_X5_isClaimed) Z_X5_isClaimed rfl (by decide) ⟨by decide, by decide, Or.inl ⟨_, _, (List.mem_of_getElem? (l := xCls) (i := 3) rfl)⟩⟩ dX5_restOf_4 q2725 q2727 qs66 q153 q2728 hy_280), (fun _ h => absurd h List.not_mem_nil)⟩)
theorem kX5_restOf_7 (z : XKT) : XOi z xInf Y_X5_restOf 7 (.inr (.inl (10, g_virt [(4, 189)] 2))) := show XOkC z xInf Y_X5_restOf 7 10 (g_virt [(4, 189)] 2) from okc_V (q := Y_X5_restOf) (List.forall_mem_cons.mpr ⟨(show XOkV z xInf Y_X5_restOf 7 10 2 (4, 189) from okv_V (q := Y_X5_restOf) (q1 := Y_X5_crewOf) Z_X5_crewOf rfl (by decide) ⟨by decide, by decide, Or.inl ⟨_, _, (List.mem_of_getElem? (l := xCls) (i := 3) rfl)⟩⟩ dX5_restOf_7 q2729 q2731 qs67 q153 q2732 hy_279), (fun _ h => absurd h List.not_mem_nil)⟩)
theorem kX5_restOf_10 (z : XKT) : XOi z xInf Y_X5_restOf 10 (.inl (i_istore 2 11)) := ok_istore_n dX5_restOf_10 rfl
theorem kX5_restOf_11 (z : XKT) : XOi z xInf Y_X5_restOf 11 (.inl (i_push (vI 0) 12)) := ok_iconst dX5_restOf_11 rfl
theorem kX5_restOf_12 (z : XKT) : XOi z xInf Y_X5_restOf 12 (.inl (i_istore 3 13)) := ok_istore_n dX5_restOf_12 rfl
theorem kX5_restOf_13 (z : XKT) : XOi z xInf Y_X5_restOf 13 (.inl (i_iload 3 14)) := ok_iload_n dX5_restOf_13 rfl
theorem kX5_restOf_14 (z : XKT) : XOi z xInf Y_X5_restOf 14 (.inl (i_aload 0 15)) := ok_aload_n dX5_restOf_14 rfl
theorem kX5_restOf_15 (z : XKT) : XOi z xInf Y_X5_restOf 15 (.inl (i_iload 1 16)) := ok_iload_n dX5_restOf_15 rfl
theorem kX5_restOf_16 (z : XKT) : XOi z xInf Y_X5_restOf 16 (.inl (i_push (vI 9) 18)) := ok_bipush dX5_restOf_16 rfl
theorem kX5_restOf_18 (z : XKT) : XOi z xInf Y_X5_restOf 18 (.inr (.inl (21, g_virt [(4, 253)] 2))) := show XOkC z xInf Y_X5_restOf 18 21 (g_virt [(4, 253)] 2) from okc_V (q := Y_X5_restOf) (List.forall_mem_cons.mpr ⟨(show XOkV z xInf Y_X5_restOf 18 21 2 (4, 253) from okv_V (q := Y_X5_restOf) (q1 := Y_X5_of) Z_X5_of rfl (by decide) ⟨by decide, by decide, Or.inl ⟨_, _, (List.mem_of_getElem? (l := xCls) (i := 3) rfl)⟩⟩ dX5_restOf_18 q2622 q2624 qs50 q153 q2625 hy_265), (fun _ h => absurd h List.not_mem_nil)⟩)
theorem kX5_restOf_21 (z : XKT) : XOi z xInf Y_X5_restOf 21 (.inl (i_icmp (fun x y => y ≤ x) 39 24)) := ok_icmp_ge dX5_restOf_21 rfl
theorem kX5_restOf_24 (z : XKT) : XOi z xInf Y_X5_restOf 24 (.inl (i_iload 2 25)) := ok_iload_n dX5_restOf_24 rfl
theorem kX5_restOf_25 (z : XKT) : XOi z xInf Y_X5_restOf 25 (.inl (i_aload 0 26)) := ok_aload_n dX5_restOf_25 rfl
theorem kX5_restOf_26 (z : XKT) : XOi z xInf Y_X5_restOf 26 (.inl (i_iload 1 27)) := ok_iload_n dX5_restOf_26 rfl
theorem kX5_restOf_27 (z : XKT) : XOi z xInf Y_X5_restOf 27 (.inl (i_iload 3 28)) := ok_iload_n dX5_restOf_27 rfl
theorem kX5_restOf_28 (z : XKT) : XOi z xInf Y_X5_restOf 28 (.inr (.inl (31, g_virt [(4, 261)] 2))) := show XOkC z xInf Y_X5_restOf 28 31 (g_virt [(4, 261)] 2) from okc_V (q := Y_X5_restOf) (List.forall_mem_cons.mpr ⟨(show XOkV z xInf Y_X5_restOf 28 31 2 (4, 261) from okv_V (q := Y_X5_restOf) (q1 := Y_X5_partOf) Z_X5_partOf rfl (by decide) ⟨by decide, by decide, Or.inl ⟨_, _, (List.mem_of_getElem? (l := xCls) (i := 3) rfl)⟩⟩ dX5_restOf_28 q2721 q2723 qs65 q153 q2724 hy_337), (fun _ h => absurd h List.not_mem_nil)⟩)
theorem kX5_restOf_31 (z : XKT) : XOi z xInf Y_X5_restOf 31 (.inl (i_bin (fun x y => x - y) 32)) := ok_isub dX5_restOf_31
theorem kX5_restOf_32 (z : XKT) : XOi z xInf Y_X5_restOf 32 (.inl (i_istore 2 33)) := ok_istore_n dX5_restOf_32 rfl
theorem kX5_restOf_33 (z : XKT) : XOi z xInf Y_X5_restOf 33 (.inl (i_iinc 3 1 36)) := ok_iinc dX5_restOf_33 rfl
theorem kX5_restOf_36 (z : XKT) : XOi z xInf Y_X5_restOf 36 (.inl (i_goto 13)) := ok_goto dX5_restOf_36 rfl
theorem kX5_restOf_39 (z : XKT) : XOi z xInf Y_X5_restOf 39 (.inl (i_iload 2 40)) := ok_iload_n dX5_restOf_39 rfl
theorem kX5_restOf_40 (z : XKT) : XOi z xInf Y_X5_restOf 40 (.inr (.inr (.inl (r_i .int)))) := show XOkR Y_X5_restOf 40 ((r_i .int)) from okr_i (q := Y_X5_restOf) (ty := .int) rfl rfl dX5_restOf_40
theorem o_X5_restOf (z : XKT) : XMi z xInf Y_X5_restOf := XMi.mk9 (T := T_X5_restOf z) rfl (⟨kX5_restOf_0 z, ⟨kX5_restOf_1 z, ⟨kX5_restOf_2 z, ⟨kX5_restOf_3 z, ⟨kX5_restOf_4 z, ⟨kX5_restOf_7 z, ⟨kX5_restOf_10 z, ⟨kX5_restOf_11 z, ⟨kX5_restOf_12 z, ⟨kX5_restOf_13 z, ⟨kX5_restOf_14 z, ⟨kX5_restOf_15 z, ⟨kX5_restOf_16 z, ⟨kX5_restOf_18 z, ⟨kX5_restOf_21 z, ⟨kX5_restOf_24 z, ⟨kX5_restOf_25 z, ⟨kX5_restOf_26 z, ⟨kX5_restOf_27 z, ⟨kX5_restOf_28 z, ⟨kX5_restOf_31 z, ⟨kX5_restOf_32 z, ⟨kX5_restOf_33 z, ⟨kX5_restOf_36 z, ⟨kX5_restOf_39 z, ⟨kX5_restOf_40 z, trivial⟩⟩⟩⟩⟩⟩⟩⟩⟩⟩⟩⟩⟩⟩⟩⟩⟩⟩⟩⟩⟩⟩⟩⟩⟩⟩) (hd_X5_restOf z) rfl rfl (by decide +kernel)
theorem hd_X5_restoreSnapshot (z : XKT) : XHd z Y_X5_restoreSnapshot := xHd_none rfl (xhd0 rfl)
theorem kX5_restoreSnapshot_0 (z : XKT) : XOi z xInf Y_X5_restoreSnapshot 0 (.inl (i_aload 0 1)) := ok_aload_n dX5_restoreSnapshot_0 rfl
theorem kX5_restoreSnapshot_1 (z : XKT) : XOi z xInf Y_X5_restoreSnapshot 1 (.inl (i_push (vI 0) 2)) := ok_iconst dX5_restoreSnapshot_1 rfl
theorem kX5_restoreSnapshot_2 (z : XKT) : XOi z xInf Y_X5_restoreSnapshot 2 (.inl (i_puti z.1 [4] .int 42 5)) := ok_puti dX5_restoreSnapshot_2 q2519 rfl (List.forall_mem_cons.mpr ⟨⟨_, _, _, _, tyX5, fd_42_4_0, ⟨tyX5_ok, nmX5, (Or.inl rfl)⟩, rfl⟩, (fun _ h => absurd h List.not_mem_nil)⟩)
theorem kX5_restoreSnapshot_5 (z : XKT) : XOi z xInf Y_X5_restoreSnapshot 5 (.inl (i_aload 0 6)) := ok_aload_n dX5_restoreSnapshot_5 rfl
theorem kX5_restoreSnapshot_6 (z : XKT) : XOi z xInf Y_X5_restoreSnapshot 6 (.inl (i_geti [4] 43 9)) := ok_geti dX5_restoreSnapshot_6 q2520 (List.forall_mem_cons.mpr ⟨⟨_, _, _, _, fd_43_4_0⟩, (fun _ h => absurd h List.not_mem_nil)⟩)
theorem kX5_restoreSnapshot_9 (z : XKT) : XOi z xInf Y_X5_restoreSnapshot 9 (.inl (i_if (fun x => ¬ x = 0) 14 12)) := ok_if_ne dX5_restoreSnapshot_9 rfl
theorem kX5_restoreSnapshot_12 (z : XKT) : XOi z xInf Y_X5_restoreSnapshot 12 (.inl (i_push (vI 0) 13)) := ok_iconst dX5_restoreSnapshot_12 rfl
theorem kX5_restoreSnapshot_13 (z : XKT) : XOi z xInf Y_X5_restoreSnapshot 13 (.inr (.inr (.inl (r_i .boolean)))) := show XOkR Y_X5_restoreSnapshot 13 ((r_i .boolean)) from okr_i (q := Y_X5_restoreSnapshot) (ty := .boolean) rfl rfl dX5_restoreSnapshot_13
theorem kX5_restoreSnapshot_14 (z : XKT) : XOi z xInf Y_X5_restoreSnapshot 14 (.inl (i_aload 0 15)) := ok_aload_n dX5_restoreSnapshot_14 rfl
theorem kX5_restoreSnapshot_15 (z : XKT) : XOi z xInf Y_X5_restoreSnapshot 15 (.inl (i_getr [4] 33 18)) := ok_getr dX5_restoreSnapshot_15 q2510 (List.forall_mem_cons.mpr ⟨⟨_, _, _, _, fd_33_4_0⟩, (fun _ h => absurd h List.not_mem_nil)⟩)
theorem kX5_restoreSnapshot_18 (z : XKT) : XOi z xInf Y_X5_restoreSnapshot 18 (.inl (i_push (vI 0) 19)) := ok_iconst dX5_restoreSnapshot_18 rfl
theorem kX5_restoreSnapshot_19 (z : XKT) : XOi z xInf Y_X5_restoreSnapshot 19 (.inl (i_aload 0 20)) := ok_aload_n dX5_restoreSnapshot_19 rfl
theorem kX5_restoreSnapshot_20 (z : XKT) : XOi z xInf Y_X5_restoreSnapshot 20 (.inl (i_getr [4] 30 23)) := ok_getr dX5_restoreSnapshot_20 q2507 (List.forall_mem_cons.mpr ⟨⟨_, _, _, _, fd_30_4_0⟩, (fun _ h => absurd h List.not_mem_nil)⟩)
theorem kX5_restoreSnapshot_23 (z : XKT) : XOi z xInf Y_X5_restoreSnapshot 23 (.inl (i_push (vI 0) 24)) := ok_iconst dX5_restoreSnapshot_23 rfl
theorem kX5_restoreSnapshot_24 (z : XKT) : XOi z xInf Y_X5_restoreSnapshot 24 (.inr (.inl (27, g_stat 183 4))) := show XOkC z xInf Y_X5_restoreSnapshot 24 27 (g_stat 183 4) from okc_S (q := Y_X5_restoreSnapshot) (q1 := Y_X5_copy) Z_X5_copy rfl (by decide) dX5_restoreSnapshot_24 q2882 q2883 q153 q2884 hy_318
theorem kX5_restoreSnapshot_27 (z : XKT) : XOi z xInf Y_X5_restoreSnapshot 27 (.inl (i_aload 0 28)) := ok_aload_n dX5_restoreSnapshot_27 rfl
theorem kX5_restoreSnapshot_28 (z : XKT) : XOi z xInf Y_X5_restoreSnapshot 28 (.inl (i_push (vI 0) 29)) := ok_iconst dX5_restoreSnapshot_28 rfl
theorem kX5_restoreSnapshot_29 (z : XKT) : XOi z xInf Y_X5_restoreSnapshot 29 (.inl (i_puti z.1 [4] .int 41 32)) := ok_puti dX5_restoreSnapshot_29 q2518 rfl (List.forall_mem_cons.mpr ⟨⟨_, _, _, _, tyX5, fd_41_4_0, ⟨tyX5_ok, nmX5, (Or.inl rfl)⟩, rfl⟩, (fun _ h => absurd h List.not_mem_nil)⟩)
theorem kX5_restoreSnapshot_32 (z : XKT) : XOi z xInf Y_X5_restoreSnapshot 32 (.inl (i_push (vI 1) 33)) := ok_iconst dX5_restoreSnapshot_32 rfl
theorem kX5_restoreSnapshot_33 (z : XKT) : XOi z xInf Y_X5_restoreSnapshot 33 (.inr (.inr (.inl (r_i .boolean)))) := show XOkR Y_X5_restoreSnapshot 33 ((r_i .boolean)) from okr_i (q := Y_X5_restoreSnapshot) (ty := .boolean) rfl rfl dX5_restoreSnapshot_33
theorem o_X5_restoreSnapshot (z : XKT) : XMi z xInf Y_X5_restoreSnapshot := XMi.mk9 (T := T_X5_restoreSnapshot z) rfl (⟨kX5_restoreSnapshot_0 z, ⟨kX5_restoreSnapshot_1 z, ⟨kX5_restoreSnapshot_2 z, ⟨kX5_restoreSnapshot_5 z, ⟨kX5_restoreSnapshot_6 z, ⟨kX5_restoreSnapshot_9 z, ⟨kX5_restoreSnapshot_12 z, ⟨kX5_restoreSnapshot_13 z, ⟨kX5_restoreSnapshot_14 z, ⟨kX5_restoreSnapshot_15 z, ⟨kX5_restoreSnapshot_18 z, ⟨kX5_restoreSnapshot_19 z, ⟨kX5_restoreSnapshot_20 z, ⟨kX5_restoreSnapshot_23 z, ⟨kX5_restoreSnapshot_24 z, ⟨kX5_restoreSnapshot_27 z, ⟨kX5_restoreSnapshot_28 z, ⟨kX5_restoreSnapshot_29 z, ⟨kX5_restoreSnapshot_32 z, ⟨kX5_restoreSnapshot_33 z, trivial⟩⟩⟩⟩⟩⟩⟩⟩⟩⟩⟩⟩⟩⟩⟩⟩⟩⟩⟩⟩) (hd_X5_restoreSnapshot z) rfl rfl (by decide +kernel)
theorem hd_X5_richest (z : XKT) : XHd z Y_X5_richest := xHd_none rfl (xhd0 rfl)
theorem kX5_richest_0 (z : XKT) : XOi z xInf Y_X5_richest 0 (.inl (i_aload 0 1)) := ok_aload_n dX5_richest_0 rfl
theorem kX5_richest_1 (z : XKT) : XOi z xInf Y_X5_richest 1 (.inl (i_push (vI 0) 2)) := ok_iconst dX5_richest_1 rfl
theorem kX5_richest_2 (z : XKT) : XOi z xInf Y_X5_richest 2 (.inl (i_puti z.1 [4] .int 42 5)) := ok_puti dX5_richest_2 q2519 rfl (List.forall_mem_cons.mpr ⟨⟨_, _, _, _, tyX5, fd_42_4_0, ⟨tyX5_ok, nmX5, (Or.inl rfl)⟩, rfl⟩, (fun _ h => absurd h List.not_mem_nil)⟩)
theorem kX5_richest_5 (z : XKT) : XOi z xInf Y_X5_richest 5 (.inl (i_push (vI 0) 6)) := ok_iconst dX5_richest_5 rfl
theorem kX5_richest_6 (z : XKT) : XOi z xInf Y_X5_richest 6 (.inl (i_istore 1 7)) := ok_istore_n dX5_richest_6 rfl
theorem kX5_richest_7 (z : XKT) : XOi z xInf Y_X5_richest 7 (.inl (i_push (vI 1) 8)) := ok_iconst dX5_richest_7 rfl
theorem kX5_richest_8 (z : XKT) : XOi z xInf Y_X5_richest 8 (.inl (i_istore 2 9)) := ok_istore_n dX5_richest_8 rfl
theorem kX5_richest_9 (z : XKT) : XOi z xInf Y_X5_richest 9 (.inl (i_iload 2 10)) := ok_iload_n dX5_richest_9 rfl
theorem kX5_richest_10 (z : XKT) : XOi z xInf Y_X5_richest 10 (.inl (i_aload 0 11)) := ok_aload_n dX5_richest_10 rfl
theorem kX5_richest_11 (z : XKT) : XOi z xInf Y_X5_richest 11 (.inl (i_getr [4] 40 14)) := ok_getr dX5_richest_11 q2517 (List.forall_mem_cons.mpr ⟨⟨_, _, _, _, fd_40_4_0⟩, (fun _ h => absurd h List.not_mem_nil)⟩)
theorem kX5_richest_14 (z : XKT) : XOi z xInf Y_X5_richest 14 (.inl (i_push (vI 4) 15)) := ok_iconst dX5_richest_14 rfl
theorem kX5_richest_15 (z : XKT) : XOi z xInf Y_X5_richest 15 (.inl (i_ald 1000 16)) := ok_iald dX5_richest_15
theorem kX5_richest_16 (z : XKT) : XOi z xInf Y_X5_richest 16 (.inl (i_icmp (fun x y => y ≤ x) 46 19)) := ok_icmp_ge dX5_richest_16 rfl
theorem kX5_richest_19 (z : XKT) : XOi z xInf Y_X5_richest 19 (.inl (i_aload 0 20)) := ok_aload_n dX5_richest_19 rfl
theorem kX5_richest_20 (z : XKT) : XOi z xInf Y_X5_richest 20 (.inl (i_iload 2 21)) := ok_iload_n dX5_richest_20 rfl
theorem kX5_richest_21 (z : XKT) : XOi z xInf Y_X5_richest 21 (.inl (i_push (vI 0) 22)) := ok_iconst dX5_richest_21 rfl
theorem kX5_richest_22 (z : XKT) : XOi z xInf Y_X5_richest 22 (.inr (.inl (25, g_virt [(4, 254)] 2))) := show XOkC z xInf Y_X5_richest 22 25 (g_virt [(4, 254)] 2) from okc_V (q := Y_X5_richest) (List.forall_mem_cons.mpr ⟨(show XOkV z xInf Y_X5_richest 22 25 2 (4, 254) from okv_V (q := Y_X5_richest) (q1 := Y_X5_ofFinder) Z_X5_ofFinder rfl (by decide) ⟨by decide, by decide, Or.inl ⟨_, _, (List.mem_of_getElem? (l := xCls) (i := 3) rfl)⟩⟩ dX5_richest_22 q2630 q2632 qs52 q153 q2633 hy_267), (fun _ h => absurd h List.not_mem_nil)⟩)
theorem kX5_richest_25 (z : XKT) : XOi z xInf Y_X5_richest 25 (.inl (i_aload 0 26)) := ok_aload_n dX5_richest_25 rfl
theorem kX5_richest_26 (z : XKT) : XOi z xInf Y_X5_richest 26 (.inl (i_iload 1 27)) := ok_iload_n dX5_richest_26 rfl
theorem kX5_richest_27 (z : XKT) : XOi z xInf Y_X5_richest 27 (.inl (i_push (vI 0) 28)) := ok_iconst dX5_richest_27 rfl
theorem kX5_richest_28 (z : XKT) : XOi z xInf Y_X5_richest 28 (.inr (.inl (31, g_virt [(4, 254)] 2))) := show XOkC z xInf Y_X5_richest 28 31 (g_virt [(4, 254)] 2) from okc_V (q := Y_X5_richest) (List.forall_mem_cons.mpr ⟨(show XOkV z xInf Y_X5_richest 28 31 2 (4, 254) from okv_V (q := Y_X5_richest) (q1 := Y_X5_ofFinder) Z_X5_ofFinder rfl (by decide) ⟨by decide, by decide, Or.inl ⟨_, _, (List.mem_of_getElem? (l := xCls) (i := 3) rfl)⟩⟩ dX5_richest_28 q2630 q2632 qs52 q153 q2633 hy_267), (fun _ h => absurd h List.not_mem_nil)⟩)
theorem kX5_richest_31 (z : XKT) : XOi z xInf Y_X5_richest 31 (.inl (i_icmp (fun x y => x ≤ y) 38 34)) := ok_icmp_le dX5_richest_31 rfl
theorem kX5_richest_34 (z : XKT) : XOi z xInf Y_X5_richest 34 (.inl (i_iload 2 35)) := ok_iload_n dX5_richest_34 rfl
theorem kX5_richest_35 (z : XKT) : XOi z xInf Y_X5_richest 35 (.inl (i_goto 39)) := ok_goto dX5_richest_35 rfl
theorem kX5_richest_38 (z : XKT) : XOi z xInf Y_X5_richest 38 (.inl (i_iload 1 39)) := ok_iload_n dX5_richest_38 rfl
theorem kX5_richest_39 (z : XKT) : XOi z xInf Y_X5_richest 39 (.inl (i_istore 1 40)) := ok_istore_n dX5_richest_39 rfl
theorem kX5_richest_40 (z : XKT) : XOi z xInf Y_X5_richest 40 (.inl (i_iinc 2 1 43)) := ok_iinc dX5_richest_40 rfl
theorem kX5_richest_43 (z : XKT) : XOi z xInf Y_X5_richest 43 (.inl (i_goto 9)) := ok_goto dX5_richest_43 rfl
theorem kX5_richest_46 (z : XKT) : XOi z xInf Y_X5_richest 46 (.inl (i_iload 1 47)) := ok_iload_n dX5_richest_46 rfl
theorem kX5_richest_47 (z : XKT) : XOi z xInf Y_X5_richest 47 (.inr (.inr (.inl (r_i .int)))) := show XOkR Y_X5_richest 47 ((r_i .int)) from okr_i (q := Y_X5_richest) (ty := .int) rfl rfl dX5_richest_47
theorem o_X5_richest (z : XKT) : XMi z xInf Y_X5_richest := XMi.mk9 (T := T_X5_richest z) rfl (⟨kX5_richest_0 z, ⟨kX5_richest_1 z, ⟨kX5_richest_2 z, ⟨kX5_richest_5 z, ⟨kX5_richest_6 z, ⟨kX5_richest_7 z, ⟨kX5_richest_8 z, ⟨kX5_richest_9 z, ⟨kX5_richest_10 z, ⟨kX5_richest_11 z, ⟨kX5_richest_14 z, ⟨kX5_richest_15 z, ⟨kX5_richest_16 z, ⟨kX5_richest_19 z, ⟨kX5_richest_20 z, ⟨kX5_richest_21 z, ⟨kX5_richest_22 z, ⟨kX5_richest_25 z, ⟨kX5_richest_26 z, ⟨kX5_richest_27 z, ⟨kX5_richest_28 z, ⟨kX5_richest_31 z, ⟨kX5_richest_34 z, ⟨kX5_richest_35 z, ⟨kX5_richest_38 z, ⟨kX5_richest_39 z, ⟨kX5_richest_40 z, ⟨kX5_richest_43 z, ⟨kX5_richest_46 z, ⟨kX5_richest_47 z, trivial⟩⟩⟩⟩⟩⟩⟩⟩⟩⟩⟩⟩⟩⟩⟩⟩⟩⟩⟩⟩⟩⟩⟩⟩⟩⟩⟩⟩⟩⟩) (hd_X5_richest z) rfl rfl (by decide +kernel)
theorem hd_X5_rope (z : XKT) : XHd z Y_X5_rope := xHd_none rfl (xhd0 rfl)
theorem kX5_rope_0 (z : XKT) : XOi z xInf Y_X5_rope 0 (.inl (i_aload 0 1)) := ok_aload_n dX5_rope_0 rfl
theorem kX5_rope_1 (z : XKT) : XOi z xInf Y_X5_rope 1 (.inl (i_aload 0 2)) := ok_aload_n dX5_rope_1 rfl
theorem kX5_rope_2 (z : XKT) : XOi z xInf Y_X5_rope 2 (.inl (i_iload 1 3)) := ok_iload_n dX5_rope_2 rfl
theorem kX5_rope_3 (z : XKT) : XOi z xInf Y_X5_rope 3 (.inr (.inl (6, g_virt [(4, 231)] 1))) := show XOkC z xInf Y_X5_rope 3 6 (g_virt [(4, 231)] 1) from okc_V (q := Y_X5_rope) (List.forall_mem_cons.mpr ⟨(show XOkV z xInf Y_X5_rope 3 6 1 (4, 231) from okv_V (q := Y_X5_rope) (q1 := Y_X5_isFinder) Z_X5_isFinder rfl (by decide) ⟨by decide, by decide, Or.inl ⟨_, _, (List.mem_of_getElem? (l := xCls) (i := 3) rfl)⟩⟩ dX5_rope_3 q2666 q2668 qs58 q153 q2669 hy_298), (fun _ h => absurd h List.not_mem_nil)⟩)
theorem kX5_rope_6 (z : XKT) : XOi z xInf Y_X5_rope 6 (.inl (i_if (fun x => x = 0) 21 9)) := ok_if_eq dX5_rope_6 rfl
theorem kX5_rope_9 (z : XKT) : XOi z xInf Y_X5_rope 9 (.inl (i_aload 0 10)) := ok_aload_n dX5_rope_9 rfl
theorem kX5_rope_10 (z : XKT) : XOi z xInf Y_X5_rope 10 (.inl (i_iload 2 11)) := ok_iload_n dX5_rope_10 rfl
theorem kX5_rope_11 (z : XKT) : XOi z xInf Y_X5_rope 11 (.inr (.inl (14, g_virt [(4, 232)] 1))) := show XOkC z xInf Y_X5_rope 11 14 (g_virt [(4, 232)] 1) from okc_V (q := Y_X5_rope) (List.forall_mem_cons.mpr ⟨(show XOkV z xInf Y_X5_rope 11 14 1 (4, 232) from okv_V (q := Y_X5_rope) (q1 := Y_X5_isGood) Z_X5_isGood rfl (by decide) ⟨by decide, by decide, Or.inl ⟨_, _, (List.mem_of_getElem? (l := xCls) (i := 3) rfl)⟩⟩ dX5_rope_11 q2654 q2656 qs56 q153 q2657 hy_272), (fun _ h => absurd h List.not_mem_nil)⟩)
theorem kX5_rope_14 (z : XKT) : XOi z xInf Y_X5_rope 14 (.inl (i_if (fun x => x = 0) 21 17)) := ok_if_eq dX5_rope_14 rfl
theorem kX5_rope_17 (z : XKT) : XOi z xInf Y_X5_rope 17 (.inl (i_push (vI 1) 18)) := ok_iconst dX5_rope_17 rfl
theorem kX5_rope_18 (z : XKT) : XOi z xInf Y_X5_rope 18 (.inl (i_goto 22)) := ok_goto dX5_rope_18 rfl
theorem kX5_rope_21 (z : XKT) : XOi z xInf Y_X5_rope 21 (.inl (i_push (vI 0) 22)) := ok_iconst dX5_rope_21 rfl
theorem kX5_rope_22 (z : XKT) : XOi z xInf Y_X5_rope 22 (.inr (.inl (25, g_virt [(4, 240)] 1))) := show XOkC z xInf Y_X5_rope 22 25 (g_virt [(4, 240)] 1) from okc_V (q := Y_X5_rope) (List.forall_mem_cons.mpr ⟨(show XOkV z xInf Y_X5_rope 22 25 1 (4, 240) from okv_V (q := Y_X5_rope) (q1 := Y_X5_lacks) Z_X5_lacks rfl (by decide) ⟨by decide, by decide, Or.inl ⟨_, _, (List.mem_of_getElem? (l := xCls) (i := 3) rfl)⟩⟩ dX5_rope_22 q2606 q2608 qs46 q153 q2609 hy_262), (fun _ h => absurd h List.not_mem_nil)⟩)
theorem kX5_rope_25 (z : XKT) : XOi z xInf Y_X5_rope 25 (.inl (i_if (fun x => x = 0) 30 28)) := ok_if_eq dX5_rope_25 rfl
theorem kX5_rope_28 (z : XKT) : XOi z xInf Y_X5_rope 28 (.inl (i_push (vI 0) 29)) := ok_iconst dX5_rope_28 rfl
theorem kX5_rope_29 (z : XKT) : XOi z xInf Y_X5_rope 29 (.inr (.inr (.inl (r_i .int)))) := show XOkR Y_X5_rope 29 ((r_i .int)) from okr_i (q := Y_X5_rope) (ty := .int) rfl rfl dX5_rope_29
theorem kX5_rope_30 (z : XKT) : XOi z xInf Y_X5_rope 30 (.inl (i_aload 0 31)) := ok_aload_n dX5_rope_30 rfl
theorem kX5_rope_31 (z : XKT) : XOi z xInf Y_X5_rope 31 (.inr (.inl (34, g_virt [(4, 238)] 0))) := show XOkC z xInf Y_X5_rope 31 34 (g_virt [(4, 238)] 0) from okc_V (q := Y_X5_rope) (List.forall_mem_cons.mpr ⟨(show XOkV z xInf Y_X5_rope 31 34 0 (4, 238) from okv_V (q := Y_X5_rope) (q1 := Y_X5_keep) Z_X5_keep rfl (by decide) ⟨by decide, by decide, Or.inl ⟨_, _, (List.mem_of_getElem? (l := xCls) (i := 3) rfl)⟩⟩ dX5_rope_31 q2878 q2880 qs79 q153 q2881 hy_276), (fun _ h => absurd h List.not_mem_nil)⟩)
theorem kX5_rope_34 (z : XKT) : XOi z xInf Y_X5_rope 34 (.inl (i_aload 0 35)) := ok_aload_n dX5_rope_34 rfl
theorem kX5_rope_35 (z : XKT) : XOi z xInf Y_X5_rope 35 (.inl (i_aload 0 36)) := ok_aload_n dX5_rope_35 rfl
theorem kX5_rope_36 (z : XKT) : XOi z xInf Y_X5_rope 36 (.inl (i_iload 1 37)) := ok_iload_n dX5_rope_36 rfl
theorem kX5_rope_37 (z : XKT) : XOi z xInf Y_X5_rope 37 (.inl (i_iload 2 38)) := ok_iload_n dX5_rope_37 rfl
theorem kX5_rope_38 (z : XKT) : XOi z xInf Y_X5_rope 38 (.inr (.inl (41, g_virt [(4, 205)] 2))) := show XOkC z xInf Y_X5_rope 38 41 (g_virt [(4, 205)] 2) from okc_V (q := Y_X5_rope) (List.forall_mem_cons.mpr ⟨(show XOkV z xInf Y_X5_rope 38 41 2 (4, 205) from okv_V (q := Y_X5_rope) (q1 := Y_X5_doRope) Z_X5_doRope rfl (by decide) ⟨by decide, by decide, Or.inl ⟨_, _, (List.mem_of_getElem? (l := xCls) (i := 3) rfl)⟩⟩ dX5_rope_38 q2886 q2888 qs80 q153 q2889 hy_299), (fun _ h => absurd h List.not_mem_nil)⟩)
theorem kX5_rope_41 (z : XKT) : XOi z xInf Y_X5_rope 41 (.inr (.inl (44, g_virt [(4, 275)] 1))) := show XOkC z xInf Y_X5_rope 41 44 (g_virt [(4, 275)] 1) from okc_V (q := Y_X5_rope) (List.forall_mem_cons.mpr ⟨(show XOkV z xInf Y_X5_rope 41 44 1 (4, 275) from okv_V (q := Y_X5_rope) (q1 := Y_X5_recorded) Z_X5_recorded rfl (by decide) ⟨by decide, by decide, Or.inl ⟨_, _, (List.mem_of_getElem? (l := xCls) (i := 3) rfl)⟩⟩ dX5_rope_41 q2902 q2904 qs84 q153 q2905 hy_278), (fun _ h => absurd h List.not_mem_nil)⟩)
theorem kX5_rope_44 (z : XKT) : XOi z xInf Y_X5_rope 44 (.inr (.inr (.inl (r_i .int)))) := show XOkR Y_X5_rope 44 ((r_i .int)) from okr_i (q := Y_X5_rope) (ty := .int) rfl rfl dX5_rope_44
theorem o_X5_rope (z : XKT) : XMi z xInf Y_X5_rope := XMi.mk9 (T := T_X5_rope z) rfl (⟨kX5_rope_0 z, ⟨kX5_rope_1 z, ⟨kX5_rope_2 z, ⟨kX5_rope_3 z, ⟨kX5_rope_6 z, ⟨kX5_rope_9 z, ⟨kX5_rope_10 z, ⟨kX5_rope_11 z, ⟨kX5_rope_14 z, ⟨kX5_rope_17 z, ⟨kX5_rope_18 z, ⟨kX5_rope_21 z, ⟨kX5_rope_22 z, ⟨kX5_rope_25 z, ⟨kX5_rope_28 z, ⟨kX5_rope_29 z, ⟨kX5_rope_30 z, ⟨kX5_rope_31 z, ⟨kX5_rope_34 z, ⟨kX5_rope_35 z, ⟨kX5_rope_36 z, ⟨kX5_rope_37 z, ⟨kX5_rope_38 z, ⟨kX5_rope_41 z, ⟨kX5_rope_44 z, trivial⟩⟩⟩⟩⟩⟩⟩⟩⟩⟩⟩⟩⟩⟩⟩⟩⟩⟩⟩⟩⟩⟩⟩⟩⟩) (hd_X5_rope z) rfl rfl (by decide +kernel)
theorem hd_X5_salvageOf (z : XKT) : XHd z Y_X5_salvageOf := xHd_none rfl (xhd0 rfl)
theorem kX5_salvageOf_0 (z : XKT) : XOi z xInf Y_X5_salvageOf 0 (.inl (i_aload 0 1)) := ok_aload_n dX5_salvageOf_0 rfl
theorem kX5_salvageOf_1 (z : XKT) : XOi z xInf Y_X5_salvageOf 1 (.inl (i_iload 1 2)) := ok_iload_n dX5_salvageOf_1 rfl
theorem kX5_salvageOf_2 (z : XKT) : XOi z xInf Y_X5_salvageOf 2 (.inl (i_push (vI 1) 3)) := ok_iconst dX5_salvageOf_2 rfl
theorem kX5_salvageOf_3 (z : XKT) : XOi z xInf Y_X5_salvageOf 3 (.inr (.inl (6, g_virt [(4, 253)] 2))) := show XOkC z xInf Y_X5_salvageOf 3 6 (g_virt [(4, 253)] 2) from okc_V (q := Y_X5_salvageOf) (List.forall_mem_cons.mpr ⟨(show XOkV z xInf Y_X5_salvageOf 3 6 2 (4, 253) from okv_V (q := Y_X5_salvageOf) (q1 := Y_X5_of) Z_X5_of rfl (by decide) ⟨by decide, by decide, Or.inl ⟨_, _, (List.mem_of_getElem? (l := xCls) (i := 3) rfl)⟩⟩ dX5_salvageOf_3 q2622 q2624 qs50 q153 q2625 hy_265), (fun _ h => absurd h List.not_mem_nil)⟩)
theorem kX5_salvageOf_6 (z : XKT) : XOi z xInf Y_X5_salvageOf 6 (.inl (i_aload 0 7)) := ok_aload_n dX5_salvageOf_6 rfl
theorem kX5_salvageOf_7 (z : XKT) : XOi z xInf Y_X5_salvageOf 7 (.inl (i_getr [4] 36 10)) := ok_getr dX5_salvageOf_7 q2513 (List.forall_mem_cons.mpr ⟨⟨_, _, _, _, fd_36_4_0⟩, (fun _ h => absurd h List.not_mem_nil)⟩)
theorem kX5_salvageOf_10 (z : XKT) : XOi z xInf Y_X5_salvageOf 10 (.inl (i_aload 0 11)) := ok_aload_n dX5_salvageOf_10 rfl
theorem kX5_salvageOf_11 (z : XKT) : XOi z xInf Y_X5_salvageOf 11 (.inl (i_iload 1 12)) := ok_iload_n dX5_salvageOf_11 rfl
theorem kX5_salvageOf_12 (z : XKT) : XOi z xInf Y_X5_salvageOf 12 (.inl (i_push (vI 0) 13)) := ok_iconst dX5_salvageOf_12 rfl
theorem kX5_salvageOf_13 (z : XKT) : XOi z xInf Y_X5_salvageOf 13 (.inr (.inl (16, g_virt [(4, 253)] 2))) := show XOkC z xInf Y_X5_salvageOf 13 16 (g_virt [(4, 253)] 2) from okc_V (q := Y_X5_salvageOf) (List.forall_mem_cons.mpr ⟨(show XOkV z xInf Y_X5_salvageOf 13 16 2 (4, 253) from okv_V (q := Y_X5_salvageOf) (q1 := Y_X5_of) Z_X5_of rfl (by decide) ⟨by decide, by decide, Or.inl ⟨_, _, (List.mem_of_getElem? (l := xCls) (i := 3) rfl)⟩⟩ dX5_salvageOf_13 q2622 q2624 qs50 q153 q2625 hy_265), (fun _ h => absurd h List.not_mem_nil)⟩)
theorem kX5_salvageOf_16 (z : XKT) : XOi z xInf Y_X5_salvageOf 16 (.inl (i_ald 1000 17)) := ok_iald dX5_salvageOf_16
theorem kX5_salvageOf_17 (z : XKT) : XOi z xInf Y_X5_salvageOf 17 (.inl (i_bin (fun x y => x * y) 18)) := ok_imul dX5_salvageOf_17
theorem kX5_salvageOf_18 (z : XKT) : XOi z xInf Y_X5_salvageOf 18 (.inl (i_push (vI 100) 20)) := ok_bipush dX5_salvageOf_18 rfl
theorem kX5_salvageOf_20 (z : XKT) : XOi z xInf Y_X5_salvageOf 20 (.inl (i_quo (fun x y => x / y) 21)) := ok_idiv dX5_salvageOf_20
theorem kX5_salvageOf_21 (z : XKT) : XOi z xInf Y_X5_salvageOf 21 (.inr (.inr (.inl (r_i .int)))) := show XOkR Y_X5_salvageOf 21 ((r_i .int)) from okr_i (q := Y_X5_salvageOf) (ty := .int) rfl rfl dX5_salvageOf_21
theorem o_X5_salvageOf (z : XKT) : XMi z xInf Y_X5_salvageOf := XMi.mk9 (T := T_X5_salvageOf z) rfl (⟨kX5_salvageOf_0 z, ⟨kX5_salvageOf_1 z, ⟨kX5_salvageOf_2 z, ⟨kX5_salvageOf_3 z, ⟨kX5_salvageOf_6 z, ⟨kX5_salvageOf_7 z, ⟨kX5_salvageOf_10 z, ⟨kX5_salvageOf_11 z, ⟨kX5_salvageOf_12 z, ⟨kX5_salvageOf_13 z, ⟨kX5_salvageOf_16 z, ⟨kX5_salvageOf_17 z, ⟨kX5_salvageOf_18 z, ⟨kX5_salvageOf_20 z, ⟨kX5_salvageOf_21 z, trivial⟩⟩⟩⟩⟩⟩⟩⟩⟩⟩⟩⟩⟩⟩⟩) (hd_X5_salvageOf z) rfl rfl (by decide +kernel)
theorem hd_X5_saveSnapshot (z : XKT) : XHd z Y_X5_saveSnapshot := xHd_none rfl (xhd0 rfl)
theorem kX5_saveSnapshot_0 (z : XKT) : XOi z xInf Y_X5_saveSnapshot 0 (.inl (i_aload 0 1)) := ok_aload_n dX5_saveSnapshot_0 rfl
theorem kX5_saveSnapshot_1 (z : XKT) : XOi z xInf Y_X5_saveSnapshot 1 (.inl (i_push (vI 0) 2)) := ok_iconst dX5_saveSnapshot_1 rfl
theorem kX5_saveSnapshot_2 (z : XKT) : XOi z xInf Y_X5_saveSnapshot 2 (.inl (i_puti z.1 [4] .int 42 5)) := ok_puti dX5_saveSnapshot_2 q2519 rfl (List.forall_mem_cons.mpr ⟨⟨_, _, _, _, tyX5, fd_42_4_0, ⟨tyX5_ok, nmX5, (Or.inl rfl)⟩, rfl⟩, (fun _ h => absurd h List.not_mem_nil)⟩)
theorem kX5_saveSnapshot_5 (z : XKT) : XOi z xInf Y_X5_saveSnapshot 5 (.inl (i_aload 0 6)) := ok_aload_n dX5_saveSnapshot_5 rfl
theorem kX5_saveSnapshot_6 (z : XKT) : XOi z xInf Y_X5_saveSnapshot 6 (.inl (i_getr [4] 30 9)) := ok_getr dX5_saveSnapshot_6 q2507 (List.forall_mem_cons.mpr ⟨⟨_, _, _, _, fd_30_4_0⟩, (fun _ h => absurd h List.not_mem_nil)⟩)
theorem kX5_saveSnapshot_9 (z : XKT) : XOi z xInf Y_X5_saveSnapshot 9 (.inl (i_push (vI 0) 10)) := ok_iconst dX5_saveSnapshot_9 rfl
theorem kX5_saveSnapshot_10 (z : XKT) : XOi z xInf Y_X5_saveSnapshot 10 (.inl (i_aload 0 11)) := ok_aload_n dX5_saveSnapshot_10 rfl
theorem kX5_saveSnapshot_11 (z : XKT) : XOi z xInf Y_X5_saveSnapshot 11 (.inl (i_getr [4] 33 14)) := ok_getr dX5_saveSnapshot_11 q2510 (List.forall_mem_cons.mpr ⟨⟨_, _, _, _, fd_33_4_0⟩, (fun _ h => absurd h List.not_mem_nil)⟩)
theorem kX5_saveSnapshot_14 (z : XKT) : XOi z xInf Y_X5_saveSnapshot 14 (.inl (i_push (vI 0) 15)) := ok_iconst dX5_saveSnapshot_14 rfl
theorem kX5_saveSnapshot_15 (z : XKT) : XOi z xInf Y_X5_saveSnapshot 15 (.inr (.inl (18, g_stat 183 4))) := show XOkC z xInf Y_X5_saveSnapshot 15 18 (g_stat 183 4) from okc_S (q := Y_X5_saveSnapshot) (q1 := Y_X5_copy) Z_X5_copy rfl (by decide) dX5_saveSnapshot_15 q2882 q2883 q153 q2884 hy_318
theorem kX5_saveSnapshot_18 (z : XKT) : XOi z xInf Y_X5_saveSnapshot 18 (.inl (i_aload 0 19)) := ok_aload_n dX5_saveSnapshot_18 rfl
theorem kX5_saveSnapshot_19 (z : XKT) : XOi z xInf Y_X5_saveSnapshot 19 (.inl (i_push (vI 1) 20)) := ok_iconst dX5_saveSnapshot_19 rfl
theorem kX5_saveSnapshot_20 (z : XKT) : XOi z xInf Y_X5_saveSnapshot 20 (.inl (i_puti z.1 [4] .boolean 43 23)) := ok_puti dX5_saveSnapshot_20 q2520 rfl (List.forall_mem_cons.mpr ⟨⟨_, _, _, _, tyX5, fd_43_4_0, ⟨tyX5_ok, nmX5, (Or.inl rfl)⟩, rfl⟩, (fun _ h => absurd h List.not_mem_nil)⟩)
theorem kX5_saveSnapshot_23 (z : XKT) : XOi z xInf Y_X5_saveSnapshot 23 (.inr (.inr (.inl r_v))) := show XOkR Y_X5_saveSnapshot 23 (r_v) from okr_v (q := Y_X5_saveSnapshot) rfl dX5_saveSnapshot_23
theorem o_X5_saveSnapshot (z : XKT) : XMi z xInf Y_X5_saveSnapshot := XMi.mk9 (T := T_X5_saveSnapshot z) rfl (⟨kX5_saveSnapshot_0 z, ⟨kX5_saveSnapshot_1 z, ⟨kX5_saveSnapshot_2 z, ⟨kX5_saveSnapshot_5 z, ⟨kX5_saveSnapshot_6 z, ⟨kX5_saveSnapshot_9 z, ⟨kX5_saveSnapshot_10 z, ⟨kX5_saveSnapshot_11 z, ⟨kX5_saveSnapshot_14 z, ⟨kX5_saveSnapshot_15 z, ⟨kX5_saveSnapshot_18 z, ⟨kX5_saveSnapshot_19 z, ⟨kX5_saveSnapshot_20 z, ⟨kX5_saveSnapshot_23 z, trivial⟩⟩⟩⟩⟩⟩⟩⟩⟩⟩⟩⟩⟩⟩) (hd_X5_saveSnapshot z) rfl rfl (by decide +kernel)
theorem hd_X5_savedShare (z : XKT) : XHd z Y_X5_savedShare := xHd_none rfl (xhd0 rfl)
theorem kX5_savedShare_0 (z : XKT) : XOi z xInf Y_X5_savedShare 0 (.inl (i_aload 0 1)) := ok_aload_n dX5_savedShare_0 rfl
theorem kX5_savedShare_1 (z : XKT) : XOi z xInf Y_X5_savedShare 1 (.inl (i_push (vI 0) 2)) := ok_iconst dX5_savedShare_1 rfl
theorem kX5_savedShare_2 (z : XKT) : XOi z xInf Y_X5_savedShare 2 (.inl (i_puti z.1 [4] .int 42 5)) := ok_puti dX5_savedShare_2 q2519 rfl (List.forall_mem_cons.mpr ⟨⟨_, _, _, _, tyX5, fd_42_4_0, ⟨tyX5_ok, nmX5, (Or.inl rfl)⟩, rfl⟩, (fun _ h => absurd h List.not_mem_nil)⟩)
theorem kX5_savedShare_5 (z : XKT) : XOi z xInf Y_X5_savedShare 5 (.inl (i_aload 0 6)) := ok_aload_n dX5_savedShare_5 rfl
theorem kX5_savedShare_6 (z : XKT) : XOi z xInf Y_X5_savedShare 6 (.inl (i_push (vI 4) 7)) := ok_iconst dX5_savedShare_6 rfl
theorem kX5_savedShare_7 (z : XKT) : XOi z xInf Y_X5_savedShare 7 (.inr (.inl (10, g_virt [(4, 290)] 1))) := show XOkC z xInf Y_X5_savedShare 7 10 (g_virt [(4, 290)] 1) from okc_V (q := Y_X5_savedShare) (List.forall_mem_cons.mpr ⟨(show XOkV z xInf Y_X5_savedShare 7 10 1 (4, 290) from okv_V (q := Y_X5_savedShare) (q1 := Y_X5_tallied) Z_X5_tallied rfl (by decide) ⟨by decide, by decide, Or.inl ⟨_, _, (List.mem_of_getElem? (l := xCls) (i := 3) rfl)⟩⟩ dX5_savedShare_7 q2646 q2648 qs55 q153 q2649 hy_263), (fun _ h => absurd h List.not_mem_nil)⟩)
theorem kX5_savedShare_10 (z : XKT) : XOi z xInf Y_X5_savedShare 10 (.inl (i_aload 0 11)) := ok_aload_n dX5_savedShare_10 rfl
theorem kX5_savedShare_11 (z : XKT) : XOi z xInf Y_X5_savedShare 11 (.inl (i_push (vI 8) 13)) := ok_bipush dX5_savedShare_11 rfl
theorem kX5_savedShare_13 (z : XKT) : XOi z xInf Y_X5_savedShare 13 (.inr (.inl (16, g_virt [(4, 290)] 1))) := show XOkC z xInf Y_X5_savedShare 13 16 (g_virt [(4, 290)] 1) from okc_V (q := Y_X5_savedShare) (List.forall_mem_cons.mpr ⟨(show XOkV z xInf Y_X5_savedShare 13 16 1 (4, 290) from okv_V (q := Y_X5_savedShare) (q1 := Y_X5_tallied) Z_X5_tallied rfl (by decide) ⟨by decide, by decide, Or.inl ⟨_, _, (List.mem_of_getElem? (l := xCls) (i := 3) rfl)⟩⟩ dX5_savedShare_13 q2646 q2648 qs55 q153 q2649 hy_263), (fun _ h => absurd h List.not_mem_nil)⟩)
theorem kX5_savedShare_16 (z : XKT) : XOi z xInf Y_X5_savedShare 16 (.inl (i_bin (fun x y => x + y) 17)) := ok_iadd dX5_savedShare_16
theorem kX5_savedShare_17 (z : XKT) : XOi z xInf Y_X5_savedShare 17 (.inl (i_istore 1 18)) := ok_istore_n dX5_savedShare_17 rfl
theorem kX5_savedShare_18 (z : XKT) : XOi z xInf Y_X5_savedShare 18 (.inl (i_iload 1 19)) := ok_iload_n dX5_savedShare_18 rfl
theorem kX5_savedShare_19 (z : XKT) : XOi z xInf Y_X5_savedShare 19 (.inl (i_if (fun x => ¬ x = 0) 26 22)) := ok_if_ne dX5_savedShare_19 rfl
theorem kX5_savedShare_22 (z : XKT) : XOi z xInf Y_X5_savedShare 22 (.inl (i_push (vF 0) 23)) := ok_fconst dX5_savedShare_22
theorem kX5_savedShare_23 (z : XKT) : XOi z xInf Y_X5_savedShare 23 (.inl (i_goto 35)) := ok_goto dX5_savedShare_23 rfl
theorem kX5_savedShare_26 (z : XKT) : XOi z xInf Y_X5_savedShare 26 (.inl (i_aload 0 27)) := ok_aload_n dX5_savedShare_26 rfl
theorem kX5_savedShare_27 (z : XKT) : XOi z xInf Y_X5_savedShare 27 (.inl (i_push (vI 4) 28)) := ok_iconst dX5_savedShare_27 rfl
theorem kX5_savedShare_28 (z : XKT) : XOi z xInf Y_X5_savedShare 28 (.inr (.inl (31, g_virt [(4, 290)] 1))) := show XOkC z xInf Y_X5_savedShare 28 31 (g_virt [(4, 290)] 1) from okc_V (q := Y_X5_savedShare) (List.forall_mem_cons.mpr ⟨(show XOkV z xInf Y_X5_savedShare 28 31 1 (4, 290) from okv_V (q := Y_X5_savedShare) (q1 := Y_X5_tallied) Z_X5_tallied rfl (by decide) ⟨by decide, by decide, Or.inl ⟨_, _, (List.mem_of_getElem? (l := xCls) (i := 3) rfl)⟩⟩ dX5_savedShare_28 q2646 q2648 qs55 q153 q2649 hy_263), (fun _ h => absurd h List.not_mem_nil)⟩)
theorem kX5_savedShare_31 (z : XKT) : XOi z xInf Y_X5_savedShare 31 (.inl (i_i2f 32)) := ok_i2f dX5_savedShare_31
theorem kX5_savedShare_32 (z : XKT) : XOi z xInf Y_X5_savedShare 32 (.inl (i_iload 1 33)) := ok_iload_n dX5_savedShare_32 rfl
theorem kX5_savedShare_33 (z : XKT) : XOi z xInf Y_X5_savedShare 33 (.inl (i_i2f 34)) := ok_i2f dX5_savedShare_33
theorem kX5_savedShare_34 (z : XKT) : XOi z xInf Y_X5_savedShare 34 (.inl (i_fdiv 35)) := ok_fdiv dX5_savedShare_34
theorem kX5_savedShare_35 (z : XKT) : XOi z xInf Y_X5_savedShare 35 (.inr (.inr (.inl r_f))) := show XOkR Y_X5_savedShare 35 (r_f) from okr_f (q := Y_X5_savedShare) rfl dX5_savedShare_35
theorem o_X5_savedShare (z : XKT) : XMi z xInf Y_X5_savedShare := XMi.mk9 (T := T_X5_savedShare z) rfl (⟨kX5_savedShare_0 z, ⟨kX5_savedShare_1 z, ⟨kX5_savedShare_2 z, ⟨kX5_savedShare_5 z, ⟨kX5_savedShare_6 z, ⟨kX5_savedShare_7 z, ⟨kX5_savedShare_10 z, ⟨kX5_savedShare_11 z, ⟨kX5_savedShare_13 z, ⟨kX5_savedShare_16 z, ⟨kX5_savedShare_17 z, ⟨kX5_savedShare_18 z, ⟨kX5_savedShare_19 z, ⟨kX5_savedShare_22 z, ⟨kX5_savedShare_23 z, ⟨kX5_savedShare_26 z, ⟨kX5_savedShare_27 z, ⟨kX5_savedShare_28 z, ⟨kX5_savedShare_31 z, ⟨kX5_savedShare_32 z, ⟨kX5_savedShare_33 z, ⟨kX5_savedShare_34 z, ⟨kX5_savedShare_35 z, trivial⟩⟩⟩⟩⟩⟩⟩⟩⟩⟩⟩⟩⟩⟩⟩⟩⟩⟩⟩⟩⟩⟩⟩) (hd_X5_savedShare z) rfl rfl (by decide +kernel)
theorem hd_X5_scan (z : XKT) : XHd z Y_X5_scan := xHd_none rfl (xhd0 rfl)
theorem kX5_scan_0 (z : XKT) : XOi z xInf Y_X5_scan 0 (.inl (i_aload 0 1)) := ok_aload_n dX5_scan_0 rfl
theorem kX5_scan_1 (z : XKT) : XOi z xInf Y_X5_scan 1 (.inl (i_aload 0 2)) := ok_aload_n dX5_scan_1 rfl
theorem kX5_scan_2 (z : XKT) : XOi z xInf Y_X5_scan 2 (.inl (i_geti [4] 49 5)) := ok_geti dX5_scan_2 q2526 (List.forall_mem_cons.mpr ⟨⟨_, _, _, _, fd_49_4_0⟩, (fun _ h => absurd h List.not_mem_nil)⟩)
theorem kX5_scan_5 (z : XKT) : XOi z xInf Y_X5_scan 5 (.inr (.inl (8, g_virt [(4, 176)] 1))) := show XOkC z xInf Y_X5_scan 5 8 (g_virt [(4, 176)] 1) from okc_V (q := Y_X5_scan) (List.forall_mem_cons.mpr ⟨(show XOkV z xInf Y_X5_scan 5 8 1 (4, 176) from okv_V (q := Y_X5_scan) (q1 := Y_X5_byteAt) Z_X5_byteAt rfl (by decide) ⟨by decide, by decide, Or.inl ⟨_, _, (List.mem_of_getElem? (l := xCls) (i := 3) rfl)⟩⟩ dX5_scan_5 q3050 q3052 qs104 q153 q3053 hy_316), (fun _ h => absurd h List.not_mem_nil)⟩)
theorem kX5_scan_8 (z : XKT) : XOi z xInf Y_X5_scan 8 (.inl (i_push (vI 32) 10)) := ok_bipush dX5_scan_8 rfl
theorem kX5_scan_10 (z : XKT) : XOi z xInf Y_X5_scan 10 (.inl (i_icmp (fun x y => x = y) 26 13)) := ok_icmp_eq dX5_scan_10 rfl
theorem kX5_scan_13 (z : XKT) : XOi z xInf Y_X5_scan 13 (.inl (i_aload 0 14)) := ok_aload_n dX5_scan_13 rfl
theorem kX5_scan_14 (z : XKT) : XOi z xInf Y_X5_scan 14 (.inl (i_aload 0 15)) := ok_aload_n dX5_scan_14 rfl
theorem kX5_scan_15 (z : XKT) : XOi z xInf Y_X5_scan 15 (.inl (i_geti [4] 49 18)) := ok_geti dX5_scan_15 q2526 (List.forall_mem_cons.mpr ⟨⟨_, _, _, _, fd_49_4_0⟩, (fun _ h => absurd h List.not_mem_nil)⟩)
theorem kX5_scan_18 (z : XKT) : XOi z xInf Y_X5_scan 18 (.inr (.inl (21, g_virt [(4, 176)] 1))) := show XOkC z xInf Y_X5_scan 18 21 (g_virt [(4, 176)] 1) from okc_V (q := Y_X5_scan) (List.forall_mem_cons.mpr ⟨(show XOkV z xInf Y_X5_scan 18 21 1 (4, 176) from okv_V (q := Y_X5_scan) (q1 := Y_X5_byteAt) Z_X5_byteAt rfl (by decide) ⟨by decide, by decide, Or.inl ⟨_, _, (List.mem_of_getElem? (l := xCls) (i := 3) rfl)⟩⟩ dX5_scan_18 q3050 q3052 qs104 q153 q3053 hy_316), (fun _ h => absurd h List.not_mem_nil)⟩)
theorem kX5_scan_21 (z : XKT) : XOi z xInf Y_X5_scan 21 (.inl (i_push (vI 10) 23)) := ok_bipush dX5_scan_21 rfl
theorem kX5_scan_23 (z : XKT) : XOi z xInf Y_X5_scan 23 (.inl (i_icmp (fun x y => ¬ x = y) 39 26)) := ok_icmp_ne dX5_scan_23 rfl
theorem kX5_scan_26 (z : XKT) : XOi z xInf Y_X5_scan 26 (.inl (i_aload 0 27)) := ok_aload_n dX5_scan_26 rfl
theorem kX5_scan_27 (z : XKT) : XOi z xInf Y_X5_scan 27 (.inl (i_dup 28)) := ok_dup dX5_scan_27
theorem kX5_scan_28 (z : XKT) : XOi z xInf Y_X5_scan 28 (.inl (i_geti [4] 49 31)) := ok_geti dX5_scan_28 q2526 (List.forall_mem_cons.mpr ⟨⟨_, _, _, _, fd_49_4_0⟩, (fun _ h => absurd h List.not_mem_nil)⟩)
theorem kX5_scan_31 (z : XKT) : XOi z xInf Y_X5_scan 31 (.inl (i_push (vI 1) 32)) := ok_iconst dX5_scan_31 rfl
theorem kX5_scan_32 (z : XKT) : XOi z xInf Y_X5_scan 32 (.inl (i_bin (fun x y => x + y) 33)) := ok_iadd dX5_scan_32
theorem kX5_scan_33 (z : XKT) : XOi z xInf Y_X5_scan 33 (.inl (i_puti z.1 [4] .int 49 36)) := ok_puti dX5_scan_33 q2526 rfl (List.forall_mem_cons.mpr ⟨⟨_, _, _, _, tyX5, fd_49_4_0, ⟨tyX5_ok, nmX5, (Or.inl rfl)⟩, rfl⟩, (fun _ h => absurd h List.not_mem_nil)⟩)
theorem kX5_scan_36 (z : XKT) : XOi z xInf Y_X5_scan 36 (.inl (i_goto 0)) := ok_goto dX5_scan_36 rfl
theorem kX5_scan_39 (z : XKT) : XOi z xInf Y_X5_scan 39 (.inl (i_aload 0 40)) := ok_aload_n dX5_scan_39 rfl
theorem kX5_scan_40 (z : XKT) : XOi z xInf Y_X5_scan 40 (.inl (i_aload 0 41)) := ok_aload_n dX5_scan_40 rfl
theorem kX5_scan_41 (z : XKT) : XOi z xInf Y_X5_scan 41 (.inl (i_geti [4] 49 44)) := ok_geti dX5_scan_41 q2526 (List.forall_mem_cons.mpr ⟨⟨_, _, _, _, fd_49_4_0⟩, (fun _ h => absurd h List.not_mem_nil)⟩)
theorem kX5_scan_44 (z : XKT) : XOi z xInf Y_X5_scan 44 (.inl (i_puti z.1 [4] .int 50 47)) := ok_puti dX5_scan_44 q2527 rfl (List.forall_mem_cons.mpr ⟨⟨_, _, _, _, tyX5, fd_50_4_0, ⟨tyX5_ok, nmX5, (Or.inl rfl)⟩, rfl⟩, (fun _ h => absurd h List.not_mem_nil)⟩)
theorem kX5_scan_47 (z : XKT) : XOi z xInf Y_X5_scan 47 (.inl (i_aload 0 48)) := ok_aload_n dX5_scan_47 rfl
theorem kX5_scan_48 (z : XKT) : XOi z xInf Y_X5_scan 48 (.inl (i_geti [4] 49 51)) := ok_geti dX5_scan_48 q2526 (List.forall_mem_cons.mpr ⟨⟨_, _, _, _, fd_49_4_0⟩, (fun _ h => absurd h List.not_mem_nil)⟩)
theorem kX5_scan_51 (z : XKT) : XOi z xInf Y_X5_scan 51 (.inl (i_aload 0 52)) := ok_aload_n dX5_scan_51 rfl
theorem kX5_scan_52 (z : XKT) : XOi z xInf Y_X5_scan 52 (.inl (i_geti [4] 48 55)) := ok_geti dX5_scan_52 q2525 (List.forall_mem_cons.mpr ⟨⟨_, _, _, _, fd_48_4_0⟩, (fun _ h => absurd h List.not_mem_nil)⟩)
theorem kX5_scan_55 (z : XKT) : XOi z xInf Y_X5_scan 55 (.inl (i_icmp (fun x y => x < y) 66 58)) := ok_icmp_lt dX5_scan_55 rfl
theorem kX5_scan_58 (z : XKT) : XOi z xInf Y_X5_scan 58 (.inl (i_aload 0 59)) := ok_aload_n dX5_scan_58 rfl
theorem kX5_scan_59 (z : XKT) : XOi z xInf Y_X5_scan 59 (.inl (i_push (vI 0) 60)) := ok_iconst dX5_scan_59 rfl
theorem kX5_scan_60 (z : XKT) : XOi z xInf Y_X5_scan 60 (.inl (i_puti z.1 [4] .int 51 63)) := ok_puti dX5_scan_60 q2528 rfl (List.forall_mem_cons.mpr ⟨⟨_, _, _, _, tyX5, fd_51_4_0, ⟨tyX5_ok, nmX5, (Or.inl rfl)⟩, rfl⟩, (fun _ h => absurd h List.not_mem_nil)⟩)
theorem kX5_scan_63 (z : XKT) : XOi z xInf Y_X5_scan 63 (.inl (i_goto 167)) := ok_goto dX5_scan_63 rfl
theorem kX5_scan_66 (z : XKT) : XOi z xInf Y_X5_scan 66 (.inl (i_aload 0 67)) := ok_aload_n dX5_scan_66 rfl
theorem kX5_scan_67 (z : XKT) : XOi z xInf Y_X5_scan 67 (.inl (i_aload 0 68)) := ok_aload_n dX5_scan_67 rfl
theorem kX5_scan_68 (z : XKT) : XOi z xInf Y_X5_scan 68 (.inl (i_geti [4] 49 71)) := ok_geti dX5_scan_68 q2526 (List.forall_mem_cons.mpr ⟨⟨_, _, _, _, fd_49_4_0⟩, (fun _ h => absurd h List.not_mem_nil)⟩)
theorem kX5_scan_71 (z : XKT) : XOi z xInf Y_X5_scan 71 (.inr (.inl (74, g_virt [(4, 234)] 1))) := show XOkC z xInf Y_X5_scan 71 74 (g_virt [(4, 234)] 1) from okc_V (q := Y_X5_scan) (List.forall_mem_cons.mpr ⟨(show XOkV z xInf Y_X5_scan 71 74 1 (4, 234) from okv_V (q := Y_X5_scan) (q1 := Y_X5_isLetter) Z_X5_isLetter rfl (by decide) ⟨by decide, by decide, Or.inl ⟨_, _, (List.mem_of_getElem? (l := xCls) (i := 3) rfl)⟩⟩ dX5_scan_71 q3054 q3056 qs105 q153 q3057 hy_338), (fun _ h => absurd h List.not_mem_nil)⟩)
theorem kX5_scan_74 (z : XKT) : XOi z xInf Y_X5_scan 74 (.inl (i_if (fun x => x = 0) 109 77)) := ok_if_eq dX5_scan_74 rfl
theorem kX5_scan_77 (z : XKT) : XOi z xInf Y_X5_scan 77 (.inl (i_aload 0 78)) := ok_aload_n dX5_scan_77 rfl
theorem kX5_scan_78 (z : XKT) : XOi z xInf Y_X5_scan 78 (.inl (i_aload 0 79)) := ok_aload_n dX5_scan_78 rfl
theorem kX5_scan_79 (z : XKT) : XOi z xInf Y_X5_scan 79 (.inl (i_geti [4] 49 82)) := ok_geti dX5_scan_79 q2526 (List.forall_mem_cons.mpr ⟨⟨_, _, _, _, fd_49_4_0⟩, (fun _ h => absurd h List.not_mem_nil)⟩)
theorem kX5_scan_82 (z : XKT) : XOi z xInf Y_X5_scan 82 (.inr (.inl (85, g_virt [(4, 234)] 1))) := show XOkC z xInf Y_X5_scan 82 85 (g_virt [(4, 234)] 1) from okc_V (q := Y_X5_scan) (List.forall_mem_cons.mpr ⟨(show XOkV z xInf Y_X5_scan 82 85 1 (4, 234) from okv_V (q := Y_X5_scan) (q1 := Y_X5_isLetter) Z_X5_isLetter rfl (by decide) ⟨by decide, by decide, Or.inl ⟨_, _, (List.mem_of_getElem? (l := xCls) (i := 3) rfl)⟩⟩ dX5_scan_82 q3054 q3056 qs105 q153 q3057 hy_338), (fun _ h => absurd h List.not_mem_nil)⟩)
theorem kX5_scan_85 (z : XKT) : XOi z xInf Y_X5_scan 85 (.inl (i_if (fun x => x = 0) 101 88)) := ok_if_eq dX5_scan_85 rfl
theorem kX5_scan_88 (z : XKT) : XOi z xInf Y_X5_scan 88 (.inl (i_aload 0 89)) := ok_aload_n dX5_scan_88 rfl
theorem kX5_scan_89 (z : XKT) : XOi z xInf Y_X5_scan 89 (.inl (i_dup 90)) := ok_dup dX5_scan_89
theorem kX5_scan_90 (z : XKT) : XOi z xInf Y_X5_scan 90 (.inl (i_geti [4] 49 93)) := ok_geti dX5_scan_90 q2526 (List.forall_mem_cons.mpr ⟨⟨_, _, _, _, fd_49_4_0⟩, (fun _ h => absurd h List.not_mem_nil)⟩)
theorem kX5_scan_93 (z : XKT) : XOi z xInf Y_X5_scan 93 (.inl (i_push (vI 1) 94)) := ok_iconst dX5_scan_93 rfl
theorem kX5_scan_94 (z : XKT) : XOi z xInf Y_X5_scan 94 (.inl (i_bin (fun x y => x + y) 95)) := ok_iadd dX5_scan_94
theorem kX5_scan_95 (z : XKT) : XOi z xInf Y_X5_scan 95 (.inl (i_puti z.1 [4] .int 49 98)) := ok_puti dX5_scan_95 q2526 rfl (List.forall_mem_cons.mpr ⟨⟨_, _, _, _, tyX5, fd_49_4_0, ⟨tyX5_ok, nmX5, (Or.inl rfl)⟩, rfl⟩, (fun _ h => absurd h List.not_mem_nil)⟩)
theorem kX5_scan_98 (z : XKT) : XOi z xInf Y_X5_scan 98 (.inl (i_goto 77)) := ok_goto dX5_scan_98 rfl
theorem kX5_scan_101 (z : XKT) : XOi z xInf Y_X5_scan 101 (.inl (i_aload 0 102)) := ok_aload_n dX5_scan_101 rfl
theorem kX5_scan_102 (z : XKT) : XOi z xInf Y_X5_scan 102 (.inl (i_push (vI 1) 103)) := ok_iconst dX5_scan_102 rfl
theorem kX5_scan_103 (z : XKT) : XOi z xInf Y_X5_scan 103 (.inl (i_puti z.1 [4] .int 51 106)) := ok_puti dX5_scan_103 q2528 rfl (List.forall_mem_cons.mpr ⟨⟨_, _, _, _, tyX5, fd_51_4_0, ⟨tyX5_ok, nmX5, (Or.inl rfl)⟩, rfl⟩, (fun _ h => absurd h List.not_mem_nil)⟩)
theorem kX5_scan_106 (z : XKT) : XOi z xInf Y_X5_scan 106 (.inl (i_goto 167)) := ok_goto dX5_scan_106 rfl
theorem kX5_scan_109 (z : XKT) : XOi z xInf Y_X5_scan 109 (.inl (i_aload 0 110)) := ok_aload_n dX5_scan_109 rfl
theorem kX5_scan_110 (z : XKT) : XOi z xInf Y_X5_scan 110 (.inl (i_aload 0 111)) := ok_aload_n dX5_scan_110 rfl
theorem kX5_scan_111 (z : XKT) : XOi z xInf Y_X5_scan 111 (.inl (i_geti [4] 49 114)) := ok_geti dX5_scan_111 q2526 (List.forall_mem_cons.mpr ⟨⟨_, _, _, _, fd_49_4_0⟩, (fun _ h => absurd h List.not_mem_nil)⟩)
theorem kX5_scan_114 (z : XKT) : XOi z xInf Y_X5_scan 114 (.inr (.inl (117, g_virt [(4, 229)] 1))) := show XOkC z xInf Y_X5_scan 114 117 (g_virt [(4, 229)] 1) from okc_V (q := Y_X5_scan) (List.forall_mem_cons.mpr ⟨(show XOkV z xInf Y_X5_scan 114 117 1 (4, 229) from okv_V (q := Y_X5_scan) (q1 := Y_X5_isDigit) Z_X5_isDigit rfl (by decide) ⟨by decide, by decide, Or.inl ⟨_, _, (List.mem_of_getElem? (l := xCls) (i := 3) rfl)⟩⟩ dX5_scan_114 q3058 q3060 qs106 q153 q3061 hy_339), (fun _ h => absurd h List.not_mem_nil)⟩)
theorem kX5_scan_117 (z : XKT) : XOi z xInf Y_X5_scan 117 (.inl (i_if (fun x => x = 0) 152 120)) := ok_if_eq dX5_scan_117 rfl
theorem kX5_scan_120 (z : XKT) : XOi z xInf Y_X5_scan 120 (.inl (i_aload 0 121)) := ok_aload_n dX5_scan_120 rfl
theorem kX5_scan_121 (z : XKT) : XOi z xInf Y_X5_scan 121 (.inl (i_aload 0 122)) := ok_aload_n dX5_scan_121 rfl
theorem kX5_scan_122 (z : XKT) : XOi z xInf Y_X5_scan 122 (.inl (i_geti [4] 49 125)) := ok_geti dX5_scan_122 q2526 (List.forall_mem_cons.mpr ⟨⟨_, _, _, _, fd_49_4_0⟩, (fun _ h => absurd h List.not_mem_nil)⟩)
theorem kX5_scan_125 (z : XKT) : XOi z xInf Y_X5_scan 125 (.inr (.inl (128, g_virt [(4, 229)] 1))) := show XOkC z xInf Y_X5_scan 125 128 (g_virt [(4, 229)] 1) from okc_V (q := Y_X5_scan) (List.forall_mem_cons.mpr ⟨(show XOkV z xInf Y_X5_scan 125 128 1 (4, 229) from okv_V (q := Y_X5_scan) (q1 := Y_X5_isDigit) Z_X5_isDigit rfl (by decide) ⟨by decide, by decide, Or.inl ⟨_, _, (List.mem_of_getElem? (l := xCls) (i := 3) rfl)⟩⟩ dX5_scan_125 q3058 q3060 qs106 q153 q3061 hy_339), (fun _ h => absurd h List.not_mem_nil)⟩)
theorem kX5_scan_128 (z : XKT) : XOi z xInf Y_X5_scan 128 (.inl (i_if (fun x => x = 0) 144 131)) := ok_if_eq dX5_scan_128 rfl
theorem kX5_scan_131 (z : XKT) : XOi z xInf Y_X5_scan 131 (.inl (i_aload 0 132)) := ok_aload_n dX5_scan_131 rfl
theorem kX5_scan_132 (z : XKT) : XOi z xInf Y_X5_scan 132 (.inl (i_dup 133)) := ok_dup dX5_scan_132
theorem kX5_scan_133 (z : XKT) : XOi z xInf Y_X5_scan 133 (.inl (i_geti [4] 49 136)) := ok_geti dX5_scan_133 q2526 (List.forall_mem_cons.mpr ⟨⟨_, _, _, _, fd_49_4_0⟩, (fun _ h => absurd h List.not_mem_nil)⟩)
theorem kX5_scan_136 (z : XKT) : XOi z xInf Y_X5_scan 136 (.inl (i_push (vI 1) 137)) := ok_iconst dX5_scan_136 rfl
theorem kX5_scan_137 (z : XKT) : XOi z xInf Y_X5_scan 137 (.inl (i_bin (fun x y => x + y) 138)) := ok_iadd dX5_scan_137
theorem kX5_scan_138 (z : XKT) : XOi z xInf Y_X5_scan 138 (.inl (i_puti z.1 [4] .int 49 141)) := ok_puti dX5_scan_138 q2526 rfl (List.forall_mem_cons.mpr ⟨⟨_, _, _, _, tyX5, fd_49_4_0, ⟨tyX5_ok, nmX5, (Or.inl rfl)⟩, rfl⟩, (fun _ h => absurd h List.not_mem_nil)⟩)
theorem kX5_scan_141 (z : XKT) : XOi z xInf Y_X5_scan 141 (.inl (i_goto 120)) := ok_goto dX5_scan_141 rfl
theorem kX5_scan_144 (z : XKT) : XOi z xInf Y_X5_scan 144 (.inl (i_aload 0 145)) := ok_aload_n dX5_scan_144 rfl
theorem kX5_scan_145 (z : XKT) : XOi z xInf Y_X5_scan 145 (.inl (i_push (vI 2) 146)) := ok_iconst dX5_scan_145 rfl
theorem kX5_scan_146 (z : XKT) : XOi z xInf Y_X5_scan 146 (.inl (i_puti z.1 [4] .int 51 149)) := ok_puti dX5_scan_146 q2528 rfl (List.forall_mem_cons.mpr ⟨⟨_, _, _, _, tyX5, fd_51_4_0, ⟨tyX5_ok, nmX5, (Or.inl rfl)⟩, rfl⟩, (fun _ h => absurd h List.not_mem_nil)⟩)
theorem kX5_scan_149 (z : XKT) : XOi z xInf Y_X5_scan 149 (.inl (i_goto 167)) := ok_goto dX5_scan_149 rfl
theorem kX5_scan_152 (z : XKT) : XOi z xInf Y_X5_scan 152 (.inl (i_aload 0 153)) := ok_aload_n dX5_scan_152 rfl
theorem kX5_scan_153 (z : XKT) : XOi z xInf Y_X5_scan 153 (.inl (i_dup 154)) := ok_dup dX5_scan_153
theorem kX5_scan_154 (z : XKT) : XOi z xInf Y_X5_scan 154 (.inl (i_geti [4] 49 157)) := ok_geti dX5_scan_154 q2526 (List.forall_mem_cons.mpr ⟨⟨_, _, _, _, fd_49_4_0⟩, (fun _ h => absurd h List.not_mem_nil)⟩)
theorem kX5_scan_157 (z : XKT) : XOi z xInf Y_X5_scan 157 (.inl (i_push (vI 1) 158)) := ok_iconst dX5_scan_157 rfl
theorem kX5_scan_158 (z : XKT) : XOi z xInf Y_X5_scan 158 (.inl (i_bin (fun x y => x + y) 159)) := ok_iadd dX5_scan_158
theorem kX5_scan_159 (z : XKT) : XOi z xInf Y_X5_scan 159 (.inl (i_puti z.1 [4] .int 49 162)) := ok_puti dX5_scan_159 q2526 rfl (List.forall_mem_cons.mpr ⟨⟨_, _, _, _, tyX5, fd_49_4_0, ⟨tyX5_ok, nmX5, (Or.inl rfl)⟩, rfl⟩, (fun _ h => absurd h List.not_mem_nil)⟩)
theorem kX5_scan_162 (z : XKT) : XOi z xInf Y_X5_scan 162 (.inl (i_aload 0 163)) := ok_aload_n dX5_scan_162 rfl
theorem kX5_scan_163 (z : XKT) : XOi z xInf Y_X5_scan 163 (.inl (i_push (vI 3) 164)) := ok_iconst dX5_scan_163 rfl
theorem kX5_scan_164 (z : XKT) : XOi z xInf Y_X5_scan 164 (.inl (i_puti z.1 [4] .int 51 167)) := ok_puti dX5_scan_164 q2528 rfl (List.forall_mem_cons.mpr ⟨⟨_, _, _, _, tyX5, fd_51_4_0, ⟨tyX5_ok, nmX5, (Or.inl rfl)⟩, rfl⟩, (fun _ h => absurd h List.not_mem_nil)⟩)
theorem kX5_scan_167 (z : XKT) : XOi z xInf Y_X5_scan 167 (.inr (.inr (.inl r_v))) := show XOkR Y_X5_scan 167 (r_v) from okr_v (q := Y_X5_scan) rfl dX5_scan_167
theorem o_X5_scan (z : XKT) : XMi z xInf Y_X5_scan := XMi.mk9 (T := T_X5_scan z) rfl (⟨kX5_scan_0 z, ⟨kX5_scan_1 z, ⟨kX5_scan_2 z, ⟨kX5_scan_5 z, ⟨kX5_scan_8 z, ⟨kX5_scan_10 z, ⟨kX5_scan_13 z, ⟨kX5_scan_14 z, ⟨kX5_scan_15 z, ⟨kX5_scan_18 z, ⟨kX5_scan_21 z, ⟨kX5_scan_23 z, ⟨kX5_scan_26 z, ⟨kX5_scan_27 z, ⟨kX5_scan_28 z, ⟨kX5_scan_31 z, ⟨kX5_scan_32 z, ⟨kX5_scan_33 z, ⟨kX5_scan_36 z, ⟨kX5_scan_39 z, ⟨kX5_scan_40 z, ⟨kX5_scan_41 z, ⟨kX5_scan_44 z, ⟨kX5_scan_47 z, ⟨kX5_scan_48 z, ⟨kX5_scan_51 z, ⟨kX5_scan_52 z, ⟨kX5_scan_55 z, ⟨kX5_scan_58 z, ⟨kX5_scan_59 z, ⟨kX5_scan_60 z, ⟨kX5_scan_63 z, ⟨kX5_scan_66 z, ⟨kX5_scan_67 z, ⟨kX5_scan_68 z, ⟨kX5_scan_71 z, ⟨kX5_scan_74 z, ⟨kX5_scan_77 z, ⟨kX5_scan_78 z, ⟨kX5_scan_79 z, ⟨kX5_scan_82 z, ⟨kX5_scan_85 z, ⟨kX5_scan_88 z, ⟨kX5_scan_89 z, ⟨kX5_scan_90 z, ⟨kX5_scan_93 z, ⟨kX5_scan_94 z, ⟨kX5_scan_95 z, ⟨kX5_scan_98 z, ⟨kX5_scan_101 z, ⟨kX5_scan_102 z, ⟨kX5_scan_103 z, ⟨kX5_scan_106 z, ⟨kX5_scan_109 z, ⟨kX5_scan_110 z, ⟨kX5_scan_111 z, ⟨kX5_scan_114 z, ⟨kX5_scan_117 z, ⟨kX5_scan_120 z, ⟨kX5_scan_121 z, ⟨kX5_scan_122 z, ⟨kX5_scan_125 z, ⟨kX5_scan_128 z, ⟨kX5_scan_131 z, ⟨kX5_scan_132 z, ⟨kX5_scan_133 z, ⟨kX5_scan_136 z, ⟨kX5_scan_137 z, ⟨kX5_scan_138 z, ⟨kX5_scan_141 z, ⟨kX5_scan_144 z, ⟨kX5_scan_145 z, ⟨kX5_scan_146 z, ⟨kX5_scan_149 z, ⟨kX5_scan_152 z, ⟨kX5_scan_153 z, ⟨kX5_scan_154 z, ⟨kX5_scan_157 z, ⟨kX5_scan_158 z, ⟨kX5_scan_159 z, ⟨kX5_scan_162 z, ⟨kX5_scan_163 z, ⟨kX5_scan_164 z, ⟨kX5_scan_167 z, trivial⟩⟩⟩⟩⟩⟩⟩⟩⟩⟩⟩⟩⟩⟩⟩⟩⟩⟩⟩⟩⟩⟩⟩⟩⟩⟩⟩⟩⟩⟩⟩⟩⟩⟩⟩⟩⟩⟩⟩⟩⟩⟩⟩⟩⟩⟩⟩⟩⟩⟩⟩⟩⟩⟩⟩⟩⟩⟩⟩⟩⟩⟩⟩⟩⟩⟩⟩⟩⟩⟩⟩⟩⟩⟩⟩⟩⟩⟩⟩⟩⟩⟩⟩⟩) (hd_X5_scan z) rfl rfl (by decide +kernel)
theorem hd_X5_share (z : XKT) : XHd z Y_X5_share := xHd_none rfl (xhd0 rfl)
theorem kX5_share_0 (z : XKT) : XOi z xInf Y_X5_share 0 (.inl (i_aload 0 1)) := ok_aload_n dX5_share_0 rfl
theorem kX5_share_1 (z : XKT) : XOi z xInf Y_X5_share 1 (.inl (i_aload 0 2)) := ok_aload_n dX5_share_1 rfl
theorem kX5_share_2 (z : XKT) : XOi z xInf Y_X5_share 2 (.inl (i_iload 1 3)) := ok_iload_n dX5_share_2 rfl
theorem kX5_share_3 (z : XKT) : XOi z xInf Y_X5_share 3 (.inr (.inl (6, g_virt [(4, 232)] 1))) := show XOkC z xInf Y_X5_share 3 6 (g_virt [(4, 232)] 1) from okc_V (q := Y_X5_share) (List.forall_mem_cons.mpr ⟨(show XOkV z xInf Y_X5_share 3 6 1 (4, 232) from okv_V (q := Y_X5_share) (q1 := Y_X5_isGood) Z_X5_isGood rfl (by decide) ⟨by decide, by decide, Or.inl ⟨_, _, (List.mem_of_getElem? (l := xCls) (i := 3) rfl)⟩⟩ dX5_share_3 q2654 q2656 qs56 q153 q2657 hy_272), (fun _ h => absurd h List.not_mem_nil)⟩)
theorem kX5_share_6 (z : XKT) : XOi z xInf Y_X5_share 6 (.inl (i_if (fun x => x = 0) 21 9)) := ok_if_eq dX5_share_6 rfl
theorem kX5_share_9 (z : XKT) : XOi z xInf Y_X5_share 9 (.inl (i_aload 0 10)) := ok_aload_n dX5_share_9 rfl
theorem kX5_share_10 (z : XKT) : XOi z xInf Y_X5_share 10 (.inl (i_iload 2 11)) := ok_iload_n dX5_share_10 rfl
theorem kX5_share_11 (z : XKT) : XOi z xInf Y_X5_share 11 (.inr (.inl (14, g_virt [(4, 231)] 1))) := show XOkC z xInf Y_X5_share 11 14 (g_virt [(4, 231)] 1) from okc_V (q := Y_X5_share) (List.forall_mem_cons.mpr ⟨(show XOkV z xInf Y_X5_share 11 14 1 (4, 231) from okv_V (q := Y_X5_share) (q1 := Y_X5_isFinder) Z_X5_isFinder rfl (by decide) ⟨by decide, by decide, Or.inl ⟨_, _, (List.mem_of_getElem? (l := xCls) (i := 3) rfl)⟩⟩ dX5_share_11 q2666 q2668 qs58 q153 q2669 hy_298), (fun _ h => absurd h List.not_mem_nil)⟩)
theorem kX5_share_14 (z : XKT) : XOi z xInf Y_X5_share 14 (.inl (i_if (fun x => x = 0) 21 17)) := ok_if_eq dX5_share_14 rfl
theorem kX5_share_17 (z : XKT) : XOi z xInf Y_X5_share 17 (.inl (i_push (vI 1) 18)) := ok_iconst dX5_share_17 rfl
theorem kX5_share_18 (z : XKT) : XOi z xInf Y_X5_share 18 (.inl (i_goto 22)) := ok_goto dX5_share_18 rfl
theorem kX5_share_21 (z : XKT) : XOi z xInf Y_X5_share 21 (.inl (i_push (vI 0) 22)) := ok_iconst dX5_share_21 rfl
theorem kX5_share_22 (z : XKT) : XOi z xInf Y_X5_share 22 (.inr (.inl (25, g_virt [(4, 240)] 1))) := show XOkC z xInf Y_X5_share 22 25 (g_virt [(4, 240)] 1) from okc_V (q := Y_X5_share) (List.forall_mem_cons.mpr ⟨(show XOkV z xInf Y_X5_share 22 25 1 (4, 240) from okv_V (q := Y_X5_share) (q1 := Y_X5_lacks) Z_X5_lacks rfl (by decide) ⟨by decide, by decide, Or.inl ⟨_, _, (List.mem_of_getElem? (l := xCls) (i := 3) rfl)⟩⟩ dX5_share_22 q2606 q2608 qs46 q153 q2609 hy_262), (fun _ h => absurd h List.not_mem_nil)⟩)
theorem kX5_share_25 (z : XKT) : XOi z xInf Y_X5_share 25 (.inl (i_if (fun x => x = 0) 32 28)) := ok_if_eq dX5_share_25 rfl
theorem kX5_share_28 (z : XKT) : XOi z xInf Y_X5_share 28 (.inl (i_push (vI 0) 29)) := ok_iconst dX5_share_28 rfl
theorem kX5_share_29 (z : XKT) : XOi z xInf Y_X5_share 29 (.inl (i_goto 38)) := ok_goto dX5_share_29 rfl
theorem kX5_share_32 (z : XKT) : XOi z xInf Y_X5_share 32 (.inl (i_aload 0 33)) := ok_aload_n dX5_share_32 rfl
theorem kX5_share_33 (z : XKT) : XOi z xInf Y_X5_share 33 (.inl (i_iload 1 34)) := ok_iload_n dX5_share_33 rfl
theorem kX5_share_34 (z : XKT) : XOi z xInf Y_X5_share 34 (.inl (i_iload 2 35)) := ok_iload_n dX5_share_34 rfl
theorem kX5_share_35 (z : XKT) : XOi z xInf Y_X5_share 35 (.inr (.inl (38, g_virt [(4, 287)] 2))) := show XOkC z xInf Y_X5_share 35 38 (g_virt [(4, 287)] 2) from okc_V (q := Y_X5_share) (List.forall_mem_cons.mpr ⟨(show XOkV z xInf Y_X5_share 35 38 2 (4, 287) from okv_V (q := Y_X5_share) (q1 := Y_X5_shareOf) Z_X5_shareOf rfl (by decide) ⟨by decide, by decide, Or.inl ⟨_, _, (List.mem_of_getElem? (l := xCls) (i := 3) rfl)⟩⟩ dX5_share_35 q2713 q2715 qs63 q153 q2716 hy_305), (fun _ h => absurd h List.not_mem_nil)⟩)
theorem kX5_share_38 (z : XKT) : XOi z xInf Y_X5_share 38 (.inr (.inr (.inl (r_i .int)))) := show XOkR Y_X5_share 38 ((r_i .int)) from okr_i (q := Y_X5_share) (ty := .int) rfl rfl dX5_share_38
theorem o_X5_share (z : XKT) : XMi z xInf Y_X5_share := XMi.mk9 (T := T_X5_share z) rfl (⟨kX5_share_0 z, ⟨kX5_share_1 z, ⟨kX5_share_2 z, ⟨kX5_share_3 z, ⟨kX5_share_6 z, ⟨kX5_share_9 z, ⟨kX5_share_10 z, ⟨kX5_share_11 z, ⟨kX5_share_14 z, ⟨kX5_share_17 z, ⟨kX5_share_18 z, ⟨kX5_share_21 z, ⟨kX5_share_22 z, ⟨kX5_share_25 z, ⟨kX5_share_28 z, ⟨kX5_share_29 z, ⟨kX5_share_32 z, ⟨kX5_share_33 z, ⟨kX5_share_34 z, ⟨kX5_share_35 z, ⟨kX5_share_38 z, trivial⟩⟩⟩⟩⟩⟩⟩⟩⟩⟩⟩⟩⟩⟩⟩⟩⟩⟩⟩⟩⟩) (hd_X5_share z) rfl rfl (by decide +kernel)
theorem hd_X5_shareAt (z : XKT) : XHd z Y_X5_shareAt := xHd_none rfl (xhd0 rfl)
theorem kX5_shareAt_0 (z : XKT) : XOi z xInf Y_X5_shareAt 0 (.inl (i_aload 0 1)) := ok_aload_n dX5_shareAt_0 rfl
theorem kX5_shareAt_1 (z : XKT) : XOi z xInf Y_X5_shareAt 1 (.inl (i_iload 1 2)) := ok_iload_n dX5_shareAt_1 rfl
theorem kX5_shareAt_2 (z : XKT) : XOi z xInf Y_X5_shareAt 2 (.inl (i_iload 2 3)) := ok_iload_n dX5_shareAt_2 rfl
theorem kX5_shareAt_3 (z : XKT) : XOi z xInf Y_X5_shareAt 3 (.inr (.inl (6, g_virt [(4, 261)] 2))) := show XOkC z xInf Y_X5_shareAt 3 6 (g_virt [(4, 261)] 2) from okc_V (q := Y_X5_shareAt) (List.forall_mem_cons.mpr ⟨(show XOkV z xInf Y_X5_shareAt 3 6 2 (4, 261) from okv_V (q := Y_X5_shareAt) (q1 := Y_X5_partOf) Z_X5_partOf rfl (by decide) ⟨by decide, by decide, Or.inl ⟨_, _, (List.mem_of_getElem? (l := xCls) (i := 3) rfl)⟩⟩ dX5_shareAt_3 q2721 q2723 qs65 q153 q2724 hy_337), (fun _ h => absurd h List.not_mem_nil)⟩)
theorem kX5_shareAt_6 (z : XKT) : XOi z xInf Y_X5_shareAt 6 (.inl (i_iload 2 7)) := ok_iload_n dX5_shareAt_6 rfl
theorem kX5_shareAt_7 (z : XKT) : XOi z xInf Y_X5_shareAt 7 (.inl (i_aload 0 8)) := ok_aload_n dX5_shareAt_7 rfl
theorem kX5_shareAt_8 (z : XKT) : XOi z xInf Y_X5_shareAt 8 (.inl (i_iload 1 9)) := ok_iload_n dX5_shareAt_8 rfl
theorem kX5_shareAt_9 (z : XKT) : XOi z xInf Y_X5_shareAt 9 (.inr (.inl (12, g_virt [(4, 277)] 1))) := show XOkC z xInf Y_X5_shareAt 9 12 (g_virt [(4, 277)] 1) from okc_V (q := Y_X5_shareAt) (List.forall_mem_cons.mpr ⟨(show XOkV z xInf Y_X5_shareAt 9 12 1 (4, 277) from okv_V (q := Y_X5_shareAt) (q1 := Y_X5_restOf) Z_X5_restOf rfl (by decide) ⟨by decide, by decide, Or.inl ⟨_, _, (List.mem_of_getElem? (l := xCls) (i := 3) rfl)⟩⟩ dX5_shareAt_9 q2745 q2747 qs71 q153 q2748 hy_289), (fun _ h => absurd h List.not_mem_nil)⟩)
theorem kX5_shareAt_12 (z : XKT) : XOi z xInf Y_X5_shareAt 12 (.inl (i_icmp (fun x y => y ≤ x) 19 15)) := ok_icmp_ge dX5_shareAt_12 rfl
theorem kX5_shareAt_15 (z : XKT) : XOi z xInf Y_X5_shareAt 15 (.inl (i_push (vI 1) 16)) := ok_iconst dX5_shareAt_15 rfl
theorem kX5_shareAt_16 (z : XKT) : XOi z xInf Y_X5_shareAt 16 (.inl (i_goto 20)) := ok_goto dX5_shareAt_16 rfl
theorem kX5_shareAt_19 (z : XKT) : XOi z xInf Y_X5_shareAt 19 (.inl (i_push (vI 0) 20)) := ok_iconst dX5_shareAt_19 rfl
theorem kX5_shareAt_20 (z : XKT) : XOi z xInf Y_X5_shareAt 20 (.inl (i_bin (fun x y => x + y) 21)) := ok_iadd dX5_shareAt_20
theorem kX5_shareAt_21 (z : XKT) : XOi z xInf Y_X5_shareAt 21 (.inr (.inr (.inl (r_i .int)))) := show XOkR Y_X5_shareAt 21 ((r_i .int)) from okr_i (q := Y_X5_shareAt) (ty := .int) rfl rfl dX5_shareAt_21
theorem o_X5_shareAt (z : XKT) : XMi z xInf Y_X5_shareAt := XMi.mk9 (T := T_X5_shareAt z) rfl (⟨kX5_shareAt_0 z, ⟨kX5_shareAt_1 z, ⟨kX5_shareAt_2 z, ⟨kX5_shareAt_3 z, ⟨kX5_shareAt_6 z, ⟨kX5_shareAt_7 z, ⟨kX5_shareAt_8 z, ⟨kX5_shareAt_9 z, ⟨kX5_shareAt_12 z, ⟨kX5_shareAt_15 z, ⟨kX5_shareAt_16 z, ⟨kX5_shareAt_19 z, ⟨kX5_shareAt_20 z, ⟨kX5_shareAt_21 z, trivial⟩⟩⟩⟩⟩⟩⟩⟩⟩⟩⟩⟩⟩⟩) (hd_X5_shareAt z) rfl rfl (by decide +kernel)
theorem hd_X5_shareOf (z : XKT) : XHd z Y_X5_shareOf := xHd_none rfl (xhd0 rfl)
theorem kX5_shareOf_0 (z : XKT) : XOi z xInf Y_X5_shareOf 0 (.inl (i_aload 0 1)) := ok_aload_n dX5_shareOf_0 rfl
theorem kX5_shareOf_1 (z : XKT) : XOi z xInf Y_X5_shareOf 1 (.inl (i_iload 1 2)) := ok_iload_n dX5_shareOf_1 rfl
theorem kX5_shareOf_2 (z : XKT) : XOi z xInf Y_X5_shareOf 2 (.inl (i_iload 2 3)) := ok_iload_n dX5_shareOf_2 rfl
theorem kX5_shareOf_3 (z : XKT) : XOi z xInf Y_X5_shareOf 3 (.inr (.inl (6, g_virt [(4, 263)] 2))) := show XOkC z xInf Y_X5_shareOf 3 6 (g_virt [(4, 263)] 2) from okc_V (q := Y_X5_shareOf) (List.forall_mem_cons.mpr ⟨(show XOkV z xInf Y_X5_shareOf 3 6 2 (4, 263) from okv_V (q := Y_X5_shareOf) (q1 := Y_X5_placeOf) Z_X5_placeOf rfl (by decide) ⟨by decide, by decide, Or.inl ⟨_, _, (List.mem_of_getElem? (l := xCls) (i := 3) rfl)⟩⟩ dX5_shareOf_3 q2670 q2672 qs59 q153 q2673 hy_283), (fun _ h => absurd h List.not_mem_nil)⟩)
theorem kX5_shareOf_6 (z : XKT) : XOi z xInf Y_X5_shareOf 6 (.inl (i_istore 3 7)) := ok_istore_n dX5_shareOf_6 rfl
theorem kX5_shareOf_7 (z : XKT) : XOi z xInf Y_X5_shareOf 7 (.inl (i_iload 3 8)) := ok_iload_n dX5_shareOf_7 rfl
theorem kX5_shareOf_8 (z : XKT) : XOi z xInf Y_X5_shareOf 8 (.inl (i_push (vI (-1)) 9)) := ok_iconst dX5_shareOf_8 rfl
theorem kX5_shareOf_9 (z : XKT) : XOi z xInf Y_X5_shareOf 9 (.inl (i_icmp (fun x y => x = y) 21 12)) := ok_icmp_eq dX5_shareOf_9 rfl
theorem kX5_shareOf_12 (z : XKT) : XOi z xInf Y_X5_shareOf 12 (.inl (i_aload 0 13)) := ok_aload_n dX5_shareOf_12 rfl
theorem kX5_shareOf_13 (z : XKT) : XOi z xInf Y_X5_shareOf 13 (.inl (i_iload 1 14)) := ok_iload_n dX5_shareOf_13 rfl
theorem kX5_shareOf_14 (z : XKT) : XOi z xInf Y_X5_shareOf 14 (.inl (i_push (vI 3) 15)) := ok_iconst dX5_shareOf_14 rfl
theorem kX5_shareOf_15 (z : XKT) : XOi z xInf Y_X5_shareOf 15 (.inr (.inl (18, g_virt [(4, 233)] 2))) := show XOkC z xInf Y_X5_shareOf 15 18 (g_virt [(4, 233)] 2) from okc_V (q := Y_X5_shareOf) (List.forall_mem_cons.mpr ⟨(show XOkV z xInf Y_X5_shareOf 15 18 2 (4, 233) from okv_V (q := Y_X5_shareOf) (q1 := Y_X5_isIn) Z_X5_isIn rfl (by decide) ⟨by decide, by decide, Or.inl ⟨_, _, (List.mem_of_getElem? (l := xCls) (i := 3) rfl)⟩⟩ dX5_shareOf_15 q2618 q2620 qs49 q153 q2621 hy_270), (fun _ h => absurd h List.not_mem_nil)⟩)
theorem kX5_shareOf_18 (z : XKT) : XOi z xInf Y_X5_shareOf 18 (.inl (i_if (fun x => x = 0) 25 21)) := ok_if_eq dX5_shareOf_18 rfl
theorem kX5_shareOf_21 (z : XKT) : XOi z xInf Y_X5_shareOf 21 (.inl (i_push (vI 0) 22)) := ok_iconst dX5_shareOf_21 rfl
theorem kX5_shareOf_22 (z : XKT) : XOi z xInf Y_X5_shareOf 22 (.inl (i_goto 31)) := ok_goto dX5_shareOf_22 rfl
theorem kX5_shareOf_25 (z : XKT) : XOi z xInf Y_X5_shareOf 25 (.inl (i_aload 0 26)) := ok_aload_n dX5_shareOf_25 rfl
theorem kX5_shareOf_26 (z : XKT) : XOi z xInf Y_X5_shareOf 26 (.inl (i_iload 1 27)) := ok_iload_n dX5_shareOf_26 rfl
theorem kX5_shareOf_27 (z : XKT) : XOi z xInf Y_X5_shareOf 27 (.inl (i_iload 3 28)) := ok_iload_n dX5_shareOf_27 rfl
theorem kX5_shareOf_28 (z : XKT) : XOi z xInf Y_X5_shareOf 28 (.inr (.inl (31, g_virt [(4, 286)] 2))) := show XOkC z xInf Y_X5_shareOf 28 31 (g_virt [(4, 286)] 2) from okc_V (q := Y_X5_shareOf) (List.forall_mem_cons.mpr ⟨(show XOkV z xInf Y_X5_shareOf 28 31 2 (4, 286) from okv_V (q := Y_X5_shareOf) (q1 := Y_X5_shareAt) Z_X5_shareAt rfl (by decide) ⟨by decide, by decide, Or.inl ⟨_, _, (List.mem_of_getElem? (l := xCls) (i := 3) rfl)⟩⟩ dX5_shareOf_28 q2717 q2719 qs64 q153 q2720 hy_288), (fun _ h => absurd h List.not_mem_nil)⟩)
theorem kX5_shareOf_31 (z : XKT) : XOi z xInf Y_X5_shareOf 31 (.inr (.inr (.inl (r_i .int)))) := show XOkR Y_X5_shareOf 31 ((r_i .int)) from okr_i (q := Y_X5_shareOf) (ty := .int) rfl rfl dX5_shareOf_31
theorem o_X5_shareOf (z : XKT) : XMi z xInf Y_X5_shareOf := XMi.mk9 (T := T_X5_shareOf z) rfl (⟨kX5_shareOf_0 z, ⟨kX5_shareOf_1 z, ⟨kX5_shareOf_2 z, ⟨kX5_shareOf_3 z, ⟨kX5_shareOf_6 z, ⟨kX5_shareOf_7 z, ⟨kX5_shareOf_8 z, ⟨kX5_shareOf_9 z, ⟨kX5_shareOf_12 z, ⟨kX5_shareOf_13 z, ⟨kX5_shareOf_14 z, ⟨kX5_shareOf_15 z, ⟨kX5_shareOf_18 z, ⟨kX5_shareOf_21 z, ⟨kX5_shareOf_22 z, ⟨kX5_shareOf_25 z, ⟨kX5_shareOf_26 z, ⟨kX5_shareOf_27 z, ⟨kX5_shareOf_28 z, ⟨kX5_shareOf_31 z, trivial⟩⟩⟩⟩⟩⟩⟩⟩⟩⟩⟩⟩⟩⟩⟩⟩⟩⟩⟩⟩) (hd_X5_shareOf z) rfl rfl (by decide +kernel)
theorem hd_X5_size (z : XKT) : XHd z Y_X5_size := xHd_none rfl (xhd0 rfl)
theorem kX5_size_0 (z : XKT) : XOi z xInf Y_X5_size 0 (.inl (i_aload 0 1)) := ok_aload_n dX5_size_0 rfl
theorem kX5_size_1 (z : XKT) : XOi z xInf Y_X5_size 1 (.inl (i_iload 1 2)) := ok_iload_n dX5_size_1 rfl
theorem kX5_size_2 (z : XKT) : XOi z xInf Y_X5_size 2 (.inl (i_push (vI 0) 3)) := ok_iconst dX5_size_2 rfl
theorem kX5_size_3 (z : XKT) : XOi z xInf Y_X5_size 3 (.inl (i_push (vI 11) 5)) := ok_bipush dX5_size_3 rfl
theorem kX5_size_5 (z : XKT) : XOi z xInf Y_X5_size 5 (.inr (.inl (8, g_stat 226 3))) := show XOkC z xInf Y_X5_size 5 8 (g_stat 226 3) from okc_S (q := Y_X5_size) (q1 := Y_X5_inRange) Z_X5_inRange rfl (by decide) dX5_size_5 q2603 q2604 q153 q2605 hy_261
theorem kX5_size_8 (z : XKT) : XOi z xInf Y_X5_size 8 (.inr (.inl (11, g_virt [(4, 240)] 1))) := show XOkC z xInf Y_X5_size 8 11 (g_virt [(4, 240)] 1) from okc_V (q := Y_X5_size) (List.forall_mem_cons.mpr ⟨(show XOkV z xInf Y_X5_size 8 11 1 (4, 240) from okv_V (q := Y_X5_size) (q1 := Y_X5_lacks) Z_X5_lacks rfl (by decide) ⟨by decide, by decide, Or.inl ⟨_, _, (List.mem_of_getElem? (l := xCls) (i := 3) rfl)⟩⟩ dX5_size_8 q2606 q2608 qs46 q153 q2609 hy_262), (fun _ h => absurd h List.not_mem_nil)⟩)
theorem kX5_size_11 (z : XKT) : XOi z xInf Y_X5_size 11 (.inl (i_if (fun x => x = 0) 16 14)) := ok_if_eq dX5_size_11 rfl
theorem kX5_size_14 (z : XKT) : XOi z xInf Y_X5_size 14 (.inl (i_push (vI 0) 15)) := ok_iconst dX5_size_14 rfl
theorem kX5_size_15 (z : XKT) : XOi z xInf Y_X5_size 15 (.inr (.inr (.inl (r_i .int)))) := show XOkR Y_X5_size 15 ((r_i .int)) from okr_i (q := Y_X5_size) (ty := .int) rfl rfl dX5_size_15
theorem kX5_size_16 (z : XKT) : XOi z xInf Y_X5_size 16 (.inl (i_iload 1 17)) := ok_iload_n dX5_size_16 rfl
theorem kX5_size_17 (z : XKT) : XOi z xInf Y_X5_size 17 (.inl (i_swt [(6, 56), (7, 67), (8, 73), (9, 79), (10, 87), (11, 92)] 97)) := ok_table dX5_size_17 rfl rfl (by decide +kernel)
theorem kX5_size_56 (z : XKT) : XOi z xInf Y_X5_size 56 (.inl (i_aload 0 57)) := ok_aload_n dX5_size_56 rfl
theorem kX5_size_57 (z : XKT) : XOi z xInf Y_X5_size 57 (.inl (i_aload 0 58)) := ok_aload_n dX5_size_57 rfl
theorem kX5_size_58 (z : XKT) : XOi z xInf Y_X5_size 58 (.inl (i_getr [4] 40 61)) := ok_getr dX5_size_58 q2517 (List.forall_mem_cons.mpr ⟨⟨_, _, _, _, fd_40_4_0⟩, (fun _ h => absurd h List.not_mem_nil)⟩)
theorem kX5_size_61 (z : XKT) : XOi z xInf Y_X5_size 61 (.inl (i_push (vI 0) 62)) := ok_iconst dX5_size_61 rfl
theorem kX5_size_62 (z : XKT) : XOi z xInf Y_X5_size 62 (.inl (i_ald 1000 63)) := ok_iald dX5_size_62
theorem kX5_size_63 (z : XKT) : XOi z xInf Y_X5_size 63 (.inr (.inl (66, g_virt [(4, 245)] 1))) := show XOkC z xInf Y_X5_size 63 66 (g_virt [(4, 245)] 1) from okc_V (q := Y_X5_size) (List.forall_mem_cons.mpr ⟨(show XOkV z xInf Y_X5_size 63 66 1 (4, 245) from okv_V (q := Y_X5_size) (q1 := Y_X5_levelAt) Z_X5_levelAt rfl (by decide) ⟨by decide, by decide, Or.inl ⟨_, _, (List.mem_of_getElem? (l := xCls) (i := 3) rfl)⟩⟩ dX5_size_63 q2610 q2612 qs47 q153 q2613 hy_317), (fun _ h => absurd h List.not_mem_nil)⟩)
theorem kX5_size_66 (z : XKT) : XOi z xInf Y_X5_size 66 (.inr (.inr (.inl (r_i .int)))) := show XOkR Y_X5_size 66 ((r_i .int)) from okr_i (q := Y_X5_size) (ty := .int) rfl rfl dX5_size_66
theorem kX5_size_67 (z : XKT) : XOi z xInf Y_X5_size 67 (.inl (i_aload 0 68)) := ok_aload_n dX5_size_67 rfl
theorem kX5_size_68 (z : XKT) : XOi z xInf Y_X5_size 68 (.inl (i_push (vI 0) 69)) := ok_iconst dX5_size_68 rfl
theorem kX5_size_69 (z : XKT) : XOi z xInf Y_X5_size 69 (.inr (.inl (72, g_virt [(4, 188)] 1))) := show XOkC z xInf Y_X5_size 69 72 (g_virt [(4, 188)] 1) from okc_V (q := Y_X5_size) (List.forall_mem_cons.mpr ⟨(show XOkV z xInf Y_X5_size 69 72 1 (4, 188) from okv_V (q := Y_X5_size) (q1 := Y_X5_countState) Z_X5_countState rfl (by decide) ⟨by decide, by decide, Or.inl ⟨_, _, (List.mem_of_getElem? (l := xCls) (i := 3) rfl)⟩⟩ dX5_size_69 q2614 q2616 qs48 q153 q2617 hy_340), (fun _ h => absurd h List.not_mem_nil)⟩)
theorem kX5_size_72 (z : XKT) : XOi z xInf Y_X5_size 72 (.inr (.inr (.inl (r_i .int)))) := show XOkR Y_X5_size 72 ((r_i .int)) from okr_i (q := Y_X5_size) (ty := .int) rfl rfl dX5_size_72
theorem kX5_size_73 (z : XKT) : XOi z xInf Y_X5_size 73 (.inl (i_aload 0 74)) := ok_aload_n dX5_size_73 rfl
theorem kX5_size_74 (z : XKT) : XOi z xInf Y_X5_size 74 (.inl (i_push (vI 1) 75)) := ok_iconst dX5_size_74 rfl
theorem kX5_size_75 (z : XKT) : XOi z xInf Y_X5_size 75 (.inr (.inl (78, g_virt [(4, 188)] 1))) := show XOkC z xInf Y_X5_size 75 78 (g_virt [(4, 188)] 1) from okc_V (q := Y_X5_size) (List.forall_mem_cons.mpr ⟨(show XOkV z xInf Y_X5_size 75 78 1 (4, 188) from okv_V (q := Y_X5_size) (q1 := Y_X5_countState) Z_X5_countState rfl (by decide) ⟨by decide, by decide, Or.inl ⟨_, _, (List.mem_of_getElem? (l := xCls) (i := 3) rfl)⟩⟩ dX5_size_75 q2614 q2616 qs48 q153 q2617 hy_340), (fun _ h => absurd h List.not_mem_nil)⟩)
theorem kX5_size_78 (z : XKT) : XOi z xInf Y_X5_size 78 (.inr (.inr (.inl (r_i .int)))) := show XOkR Y_X5_size 78 ((r_i .int)) from okr_i (q := Y_X5_size) (ty := .int) rfl rfl dX5_size_78
theorem kX5_size_79 (z : XKT) : XOi z xInf Y_X5_size 79 (.inl (i_aload 0 80)) := ok_aload_n dX5_size_79 rfl
theorem kX5_size_80 (z : XKT) : XOi z xInf Y_X5_size 80 (.inl (i_getr [4] 40 83)) := ok_getr dX5_size_80 q2517 (List.forall_mem_cons.mpr ⟨⟨_, _, _, _, fd_40_4_0⟩, (fun _ h => absurd h List.not_mem_nil)⟩)
theorem kX5_size_83 (z : XKT) : XOi z xInf Y_X5_size 83 (.inl (i_push (vI 6) 85)) := ok_bipush dX5_size_83 rfl
theorem kX5_size_85 (z : XKT) : XOi z xInf Y_X5_size 85 (.inl (i_ald 1000 86)) := ok_iald dX5_size_85
theorem kX5_size_86 (z : XKT) : XOi z xInf Y_X5_size 86 (.inr (.inr (.inl (r_i .int)))) := show XOkR Y_X5_size 86 ((r_i .int)) from okr_i (q := Y_X5_size) (ty := .int) rfl rfl dX5_size_86
theorem kX5_size_87 (z : XKT) : XOi z xInf Y_X5_size 87 (.inl (i_aload 0 88)) := ok_aload_n dX5_size_87 rfl
theorem kX5_size_88 (z : XKT) : XOi z xInf Y_X5_size 88 (.inr (.inl (91, g_virt [(4, 187)] 0))) := show XOkC z xInf Y_X5_size 88 91 (g_virt [(4, 187)] 0) from okc_V (q := Y_X5_size) (List.forall_mem_cons.mpr ⟨(show XOkV z xInf Y_X5_size 88 91 0 (4, 187) from okv_V (q := Y_X5_size) (q1 := Y_X5_countFree) Z_X5_countFree rfl (by decide) ⟨by decide, by decide, Or.inl ⟨_, _, (List.mem_of_getElem? (l := xCls) (i := 3) rfl)⟩⟩ dX5_size_88 q2626 q2628 qs51 q153 q2629 hy_269), (fun _ h => absurd h List.not_mem_nil)⟩)
theorem kX5_size_91 (z : XKT) : XOi z xInf Y_X5_size 91 (.inr (.inr (.inl (r_i .int)))) := show XOkR Y_X5_size 91 ((r_i .int)) from okr_i (q := Y_X5_size) (ty := .int) rfl rfl dX5_size_91
theorem kX5_size_92 (z : XKT) : XOi z xInf Y_X5_size 92 (.inl (i_aload 0 93)) := ok_aload_n dX5_size_92 rfl
theorem kX5_size_93 (z : XKT) : XOi z xInf Y_X5_size 93 (.inr (.inl (96, g_virt [(4, 186)] 0))) := show XOkC z xInf Y_X5_size 93 96 (g_virt [(4, 186)] 0) from okc_V (q := Y_X5_size) (List.forall_mem_cons.mpr ⟨(show XOkV z xInf Y_X5_size 93 96 0 (4, 186) from okv_V (q := Y_X5_size) (q1 := Y_X5_countDryNow) Z_X5_countDryNow rfl (by decide) ⟨by decide, by decide, Or.inl ⟨_, _, (List.mem_of_getElem? (l := xCls) (i := 3) rfl)⟩⟩ dX5_size_93 q2634 q2636 qs53 q153 q2637 hy_341), (fun _ h => absurd h List.not_mem_nil)⟩)
theorem kX5_size_96 (z : XKT) : XOi z xInf Y_X5_size 96 (.inr (.inr (.inl (r_i .int)))) := show XOkR Y_X5_size 96 ((r_i .int)) from okr_i (q := Y_X5_size) (ty := .int) rfl rfl dX5_size_96
theorem kX5_size_97 (z : XKT) : XOi z xInf Y_X5_size 97 (.inl (i_aload 0 98)) := ok_aload_n dX5_size_97 rfl
theorem kX5_size_98 (z : XKT) : XOi z xInf Y_X5_size 98 (.inl (i_getr [4] 40 101)) := ok_getr dX5_size_98 q2517 (List.forall_mem_cons.mpr ⟨⟨_, _, _, _, fd_40_4_0⟩, (fun _ h => absurd h List.not_mem_nil)⟩)
theorem kX5_size_101 (z : XKT) : XOi z xInf Y_X5_size 101 (.inl (i_iload 1 102)) := ok_iload_n dX5_size_101 rfl
theorem kX5_size_102 (z : XKT) : XOi z xInf Y_X5_size 102 (.inl (i_ald 1000 103)) := ok_iald dX5_size_102
theorem kX5_size_103 (z : XKT) : XOi z xInf Y_X5_size 103 (.inr (.inr (.inl (r_i .int)))) := show XOkR Y_X5_size 103 ((r_i .int)) from okr_i (q := Y_X5_size) (ty := .int) rfl rfl dX5_size_103
theorem o_X5_size (z : XKT) : XMi z xInf Y_X5_size := XMi.mk9 (T := T_X5_size z) rfl (⟨kX5_size_0 z, ⟨kX5_size_1 z, ⟨kX5_size_2 z, ⟨kX5_size_3 z, ⟨kX5_size_5 z, ⟨kX5_size_8 z, ⟨kX5_size_11 z, ⟨kX5_size_14 z, ⟨kX5_size_15 z, ⟨kX5_size_16 z, ⟨kX5_size_17 z, ⟨kX5_size_56 z, ⟨kX5_size_57 z, ⟨kX5_size_58 z, ⟨kX5_size_61 z, ⟨kX5_size_62 z, ⟨kX5_size_63 z, ⟨kX5_size_66 z, ⟨kX5_size_67 z, ⟨kX5_size_68 z, ⟨kX5_size_69 z, ⟨kX5_size_72 z, ⟨kX5_size_73 z, ⟨kX5_size_74 z, ⟨kX5_size_75 z, ⟨kX5_size_78 z, ⟨kX5_size_79 z, ⟨kX5_size_80 z, ⟨kX5_size_83 z, ⟨kX5_size_85 z, ⟨kX5_size_86 z, ⟨kX5_size_87 z, ⟨kX5_size_88 z, ⟨kX5_size_91 z, ⟨kX5_size_92 z, ⟨kX5_size_93 z, ⟨kX5_size_96 z, ⟨kX5_size_97 z, ⟨kX5_size_98 z, ⟨kX5_size_101 z, ⟨kX5_size_102 z, ⟨kX5_size_103 z, trivial⟩⟩⟩⟩⟩⟩⟩⟩⟩⟩⟩⟩⟩⟩⟩⟩⟩⟩⟩⟩⟩⟩⟩⟩⟩⟩⟩⟩⟩⟩⟩⟩⟩⟩⟩⟩⟩⟩⟩⟩⟩⟩) (hd_X5_size z) rfl rfl (by decide +kernel)
theorem hd_X5_startText (z : XKT) : XHd z Y_X5_startText := xHd_none rfl (xhd0 rfl)
theorem kX5_startText_0 (z : XKT) : XOi z xInf Y_X5_startText 0 (.inl (i_aload 0 1)) := ok_aload_n dX5_startText_0 rfl
theorem kX5_startText_1 (z : XKT) : XOi z xInf Y_X5_startText 1 (.inl (i_iload 1 2)) := ok_iload_n dX5_startText_1 rfl
theorem kX5_startText_2 (z : XKT) : XOi z xInf Y_X5_startText 2 (.inl (i_puti z.1 [4] .int 48 5)) := ok_puti dX5_startText_2 q2525 rfl (List.forall_mem_cons.mpr ⟨⟨_, _, _, _, tyX5, fd_48_4_0, ⟨tyX5_ok, nmX5, (Or.inl rfl)⟩, rfl⟩, (fun _ h => absurd h List.not_mem_nil)⟩)
theorem kX5_startText_5 (z : XKT) : XOi z xInf Y_X5_startText 5 (.inl (i_aload 0 6)) := ok_aload_n dX5_startText_5 rfl
theorem kX5_startText_6 (z : XKT) : XOi z xInf Y_X5_startText 6 (.inl (i_push (vI 0) 7)) := ok_iconst dX5_startText_6 rfl
theorem kX5_startText_7 (z : XKT) : XOi z xInf Y_X5_startText 7 (.inl (i_puti z.1 [4] .int 49 10)) := ok_puti dX5_startText_7 q2526 rfl (List.forall_mem_cons.mpr ⟨⟨_, _, _, _, tyX5, fd_49_4_0, ⟨tyX5_ok, nmX5, (Or.inl rfl)⟩, rfl⟩, (fun _ h => absurd h List.not_mem_nil)⟩)
theorem kX5_startText_10 (z : XKT) : XOi z xInf Y_X5_startText 10 (.inl (i_aload 0 11)) := ok_aload_n dX5_startText_10 rfl
theorem kX5_startText_11 (z : XKT) : XOi z xInf Y_X5_startText 11 (.inl (i_push (vI 0) 12)) := ok_iconst dX5_startText_11 rfl
theorem kX5_startText_12 (z : XKT) : XOi z xInf Y_X5_startText 12 (.inl (i_puti z.1 [4] .int 52 15)) := ok_puti dX5_startText_12 q2529 rfl (List.forall_mem_cons.mpr ⟨⟨_, _, _, _, tyX5, fd_52_4_0, ⟨tyX5_ok, nmX5, (Or.inl rfl)⟩, rfl⟩, (fun _ h => absurd h List.not_mem_nil)⟩)
theorem kX5_startText_15 (z : XKT) : XOi z xInf Y_X5_startText 15 (.inl (i_aload 0 16)) := ok_aload_n dX5_startText_15 rfl
theorem kX5_startText_16 (z : XKT) : XOi z xInf Y_X5_startText 16 (.inl (i_push (vI 0) 17)) := ok_iconst dX5_startText_16 rfl
theorem kX5_startText_17 (z : XKT) : XOi z xInf Y_X5_startText 17 (.inl (i_puti z.1 [4] .int 55 20)) := ok_puti dX5_startText_17 q2532 rfl (List.forall_mem_cons.mpr ⟨⟨_, _, _, _, tyX5, fd_55_4_0, ⟨tyX5_ok, nmX5, (Or.inl rfl)⟩, rfl⟩, (fun _ h => absurd h List.not_mem_nil)⟩)
theorem kX5_startText_20 (z : XKT) : XOi z xInf Y_X5_startText 20 (.inl (i_aload 0 21)) := ok_aload_n dX5_startText_20 rfl
theorem kX5_startText_21 (z : XKT) : XOi z xInf Y_X5_startText 21 (.inr (.inl (24, g_virt [(4, 284)] 0))) := show XOkC z xInf Y_X5_startText 21 24 (g_virt [(4, 284)] 0) from okc_V (q := Y_X5_startText) (List.forall_mem_cons.mpr ⟨(show XOkV z xInf Y_X5_startText 21 24 0 (4, 284) from okv_V (q := Y_X5_startText) (q1 := Y_X5_scan) Z_X5_scan rfl (by decide) ⟨by decide, by decide, Or.inl ⟨_, _, (List.mem_of_getElem? (l := xCls) (i := 3) rfl)⟩⟩ dX5_startText_21 q3046 q3048 qs103 q153 q3049 hy_260), (fun _ h => absurd h List.not_mem_nil)⟩)
theorem kX5_startText_24 (z : XKT) : XOi z xInf Y_X5_startText 24 (.inr (.inr (.inl r_v))) := show XOkR Y_X5_startText 24 (r_v) from okr_v (q := Y_X5_startText) rfl dX5_startText_24
theorem o_X5_startText (z : XKT) : XMi z xInf Y_X5_startText := XMi.mk9 (T := T_X5_startText z) rfl (⟨kX5_startText_0 z, ⟨kX5_startText_1 z, ⟨kX5_startText_2 z, ⟨kX5_startText_5 z, ⟨kX5_startText_6 z, ⟨kX5_startText_7 z, ⟨kX5_startText_10 z, ⟨kX5_startText_11 z, ⟨kX5_startText_12 z, ⟨kX5_startText_15 z, ⟨kX5_startText_16 z, ⟨kX5_startText_17 z, ⟨kX5_startText_20 z, ⟨kX5_startText_21 z, ⟨kX5_startText_24 z, trivial⟩⟩⟩⟩⟩⟩⟩⟩⟩⟩⟩⟩⟩⟩⟩) (hd_X5_startText z) rfl rfl (by decide +kernel)
theorem hd_X5_tallied (z : XKT) : XHd z Y_X5_tallied := xHd_none rfl (xhd0 rfl)
theorem kX5_tallied_0 (z : XKT) : XOi z xInf Y_X5_tallied 0 (.inl (i_aload 0 1)) := ok_aload_n dX5_tallied_0 rfl
theorem kX5_tallied_1 (z : XKT) : XOi z xInf Y_X5_tallied 1 (.inl (i_getr [4] 40 4)) := ok_getr dX5_tallied_1 q2517 (List.forall_mem_cons.mpr ⟨⟨_, _, _, _, fd_40_4_0⟩, (fun _ h => absurd h List.not_mem_nil)⟩)
theorem kX5_tallied_4 (z : XKT) : XOi z xInf Y_X5_tallied 4 (.inl (i_push (vI 7) 6)) := ok_bipush dX5_tallied_4 rfl
theorem kX5_tallied_6 (z : XKT) : XOi z xInf Y_X5_tallied 6 (.inl (i_iload 1 7)) := ok_iload_n dX5_tallied_6 rfl
theorem kX5_tallied_7 (z : XKT) : XOi z xInf Y_X5_tallied 7 (.inl (i_bin (fun x y => x + y) 8)) := ok_iadd dX5_tallied_7
theorem kX5_tallied_8 (z : XKT) : XOi z xInf Y_X5_tallied 8 (.inl (i_push (vI 3) 9)) := ok_iconst dX5_tallied_8 rfl
theorem kX5_tallied_9 (z : XKT) : XOi z xInf Y_X5_tallied 9 (.inl (i_bin (fun x y => x - y) 10)) := ok_isub dX5_tallied_9
theorem kX5_tallied_10 (z : XKT) : XOi z xInf Y_X5_tallied 10 (.inl (i_ald 1000 11)) := ok_iald dX5_tallied_10
theorem kX5_tallied_11 (z : XKT) : XOi z xInf Y_X5_tallied 11 (.inr (.inr (.inl (r_i .int)))) := show XOkR Y_X5_tallied 11 ((r_i .int)) from okr_i (q := Y_X5_tallied) (ty := .int) rfl rfl dX5_tallied_11
theorem o_X5_tallied (z : XKT) : XMi z xInf Y_X5_tallied := XMi.mk9 (T := T_X5_tallied z) rfl (⟨kX5_tallied_0 z, ⟨kX5_tallied_1 z, ⟨kX5_tallied_4 z, ⟨kX5_tallied_6 z, ⟨kX5_tallied_7 z, ⟨kX5_tallied_8 z, ⟨kX5_tallied_9 z, ⟨kX5_tallied_10 z, ⟨kX5_tallied_11 z, trivial⟩⟩⟩⟩⟩⟩⟩⟩⟩) (hd_X5_tallied z) rfl rfl (by decide +kernel)
theorem hd_X5_tally (z : XKT) : XHd z Y_X5_tally := xHd_none rfl (xhd0 rfl)
theorem kX5_tally_0 (z : XKT) : XOi z xInf Y_X5_tally 0 (.inl (i_aload 0 1)) := ok_aload_n dX5_tally_0 rfl
theorem kX5_tally_1 (z : XKT) : XOi z xInf Y_X5_tally 1 (.inl (i_getr [4] 40 4)) := ok_getr dX5_tally_1 q2517 (List.forall_mem_cons.mpr ⟨⟨_, _, _, _, fd_40_4_0⟩, (fun _ h => absurd h List.not_mem_nil)⟩)
theorem kX5_tally_4 (z : XKT) : XOi z xInf Y_X5_tally 4 (.inl (i_push (vI 7) 6)) := ok_bipush dX5_tally_4 rfl
theorem kX5_tally_6 (z : XKT) : XOi z xInf Y_X5_tally 6 (.inl (i_iload 1 7)) := ok_iload_n dX5_tally_6 rfl
theorem kX5_tally_7 (z : XKT) : XOi z xInf Y_X5_tally 7 (.inl (i_bin (fun x y => x + y) 8)) := ok_iadd dX5_tally_7
theorem kX5_tally_8 (z : XKT) : XOi z xInf Y_X5_tally 8 (.inl (i_push (vI 3) 9)) := ok_iconst dX5_tally_8 rfl
theorem kX5_tally_9 (z : XKT) : XOi z xInf Y_X5_tally 9 (.inl (i_bin (fun x y => x - y) 10)) := ok_isub dX5_tally_9
theorem kX5_tally_10 (z : XKT) : XOi z xInf Y_X5_tally 10 (.inl (i_dup2 11)) := ok_dup2 dX5_tally_10
theorem kX5_tally_11 (z : XKT) : XOi z xInf Y_X5_tally 11 (.inl (i_ald 1000 12)) := ok_iald dX5_tally_11
theorem kX5_tally_12 (z : XKT) : XOi z xInf Y_X5_tally 12 (.inl (i_iload 2 13)) := ok_iload_n dX5_tally_12 rfl
theorem kX5_tally_13 (z : XKT) : XOi z xInf Y_X5_tally 13 (.inl (i_bin (fun x y => x + y) 14)) := ok_iadd dX5_tally_13
theorem kX5_tally_14 (z : XKT) : XOi z xInf Y_X5_tally 14 (.inl (i_ast z.1 1000 (fun x => x) 15)) := ok_iast dX5_tally_14
theorem kX5_tally_15 (z : XKT) : XOi z xInf Y_X5_tally 15 (.inr (.inr (.inl r_v))) := show XOkR Y_X5_tally 15 (r_v) from okr_v (q := Y_X5_tally) rfl dX5_tally_15
theorem o_X5_tally (z : XKT) : XMi z xInf Y_X5_tally := XMi.mk9 (T := T_X5_tally z) rfl (⟨kX5_tally_0 z, ⟨kX5_tally_1 z, ⟨kX5_tally_4 z, ⟨kX5_tally_6 z, ⟨kX5_tally_7 z, ⟨kX5_tally_8 z, ⟨kX5_tally_9 z, ⟨kX5_tally_10 z, ⟨kX5_tally_11 z, ⟨kX5_tally_12 z, ⟨kX5_tally_13 z, ⟨kX5_tally_14 z, ⟨kX5_tally_15 z, trivial⟩⟩⟩⟩⟩⟩⟩⟩⟩⟩⟩⟩⟩) (hd_X5_tally z) rfl rfl (by decide +kernel)
theorem hd_X5_thrown (z : XKT) : XHd z Y_X5_thrown := xHd_none rfl (xhd0 rfl)
theorem kX5_thrown_0 (z : XKT) : XOi z xInf Y_X5_thrown 0 (.inl (i_aload 0 1)) := ok_aload_n dX5_thrown_0 rfl
theorem kX5_thrown_1 (z : XKT) : XOi z xInf Y_X5_thrown 1 (.inl (i_geti [4] 42 4)) := ok_geti dX5_thrown_1 q2519 (List.forall_mem_cons.mpr ⟨⟨_, _, _, _, fd_42_4_0⟩, (fun _ h => absurd h List.not_mem_nil)⟩)
theorem kX5_thrown_4 (z : XKT) : XOi z xInf Y_X5_thrown 4 (.inr (.inr (.inl (r_i .int)))) := show XOkR Y_X5_thrown 4 ((r_i .int)) from okr_i (q := Y_X5_thrown) (ty := .int) rfl rfl dX5_thrown_4
theorem o_X5_thrown (z : XKT) : XMi z xInf Y_X5_thrown := XMi.mk9 (T := T_X5_thrown z) rfl (⟨kX5_thrown_0 z, ⟨kX5_thrown_1 z, ⟨kX5_thrown_4 z, trivial⟩⟩⟩) (hd_X5_thrown z) rfl rfl (by decide +kernel)
theorem hd_X5_tick (z : XKT) : XHd z Y_X5_tick := xHd_none rfl (xhd0 rfl)
theorem kX5_tick_0 (z : XKT) : XOi z xInf Y_X5_tick 0 (.inl (i_aload 0 1)) := ok_aload_n dX5_tick_0 rfl
theorem kX5_tick_1 (z : XKT) : XOi z xInf Y_X5_tick 1 (.inl (i_getr [4] 40 4)) := ok_getr dX5_tick_1 q2517 (List.forall_mem_cons.mpr ⟨⟨_, _, _, _, fd_40_4_0⟩, (fun _ h => absurd h List.not_mem_nil)⟩)
theorem kX5_tick_4 (z : XKT) : XOi z xInf Y_X5_tick 4 (.inl (i_push (vI 0) 5)) := ok_iconst dX5_tick_4 rfl
theorem kX5_tick_5 (z : XKT) : XOi z xInf Y_X5_tick 5 (.inl (i_dup2 6)) := ok_dup2 dX5_tick_5
theorem kX5_tick_6 (z : XKT) : XOi z xInf Y_X5_tick 6 (.inl (i_ald 1000 7)) := ok_iald dX5_tick_6
theorem kX5_tick_7 (z : XKT) : XOi z xInf Y_X5_tick 7 (.inl (i_push (vI 1) 8)) := ok_iconst dX5_tick_7 rfl
theorem kX5_tick_8 (z : XKT) : XOi z xInf Y_X5_tick 8 (.inl (i_bin (fun x y => x + y) 9)) := ok_iadd dX5_tick_8
theorem kX5_tick_9 (z : XKT) : XOi z xInf Y_X5_tick 9 (.inl (i_ast z.1 1000 (fun x => x) 10)) := ok_iast dX5_tick_9
theorem kX5_tick_10 (z : XKT) : XOi z xInf Y_X5_tick 10 (.inl (i_push (vI 0) 11)) := ok_iconst dX5_tick_10 rfl
theorem kX5_tick_11 (z : XKT) : XOi z xInf Y_X5_tick 11 (.inl (i_istore 1 12)) := ok_istore_n dX5_tick_11 rfl
theorem kX5_tick_12 (z : XKT) : XOi z xInf Y_X5_tick 12 (.inl (i_iload 1 13)) := ok_iload_n dX5_tick_12 rfl
theorem kX5_tick_13 (z : XKT) : XOi z xInf Y_X5_tick 13 (.inl (i_aload 0 14)) := ok_aload_n dX5_tick_13 rfl
theorem kX5_tick_14 (z : XKT) : XOi z xInf Y_X5_tick 14 (.inl (i_getr [4] 40 17)) := ok_getr dX5_tick_14 q2517 (List.forall_mem_cons.mpr ⟨⟨_, _, _, _, fd_40_4_0⟩, (fun _ h => absurd h List.not_mem_nil)⟩)
theorem kX5_tick_17 (z : XKT) : XOi z xInf Y_X5_tick 17 (.inl (i_push (vI 5) 18)) := ok_iconst dX5_tick_17 rfl
theorem kX5_tick_18 (z : XKT) : XOi z xInf Y_X5_tick 18 (.inl (i_ald 1000 19)) := ok_iald dX5_tick_18
theorem kX5_tick_19 (z : XKT) : XOi z xInf Y_X5_tick 19 (.inl (i_icmp (fun x y => y ≤ x) 56 22)) := ok_icmp_ge dX5_tick_19 rfl
theorem kX5_tick_22 (z : XKT) : XOi z xInf Y_X5_tick 22 (.inl (i_aload 0 23)) := ok_aload_n dX5_tick_22 rfl
theorem kX5_tick_23 (z : XKT) : XOi z xInf Y_X5_tick 23 (.inl (i_iload 1 24)) := ok_iload_n dX5_tick_23 rfl
theorem kX5_tick_24 (z : XKT) : XOi z xInf Y_X5_tick 24 (.inl (i_push (vI 0) 25)) := ok_iconst dX5_tick_24 rfl
theorem kX5_tick_25 (z : XKT) : XOi z xInf Y_X5_tick 25 (.inr (.inl (28, g_virt [(4, 233)] 2))) := show XOkC z xInf Y_X5_tick 25 28 (g_virt [(4, 233)] 2) from okc_V (q := Y_X5_tick) (List.forall_mem_cons.mpr ⟨(show XOkV z xInf Y_X5_tick 25 28 2 (4, 233) from okv_V (q := Y_X5_tick) (q1 := Y_X5_isIn) Z_X5_isIn rfl (by decide) ⟨by decide, by decide, Or.inl ⟨_, _, (List.mem_of_getElem? (l := xCls) (i := 3) rfl)⟩⟩ dX5_tick_25 q2618 q2620 qs49 q153 q2621 hy_270), (fun _ h => absurd h List.not_mem_nil)⟩)
theorem kX5_tick_28 (z : XKT) : XOi z xInf Y_X5_tick 28 (.inl (i_if (fun x => x = 0) 50 31)) := ok_if_eq dX5_tick_28 rfl
theorem kX5_tick_31 (z : XKT) : XOi z xInf Y_X5_tick 31 (.inl (i_aload 0 32)) := ok_aload_n dX5_tick_31 rfl
theorem kX5_tick_32 (z : XKT) : XOi z xInf Y_X5_tick 32 (.inl (i_iload 1 33)) := ok_iload_n dX5_tick_32 rfl
theorem kX5_tick_33 (z : XKT) : XOi z xInf Y_X5_tick 33 (.inl (i_aload 0 34)) := ok_aload_n dX5_tick_33 rfl
theorem kX5_tick_34 (z : XKT) : XOi z xInf Y_X5_tick 34 (.inl (i_getr [4] 40 37)) := ok_getr dX5_tick_34 q2517 (List.forall_mem_cons.mpr ⟨⟨_, _, _, _, fd_40_4_0⟩, (fun _ h => absurd h List.not_mem_nil)⟩)
theorem kX5_tick_37 (z : XKT) : XOi z xInf Y_X5_tick 37 (.inl (i_push (vI 0) 38)) := ok_iconst dX5_tick_37 rfl
theorem kX5_tick_38 (z : XKT) : XOi z xInf Y_X5_tick 38 (.inl (i_ald 1000 39)) := ok_iald dX5_tick_38
theorem kX5_tick_39 (z : XKT) : XOi z xInf Y_X5_tick 39 (.inr (.inl (42, g_virt [(4, 230)] 2))) := show XOkC z xInf Y_X5_tick 39 42 (g_virt [(4, 230)] 2) from okc_V (q := Y_X5_tick) (List.forall_mem_cons.mpr ⟨(show XOkV z xInf Y_X5_tick 39 42 2 (4, 230) from okv_V (q := Y_X5_tick) (q1 := Y_X5_isDry) Z_X5_isDry rfl (by decide) ⟨by decide, by decide, Or.inl ⟨_, _, (List.mem_of_getElem? (l := xCls) (i := 3) rfl)⟩⟩ dX5_tick_39 q2638 q2640 qs54 q153 q2641 hy_271), (fun _ h => absurd h List.not_mem_nil)⟩)
theorem kX5_tick_42 (z : XKT) : XOi z xInf Y_X5_tick 42 (.inl (i_if (fun x => ¬ x = 0) 50 45)) := ok_if_ne dX5_tick_42 rfl
theorem kX5_tick_45 (z : XKT) : XOi z xInf Y_X5_tick 45 (.inl (i_aload 0 46)) := ok_aload_n dX5_tick_45 rfl
theorem kX5_tick_46 (z : XKT) : XOi z xInf Y_X5_tick 46 (.inl (i_iload 1 47)) := ok_iload_n dX5_tick_46 rfl
theorem kX5_tick_47 (z : XKT) : XOi z xInf Y_X5_tick 47 (.inr (.inl (50, g_virt [(4, 302)] 1))) := show XOkC z xInf Y_X5_tick 47 50 (g_virt [(4, 302)] 1) from okc_V (q := Y_X5_tick) (List.forall_mem_cons.mpr ⟨(show XOkV z xInf Y_X5_tick 47 50 1 (4, 302) from okv_V (q := Y_X5_tick) (q1 := Y_X5_wash) Z_X5_wash rfl (by decide) ⟨by decide, by decide, Or.inl ⟨_, _, (List.mem_of_getElem? (l := xCls) (i := 3) rfl)⟩⟩ dX5_tick_47 q2990 q2992 qs98 q153 q2993 hy_342), (fun _ h => absurd h List.not_mem_nil)⟩)
theorem kX5_tick_50 (z : XKT) : XOi z xInf Y_X5_tick 50 (.inl (i_iinc 1 1 53)) := ok_iinc dX5_tick_50 rfl
theorem kX5_tick_53 (z : XKT) : XOi z xInf Y_X5_tick 53 (.inl (i_goto 12)) := ok_goto dX5_tick_53 rfl
theorem kX5_tick_56 (z : XKT) : XOi z xInf Y_X5_tick 56 (.inr (.inr (.inl r_v))) := show XOkR Y_X5_tick 56 (r_v) from okr_v (q := Y_X5_tick) rfl dX5_tick_56
theorem o_X5_tick (z : XKT) : XMi z xInf Y_X5_tick := XMi.mk9 (T := T_X5_tick z) rfl (⟨kX5_tick_0 z, ⟨kX5_tick_1 z, ⟨kX5_tick_4 z, ⟨kX5_tick_5 z, ⟨kX5_tick_6 z, ⟨kX5_tick_7 z, ⟨kX5_tick_8 z, ⟨kX5_tick_9 z, ⟨kX5_tick_10 z, ⟨kX5_tick_11 z, ⟨kX5_tick_12 z, ⟨kX5_tick_13 z, ⟨kX5_tick_14 z, ⟨kX5_tick_17 z, ⟨kX5_tick_18 z, ⟨kX5_tick_19 z, ⟨kX5_tick_22 z, ⟨kX5_tick_23 z, ⟨kX5_tick_24 z, ⟨kX5_tick_25 z, ⟨kX5_tick_28 z, ⟨kX5_tick_31 z, ⟨kX5_tick_32 z, ⟨kX5_tick_33 z, ⟨kX5_tick_34 z, ⟨kX5_tick_37 z, ⟨kX5_tick_38 z, ⟨kX5_tick_39 z, ⟨kX5_tick_42 z, ⟨kX5_tick_45 z, ⟨kX5_tick_46 z, ⟨kX5_tick_47 z, ⟨kX5_tick_50 z, ⟨kX5_tick_53 z, ⟨kX5_tick_56 z, trivial⟩⟩⟩⟩⟩⟩⟩⟩⟩⟩⟩⟩⟩⟩⟩⟩⟩⟩⟩⟩⟩⟩⟩⟩⟩⟩⟩⟩⟩⟩⟩⟩⟩⟩⟩) (hd_X5_tick z) rfl rfl (by decide +kernel)
theorem hd_X5_ticks (z : XKT) : XHd z Y_X5_ticks := xHd_none rfl (xhd0 rfl)
theorem kX5_ticks_0 (z : XKT) : XOi z xInf Y_X5_ticks 0 (.inl (i_aload 0 1)) := ok_aload_n dX5_ticks_0 rfl
theorem kX5_ticks_1 (z : XKT) : XOi z xInf Y_X5_ticks 1 (.inl (i_iload 1 2)) := ok_iload_n dX5_ticks_1 rfl
theorem kX5_ticks_2 (z : XKT) : XOi z xInf Y_X5_ticks 2 (.inl (i_push (vI 1) 3)) := ok_iconst dX5_ticks_2 rfl
theorem kX5_ticks_3 (z : XKT) : XOi z xInf Y_X5_ticks 3 (.inl (i_push (vI 200) 6)) := ok_sipush dX5_ticks_3 rfl
theorem kX5_ticks_6 (z : XKT) : XOi z xInf Y_X5_ticks 6 (.inr (.inl (9, g_stat 226 3))) := show XOkC z xInf Y_X5_ticks 6 9 (g_stat 226 3) from okc_S (q := Y_X5_ticks) (q1 := Y_X5_inRange) Z_X5_inRange rfl (by decide) dX5_ticks_6 q2603 q2604 q153 q2605 hy_261
theorem kX5_ticks_9 (z : XKT) : XOi z xInf Y_X5_ticks 9 (.inr (.inl (12, g_virt [(4, 240)] 1))) := show XOkC z xInf Y_X5_ticks 9 12 (g_virt [(4, 240)] 1) from okc_V (q := Y_X5_ticks) (List.forall_mem_cons.mpr ⟨(show XOkV z xInf Y_X5_ticks 9 12 1 (4, 240) from okv_V (q := Y_X5_ticks) (q1 := Y_X5_lacks) Z_X5_lacks rfl (by decide) ⟨by decide, by decide, Or.inl ⟨_, _, (List.mem_of_getElem? (l := xCls) (i := 3) rfl)⟩⟩ dX5_ticks_9 q2606 q2608 qs46 q153 q2609 hy_262), (fun _ h => absurd h List.not_mem_nil)⟩)
theorem kX5_ticks_12 (z : XKT) : XOi z xInf Y_X5_ticks 12 (.inl (i_if (fun x => x = 0) 17 15)) := ok_if_eq dX5_ticks_12 rfl
theorem kX5_ticks_15 (z : XKT) : XOi z xInf Y_X5_ticks 15 (.inl (i_push (vI 0) 16)) := ok_iconst dX5_ticks_15 rfl
theorem kX5_ticks_16 (z : XKT) : XOi z xInf Y_X5_ticks 16 (.inr (.inr (.inl (r_i .int)))) := show XOkR Y_X5_ticks 16 ((r_i .int)) from okr_i (q := Y_X5_ticks) (ty := .int) rfl rfl dX5_ticks_16
theorem kX5_ticks_17 (z : XKT) : XOi z xInf Y_X5_ticks 17 (.inl (i_aload 0 18)) := ok_aload_n dX5_ticks_17 rfl
theorem kX5_ticks_18 (z : XKT) : XOi z xInf Y_X5_ticks 18 (.inr (.inl (21, g_virt [(4, 238)] 0))) := show XOkC z xInf Y_X5_ticks 18 21 (g_virt [(4, 238)] 0) from okc_V (q := Y_X5_ticks) (List.forall_mem_cons.mpr ⟨(show XOkV z xInf Y_X5_ticks 18 21 0 (4, 238) from okv_V (q := Y_X5_ticks) (q1 := Y_X5_keep) Z_X5_keep rfl (by decide) ⟨by decide, by decide, Or.inl ⟨_, _, (List.mem_of_getElem? (l := xCls) (i := 3) rfl)⟩⟩ dX5_ticks_18 q2878 q2880 qs79 q153 q2881 hy_276), (fun _ h => absurd h List.not_mem_nil)⟩)
theorem kX5_ticks_21 (z : XKT) : XOi z xInf Y_X5_ticks 21 (.inl (i_aload 0 22)) := ok_aload_n dX5_ticks_21 rfl
theorem kX5_ticks_22 (z : XKT) : XOi z xInf Y_X5_ticks 22 (.inl (i_aload 0 23)) := ok_aload_n dX5_ticks_22 rfl
theorem kX5_ticks_23 (z : XKT) : XOi z xInf Y_X5_ticks 23 (.inl (i_iload 1 24)) := ok_iload_n dX5_ticks_23 rfl
theorem kX5_ticks_24 (z : XKT) : XOi z xInf Y_X5_ticks 24 (.inr (.inl (27, g_virt [(4, 206)] 1))) := show XOkC z xInf Y_X5_ticks 24 27 (g_virt [(4, 206)] 1) from okc_V (q := Y_X5_ticks) (List.forall_mem_cons.mpr ⟨(show XOkV z xInf Y_X5_ticks 24 27 1 (4, 206) from okv_V (q := Y_X5_ticks) (q1 := Y_X5_doTicks) Z_X5_doTicks rfl (by decide) ⟨by decide, by decide, Or.inl ⟨_, _, (List.mem_of_getElem? (l := xCls) (i := 3) rfl)⟩⟩ dX5_ticks_24 q2982 q2984 qs96 q153 q2985 hy_303), (fun _ h => absurd h List.not_mem_nil)⟩)
theorem kX5_ticks_27 (z : XKT) : XOi z xInf Y_X5_ticks 27 (.inr (.inl (30, g_virt [(4, 275)] 1))) := show XOkC z xInf Y_X5_ticks 27 30 (g_virt [(4, 275)] 1) from okc_V (q := Y_X5_ticks) (List.forall_mem_cons.mpr ⟨(show XOkV z xInf Y_X5_ticks 27 30 1 (4, 275) from okv_V (q := Y_X5_ticks) (q1 := Y_X5_recorded) Z_X5_recorded rfl (by decide) ⟨by decide, by decide, Or.inl ⟨_, _, (List.mem_of_getElem? (l := xCls) (i := 3) rfl)⟩⟩ dX5_ticks_27 q2902 q2904 qs84 q153 q2905 hy_278), (fun _ h => absurd h List.not_mem_nil)⟩)
theorem kX5_ticks_30 (z : XKT) : XOi z xInf Y_X5_ticks 30 (.inr (.inr (.inl (r_i .int)))) := show XOkR Y_X5_ticks 30 ((r_i .int)) from okr_i (q := Y_X5_ticks) (ty := .int) rfl rfl dX5_ticks_30
theorem o_X5_ticks (z : XKT) : XMi z xInf Y_X5_ticks := XMi.mk9 (T := T_X5_ticks z) rfl (⟨kX5_ticks_0 z, ⟨kX5_ticks_1 z, ⟨kX5_ticks_2 z, ⟨kX5_ticks_3 z, ⟨kX5_ticks_6 z, ⟨kX5_ticks_9 z, ⟨kX5_ticks_12 z, ⟨kX5_ticks_15 z, ⟨kX5_ticks_16 z, ⟨kX5_ticks_17 z, ⟨kX5_ticks_18 z, ⟨kX5_ticks_21 z, ⟨kX5_ticks_22 z, ⟨kX5_ticks_23 z, ⟨kX5_ticks_24 z, ⟨kX5_ticks_27 z, ⟨kX5_ticks_30 z, trivial⟩⟩⟩⟩⟩⟩⟩⟩⟩⟩⟩⟩⟩⟩⟩⟩⟩) (hd_X5_ticks z) rfl rfl (by decide +kernel)
theorem hd_X5_ticksToDry (z : XKT) : XHd z Y_X5_ticksToDry := xHd_none rfl (xhd0 rfl)
theorem kX5_ticksToDry_0 (z : XKT) : XOi z xInf Y_X5_ticksToDry 0 (.inl (i_push (vI 0) 1)) := ok_iconst dX5_ticksToDry_0 rfl
theorem kX5_ticksToDry_1 (z : XKT) : XOi z xInf Y_X5_ticksToDry 1 (.inl (i_istore 2 2)) := ok_istore_n dX5_ticksToDry_1 rfl
theorem kX5_ticksToDry_2 (z : XKT) : XOi z xInf Y_X5_ticksToDry 2 (.inl (i_aload 0 3)) := ok_aload_n dX5_ticksToDry_2 rfl
theorem kX5_ticksToDry_3 (z : XKT) : XOi z xInf Y_X5_ticksToDry 3 (.inl (i_iload 1 4)) := ok_iload_n dX5_ticksToDry_3 rfl
theorem kX5_ticksToDry_4 (z : XKT) : XOi z xInf Y_X5_ticksToDry 4 (.inl (i_aload 0 5)) := ok_aload_n dX5_ticksToDry_4 rfl
theorem kX5_ticksToDry_5 (z : XKT) : XOi z xInf Y_X5_ticksToDry 5 (.inl (i_getr [4] 40 8)) := ok_getr dX5_ticksToDry_5 q2517 (List.forall_mem_cons.mpr ⟨⟨_, _, _, _, fd_40_4_0⟩, (fun _ h => absurd h List.not_mem_nil)⟩)
theorem kX5_ticksToDry_8 (z : XKT) : XOi z xInf Y_X5_ticksToDry 8 (.inl (i_push (vI 0) 9)) := ok_iconst dX5_ticksToDry_8 rfl
theorem kX5_ticksToDry_9 (z : XKT) : XOi z xInf Y_X5_ticksToDry 9 (.inl (i_ald 1000 10)) := ok_iald dX5_ticksToDry_9
theorem kX5_ticksToDry_10 (z : XKT) : XOi z xInf Y_X5_ticksToDry 10 (.inl (i_iload 2 11)) := ok_iload_n dX5_ticksToDry_10 rfl
theorem kX5_ticksToDry_11 (z : XKT) : XOi z xInf Y_X5_ticksToDry 11 (.inl (i_bin (fun x y => x + y) 12)) := ok_iadd dX5_ticksToDry_11
theorem kX5_ticksToDry_12 (z : XKT) : XOi z xInf Y_X5_ticksToDry 12 (.inr (.inl (15, g_virt [(4, 230)] 2))) := show XOkC z xInf Y_X5_ticksToDry 12 15 (g_virt [(4, 230)] 2) from okc_V (q := Y_X5_ticksToDry) (List.forall_mem_cons.mpr ⟨(show XOkV z xInf Y_X5_ticksToDry 12 15 2 (4, 230) from okv_V (q := Y_X5_ticksToDry) (q1 := Y_X5_isDry) Z_X5_isDry rfl (by decide) ⟨by decide, by decide, Or.inl ⟨_, _, (List.mem_of_getElem? (l := xCls) (i := 3) rfl)⟩⟩ dX5_ticksToDry_12 q2638 q2640 qs54 q153 q2641 hy_271), (fun _ h => absurd h List.not_mem_nil)⟩)
theorem kX5_ticksToDry_15 (z : XKT) : XOi z xInf Y_X5_ticksToDry 15 (.inl (i_if (fun x => ¬ x = 0) 24 18)) := ok_if_ne dX5_ticksToDry_15 rfl
theorem kX5_ticksToDry_18 (z : XKT) : XOi z xInf Y_X5_ticksToDry 18 (.inl (i_iinc 2 1 21)) := ok_iinc dX5_ticksToDry_18 rfl
theorem kX5_ticksToDry_21 (z : XKT) : XOi z xInf Y_X5_ticksToDry 21 (.inl (i_goto 2)) := ok_goto dX5_ticksToDry_21 rfl
theorem kX5_ticksToDry_24 (z : XKT) : XOi z xInf Y_X5_ticksToDry 24 (.inl (i_iload 2 25)) := ok_iload_n dX5_ticksToDry_24 rfl
theorem kX5_ticksToDry_25 (z : XKT) : XOi z xInf Y_X5_ticksToDry 25 (.inr (.inr (.inl (r_i .int)))) := show XOkR Y_X5_ticksToDry 25 ((r_i .int)) from okr_i (q := Y_X5_ticksToDry) (ty := .int) rfl rfl dX5_ticksToDry_25
theorem o_X5_ticksToDry (z : XKT) : XMi z xInf Y_X5_ticksToDry := XMi.mk9 (T := T_X5_ticksToDry z) rfl (⟨kX5_ticksToDry_0 z, ⟨kX5_ticksToDry_1 z, ⟨kX5_ticksToDry_2 z, ⟨kX5_ticksToDry_3 z, ⟨kX5_ticksToDry_4 z, ⟨kX5_ticksToDry_5 z, ⟨kX5_ticksToDry_8 z, ⟨kX5_ticksToDry_9 z, ⟨kX5_ticksToDry_10 z, ⟨kX5_ticksToDry_11 z, ⟨kX5_ticksToDry_12 z, ⟨kX5_ticksToDry_15 z, ⟨kX5_ticksToDry_18 z, ⟨kX5_ticksToDry_21 z, ⟨kX5_ticksToDry_24 z, ⟨kX5_ticksToDry_25 z, trivial⟩⟩⟩⟩⟩⟩⟩⟩⟩⟩⟩⟩⟩⟩⟩⟩) (hd_X5_ticksToDry z) rfl rfl (by decide +kernel)
theorem hd_X5_ticksToLoss (z : XKT) : XHd z Y_X5_ticksToLoss := xHd_none rfl (xhd0 rfl)
theorem kX5_ticksToLoss_0 (z : XKT) : XOi z xInf Y_X5_ticksToLoss 0 (.inl (i_aload 0 1)) := ok_aload_n dX5_ticksToLoss_0 rfl
theorem kX5_ticksToLoss_1 (z : XKT) : XOi z xInf Y_X5_ticksToLoss 1 (.inl (i_iload 1 2)) := ok_iload_n dX5_ticksToLoss_1 rfl
theorem kX5_ticksToLoss_2 (z : XKT) : XOi z xInf Y_X5_ticksToLoss 2 (.inl (i_push (vI 0) 3)) := ok_iconst dX5_ticksToLoss_2 rfl
theorem kX5_ticksToLoss_3 (z : XKT) : XOi z xInf Y_X5_ticksToLoss 3 (.inr (.inl (6, g_virt [(4, 233)] 2))) := show XOkC z xInf Y_X5_ticksToLoss 3 6 (g_virt [(4, 233)] 2) from okc_V (q := Y_X5_ticksToLoss) (List.forall_mem_cons.mpr ⟨(show XOkV z xInf Y_X5_ticksToLoss 3 6 2 (4, 233) from okv_V (q := Y_X5_ticksToLoss) (q1 := Y_X5_isIn) Z_X5_isIn rfl (by decide) ⟨by decide, by decide, Or.inl ⟨_, _, (List.mem_of_getElem? (l := xCls) (i := 3) rfl)⟩⟩ dX5_ticksToLoss_3 q2618 q2620 qs49 q153 q2621 hy_270), (fun _ h => absurd h List.not_mem_nil)⟩)
theorem kX5_ticksToLoss_6 (z : XKT) : XOi z xInf Y_X5_ticksToLoss 6 (.inl (i_if (fun x => x = 0) 23 9)) := ok_if_eq dX5_ticksToLoss_6 rfl
theorem kX5_ticksToLoss_9 (z : XKT) : XOi z xInf Y_X5_ticksToLoss 9 (.inl (i_aload 0 10)) := ok_aload_n dX5_ticksToLoss_9 rfl
theorem kX5_ticksToLoss_10 (z : XKT) : XOi z xInf Y_X5_ticksToLoss 10 (.inl (i_iload 1 11)) := ok_iload_n dX5_ticksToLoss_10 rfl
theorem kX5_ticksToLoss_11 (z : XKT) : XOi z xInf Y_X5_ticksToLoss 11 (.inr (.inl (14, g_virt [(4, 185)] 1))) := show XOkC z xInf Y_X5_ticksToLoss 11 14 (g_virt [(4, 185)] 1) from okc_V (q := Y_X5_ticksToLoss) (List.forall_mem_cons.mpr ⟨(show XOkV z xInf Y_X5_ticksToLoss 11 14 1 (4, 185) from okv_V (q := Y_X5_ticksToLoss) (q1 := Y_X5_countDry) Z_X5_countDry rfl (by decide) ⟨by decide, by decide, Or.inl ⟨_, _, (List.mem_of_getElem? (l := xCls) (i := 3) rfl)⟩⟩ dX5_ticksToLoss_11 q2782 q2784 qs74 q153 q2785 hy_304), (fun _ h => absurd h List.not_mem_nil)⟩)
theorem kX5_ticksToLoss_14 (z : XKT) : XOi z xInf Y_X5_ticksToLoss 14 (.inl (i_aload 0 15)) := ok_aload_n dX5_ticksToLoss_14 rfl
theorem kX5_ticksToLoss_15 (z : XKT) : XOi z xInf Y_X5_ticksToLoss 15 (.inl (i_getr [4] 40 18)) := ok_getr dX5_ticksToLoss_15 q2517 (List.forall_mem_cons.mpr ⟨⟨_, _, _, _, fd_40_4_0⟩, (fun _ h => absurd h List.not_mem_nil)⟩)
theorem kX5_ticksToLoss_18 (z : XKT) : XOi z xInf Y_X5_ticksToLoss 18 (.inl (i_push (vI 1) 19)) := ok_iconst dX5_ticksToLoss_18 rfl
theorem kX5_ticksToLoss_19 (z : XKT) : XOi z xInf Y_X5_ticksToLoss 19 (.inl (i_ald 1000 20)) := ok_iald dX5_ticksToLoss_19
theorem kX5_ticksToLoss_20 (z : XKT) : XOi z xInf Y_X5_ticksToLoss 20 (.inl (i_icmp (fun x y => ¬ x = y) 25 23)) := ok_icmp_ne dX5_ticksToLoss_20 rfl
theorem kX5_ticksToLoss_23 (z : XKT) : XOi z xInf Y_X5_ticksToLoss 23 (.inl (i_push (vI (-1)) 24)) := ok_iconst dX5_ticksToLoss_23 rfl
theorem kX5_ticksToLoss_24 (z : XKT) : XOi z xInf Y_X5_ticksToLoss 24 (.inr (.inr (.inl (r_i .int)))) := show XOkR Y_X5_ticksToLoss 24 ((r_i .int)) from okr_i (q := Y_X5_ticksToLoss) (ty := .int) rfl rfl dX5_ticksToLoss_24
theorem kX5_ticksToLoss_25 (z : XKT) : XOi z xInf Y_X5_ticksToLoss 25 (.inl (i_push (vI 0) 26)) := ok_iconst dX5_ticksToLoss_25 rfl
theorem kX5_ticksToLoss_26 (z : XKT) : XOi z xInf Y_X5_ticksToLoss 26 (.inl (i_istore 2 27)) := ok_istore_n dX5_ticksToLoss_26 rfl
theorem kX5_ticksToLoss_27 (z : XKT) : XOi z xInf Y_X5_ticksToLoss 27 (.inl (i_aload 0 28)) := ok_aload_n dX5_ticksToLoss_27 rfl
theorem kX5_ticksToLoss_28 (z : XKT) : XOi z xInf Y_X5_ticksToLoss 28 (.inl (i_getr [4] 40 31)) := ok_getr dX5_ticksToLoss_28 q2517 (List.forall_mem_cons.mpr ⟨⟨_, _, _, _, fd_40_4_0⟩, (fun _ h => absurd h List.not_mem_nil)⟩)
theorem kX5_ticksToLoss_31 (z : XKT) : XOi z xInf Y_X5_ticksToLoss 31 (.inl (i_push (vI 2) 32)) := ok_iconst dX5_ticksToLoss_31 rfl
theorem kX5_ticksToLoss_32 (z : XKT) : XOi z xInf Y_X5_ticksToLoss 32 (.inl (i_ald 1000 33)) := ok_iald dX5_ticksToLoss_32
theorem kX5_ticksToLoss_33 (z : XKT) : XOi z xInf Y_X5_ticksToLoss 33 (.inl (i_aload 0 34)) := ok_aload_n dX5_ticksToLoss_33 rfl
theorem kX5_ticksToLoss_34 (z : XKT) : XOi z xInf Y_X5_ticksToLoss 34 (.inl (i_iload 1 35)) := ok_iload_n dX5_ticksToLoss_34 rfl
theorem kX5_ticksToLoss_35 (z : XKT) : XOi z xInf Y_X5_ticksToLoss 35 (.inl (i_push (vI 6) 37)) := ok_bipush dX5_ticksToLoss_35 rfl
theorem kX5_ticksToLoss_37 (z : XKT) : XOi z xInf Y_X5_ticksToLoss 37 (.inr (.inl (40, g_virt [(4, 253)] 2))) := show XOkC z xInf Y_X5_ticksToLoss 37 40 (g_virt [(4, 253)] 2) from okc_V (q := Y_X5_ticksToLoss) (List.forall_mem_cons.mpr ⟨(show XOkV z xInf Y_X5_ticksToLoss 37 40 2 (4, 253) from okv_V (q := Y_X5_ticksToLoss) (q1 := Y_X5_of) Z_X5_of rfl (by decide) ⟨by decide, by decide, Or.inl ⟨_, _, (List.mem_of_getElem? (l := xCls) (i := 3) rfl)⟩⟩ dX5_ticksToLoss_37 q2622 q2624 qs50 q153 q2625 hy_265), (fun _ h => absurd h List.not_mem_nil)⟩)
theorem kX5_ticksToLoss_40 (z : XKT) : XOi z xInf Y_X5_ticksToLoss 40 (.inl (i_bin (fun x y => x - y) 41)) := ok_isub dX5_ticksToLoss_40
theorem kX5_ticksToLoss_41 (z : XKT) : XOi z xInf Y_X5_ticksToLoss 41 (.inl (i_istore 3 42)) := ok_istore_n dX5_ticksToLoss_41 rfl
theorem kX5_ticksToLoss_42 (z : XKT) : XOi z xInf Y_X5_ticksToLoss 42 (.inl (i_iload 3 43)) := ok_iload_n dX5_ticksToLoss_42 rfl
theorem kX5_ticksToLoss_43 (z : XKT) : XOi z xInf Y_X5_ticksToLoss 43 (.inl (i_if (fun x => x ≤ 0) 76 46)) := ok_if_le dX5_ticksToLoss_43 rfl
theorem kX5_ticksToLoss_46 (z : XKT) : XOi z xInf Y_X5_ticksToLoss 46 (.inl (i_iinc 2 1 49)) := ok_iinc dX5_ticksToLoss_46 rfl
theorem kX5_ticksToLoss_49 (z : XKT) : XOi z xInf Y_X5_ticksToLoss 49 (.inl (i_iload 3 50)) := ok_iload_n dX5_ticksToLoss_49 rfl
theorem kX5_ticksToLoss_50 (z : XKT) : XOi z xInf Y_X5_ticksToLoss 50 (.inl (i_aload 0 51)) := ok_aload_n dX5_ticksToLoss_50 rfl
theorem kX5_ticksToLoss_51 (z : XKT) : XOi z xInf Y_X5_ticksToLoss 51 (.inl (i_iload 1 52)) := ok_iload_n dX5_ticksToLoss_51 rfl
theorem kX5_ticksToLoss_52 (z : XKT) : XOi z xInf Y_X5_ticksToLoss 52 (.inl (i_aload 0 53)) := ok_aload_n dX5_ticksToLoss_52 rfl
theorem kX5_ticksToLoss_53 (z : XKT) : XOi z xInf Y_X5_ticksToLoss 53 (.inl (i_getr [4] 40 56)) := ok_getr dX5_ticksToLoss_53 q2517 (List.forall_mem_cons.mpr ⟨⟨_, _, _, _, fd_40_4_0⟩, (fun _ h => absurd h List.not_mem_nil)⟩)
theorem kX5_ticksToLoss_56 (z : XKT) : XOi z xInf Y_X5_ticksToLoss 56 (.inl (i_push (vI 0) 57)) := ok_iconst dX5_ticksToLoss_56 rfl
theorem kX5_ticksToLoss_57 (z : XKT) : XOi z xInf Y_X5_ticksToLoss 57 (.inl (i_ald 1000 58)) := ok_iald dX5_ticksToLoss_57
theorem kX5_ticksToLoss_58 (z : XKT) : XOi z xInf Y_X5_ticksToLoss 58 (.inl (i_iload 2 59)) := ok_iload_n dX5_ticksToLoss_58 rfl
theorem kX5_ticksToLoss_59 (z : XKT) : XOi z xInf Y_X5_ticksToLoss 59 (.inl (i_bin (fun x y => x + y) 60)) := ok_iadd dX5_ticksToLoss_59
theorem kX5_ticksToLoss_60 (z : XKT) : XOi z xInf Y_X5_ticksToLoss 60 (.inr (.inl (63, g_virt [(4, 230)] 2))) := show XOkC z xInf Y_X5_ticksToLoss 60 63 (g_virt [(4, 230)] 2) from okc_V (q := Y_X5_ticksToLoss) (List.forall_mem_cons.mpr ⟨(show XOkV z xInf Y_X5_ticksToLoss 60 63 2 (4, 230) from okv_V (q := Y_X5_ticksToLoss) (q1 := Y_X5_isDry) Z_X5_isDry rfl (by decide) ⟨by decide, by decide, Or.inl ⟨_, _, (List.mem_of_getElem? (l := xCls) (i := 3) rfl)⟩⟩ dX5_ticksToLoss_60 q2638 q2640 qs54 q153 q2641 hy_271), (fun _ h => absurd h List.not_mem_nil)⟩)
theorem kX5_ticksToLoss_63 (z : XKT) : XOi z xInf Y_X5_ticksToLoss 63 (.inl (i_if (fun x => x = 0) 70 66)) := ok_if_eq dX5_ticksToLoss_63 rfl
theorem kX5_ticksToLoss_66 (z : XKT) : XOi z xInf Y_X5_ticksToLoss 66 (.inl (i_push (vI 0) 67)) := ok_iconst dX5_ticksToLoss_66 rfl
theorem kX5_ticksToLoss_67 (z : XKT) : XOi z xInf Y_X5_ticksToLoss 67 (.inl (i_goto 71)) := ok_goto dX5_ticksToLoss_67 rfl
theorem kX5_ticksToLoss_70 (z : XKT) : XOi z xInf Y_X5_ticksToLoss 70 (.inl (i_push (vI 1) 71)) := ok_iconst dX5_ticksToLoss_70 rfl
theorem kX5_ticksToLoss_71 (z : XKT) : XOi z xInf Y_X5_ticksToLoss 71 (.inl (i_bin (fun x y => x - y) 72)) := ok_isub dX5_ticksToLoss_71
theorem kX5_ticksToLoss_72 (z : XKT) : XOi z xInf Y_X5_ticksToLoss 72 (.inl (i_istore 3 73)) := ok_istore_n dX5_ticksToLoss_72 rfl
theorem kX5_ticksToLoss_73 (z : XKT) : XOi z xInf Y_X5_ticksToLoss 73 (.inl (i_goto 42)) := ok_goto dX5_ticksToLoss_73 rfl
theorem kX5_ticksToLoss_76 (z : XKT) : XOi z xInf Y_X5_ticksToLoss 76 (.inl (i_iload 2 77)) := ok_iload_n dX5_ticksToLoss_76 rfl
theorem kX5_ticksToLoss_77 (z : XKT) : XOi z xInf Y_X5_ticksToLoss 77 (.inr (.inr (.inl (r_i .int)))) := show XOkR Y_X5_ticksToLoss 77 ((r_i .int)) from okr_i (q := Y_X5_ticksToLoss) (ty := .int) rfl rfl dX5_ticksToLoss_77
theorem o_X5_ticksToLoss (z : XKT) : XMi z xInf Y_X5_ticksToLoss := XMi.mk9 (T := T_X5_ticksToLoss z) rfl (⟨kX5_ticksToLoss_0 z, ⟨kX5_ticksToLoss_1 z, ⟨kX5_ticksToLoss_2 z, ⟨kX5_ticksToLoss_3 z, ⟨kX5_ticksToLoss_6 z, ⟨kX5_ticksToLoss_9 z, ⟨kX5_ticksToLoss_10 z, ⟨kX5_ticksToLoss_11 z, ⟨kX5_ticksToLoss_14 z, ⟨kX5_ticksToLoss_15 z, ⟨kX5_ticksToLoss_18 z, ⟨kX5_ticksToLoss_19 z, ⟨kX5_ticksToLoss_20 z, ⟨kX5_ticksToLoss_23 z, ⟨kX5_ticksToLoss_24 z, ⟨kX5_ticksToLoss_25 z, ⟨kX5_ticksToLoss_26 z, ⟨kX5_ticksToLoss_27 z, ⟨kX5_ticksToLoss_28 z, ⟨kX5_ticksToLoss_31 z, ⟨kX5_ticksToLoss_32 z, ⟨kX5_ticksToLoss_33 z, ⟨kX5_ticksToLoss_34 z, ⟨kX5_ticksToLoss_35 z, ⟨kX5_ticksToLoss_37 z, ⟨kX5_ticksToLoss_40 z, ⟨kX5_ticksToLoss_41 z, ⟨kX5_ticksToLoss_42 z, ⟨kX5_ticksToLoss_43 z, ⟨kX5_ticksToLoss_46 z, ⟨kX5_ticksToLoss_49 z, ⟨kX5_ticksToLoss_50 z, ⟨kX5_ticksToLoss_51 z, ⟨kX5_ticksToLoss_52 z, ⟨kX5_ticksToLoss_53 z, ⟨kX5_ticksToLoss_56 z, ⟨kX5_ticksToLoss_57 z, ⟨kX5_ticksToLoss_58 z, ⟨kX5_ticksToLoss_59 z, ⟨kX5_ticksToLoss_60 z, ⟨kX5_ticksToLoss_63 z, ⟨kX5_ticksToLoss_66 z, ⟨kX5_ticksToLoss_67 z, ⟨kX5_ticksToLoss_70 z, ⟨kX5_ticksToLoss_71 z, ⟨kX5_ticksToLoss_72 z, ⟨kX5_ticksToLoss_73 z, ⟨kX5_ticksToLoss_76 z, ⟨kX5_ticksToLoss_77 z, trivial⟩⟩⟩⟩⟩⟩⟩⟩⟩⟩⟩⟩⟩⟩⟩⟩⟩⟩⟩⟩⟩⟩⟩⟩⟩⟩⟩⟩⟩⟩⟩⟩⟩⟩⟩⟩⟩⟩⟩⟩⟩⟩⟩⟩⟩⟩⟩⟩⟩) (hd_X5_ticksToLoss z) rfl rfl (by decide +kernel)
theorem hd_X5_turnIn (z : XKT) : XHd z Y_X5_turnIn := xHd_none rfl (xhd0 rfl)
theorem kX5_turnIn_0 (z : XKT) : XOi z xInf Y_X5_turnIn 0 (.inl (i_aload 0 1)) := ok_aload_n dX5_turnIn_0 rfl
theorem kX5_turnIn_1 (z : XKT) : XOi z xInf Y_X5_turnIn 1 (.inl (i_push (vI 0) 2)) := ok_iconst dX5_turnIn_1 rfl
theorem kX5_turnIn_2 (z : XKT) : XOi z xInf Y_X5_turnIn 2 (.inl (i_puti z.1 [4] .int 42 5)) := ok_puti dX5_turnIn_2 q2519 rfl (List.forall_mem_cons.mpr ⟨⟨_, _, _, _, tyX5, fd_42_4_0, ⟨tyX5_ok, nmX5, (Or.inl rfl)⟩, rfl⟩, (fun _ h => absurd h List.not_mem_nil)⟩)
theorem kX5_turnIn_5 (z : XKT) : XOi z xInf Y_X5_turnIn 5 (.inl (i_push (vI 0) 6)) := ok_iconst dX5_turnIn_5 rfl
theorem kX5_turnIn_6 (z : XKT) : XOi z xInf Y_X5_turnIn 6 (.inl (i_istore 2 7)) := ok_istore_n dX5_turnIn_6 rfl
theorem kX5_turnIn_7 (z : XKT) : XOi z xInf Y_X5_turnIn 7 (.inl (i_aload 0 8)) := ok_aload_n dX5_turnIn_7 rfl
theorem kX5_turnIn_8 (z : XKT) : XOi z xInf Y_X5_turnIn 8 (.inl (i_getr [4] 40 11)) := ok_getr dX5_turnIn_8 q2517 (List.forall_mem_cons.mpr ⟨⟨_, _, _, _, fd_40_4_0⟩, (fun _ h => absurd h List.not_mem_nil)⟩)
theorem kX5_turnIn_11 (z : XKT) : XOi z xInf Y_X5_turnIn 11 (.inl (i_push (vI 0) 12)) := ok_iconst dX5_turnIn_11 rfl
theorem kX5_turnIn_12 (z : XKT) : XOi z xInf Y_X5_turnIn 12 (.inl (i_ald 1000 13)) := ok_iald dX5_turnIn_12
theorem kX5_turnIn_13 (z : XKT) : XOi z xInf Y_X5_turnIn 13 (.inl (i_iload 2 14)) := ok_iload_n dX5_turnIn_13 rfl
theorem kX5_turnIn_14 (z : XKT) : XOi z xInf Y_X5_turnIn 14 (.inl (i_bin (fun x y => x + y) 15)) := ok_iadd dX5_turnIn_14
theorem kX5_turnIn_15 (z : XKT) : XOi z xInf Y_X5_turnIn 15 (.inl (i_aload 0 16)) := ok_aload_n dX5_turnIn_15 rfl
theorem kX5_turnIn_16 (z : XKT) : XOi z xInf Y_X5_turnIn 16 (.inl (i_getr [4] 40 19)) := ok_getr dX5_turnIn_16 q2517 (List.forall_mem_cons.mpr ⟨⟨_, _, _, _, fd_40_4_0⟩, (fun _ h => absurd h List.not_mem_nil)⟩)
theorem kX5_turnIn_19 (z : XKT) : XOi z xInf Y_X5_turnIn 19 (.inl (i_push (vI 1) 20)) := ok_iconst dX5_turnIn_19 rfl
theorem kX5_turnIn_20 (z : XKT) : XOi z xInf Y_X5_turnIn 20 (.inl (i_ald 1000 21)) := ok_iald dX5_turnIn_20
theorem kX5_turnIn_21 (z : XKT) : XOi z xInf Y_X5_turnIn 21 (.inl (i_quo (fun x y => x - x / y * y) 22)) := ok_irem dX5_turnIn_21
theorem kX5_turnIn_22 (z : XKT) : XOi z xInf Y_X5_turnIn 22 (.inl (i_iload 1 23)) := ok_iload_n dX5_turnIn_22 rfl
theorem kX5_turnIn_23 (z : XKT) : XOi z xInf Y_X5_turnIn 23 (.inl (i_if (fun x => x = 0) 37 26)) := ok_if_eq dX5_turnIn_23 rfl
theorem kX5_turnIn_26 (z : XKT) : XOi z xInf Y_X5_turnIn 26 (.inl (i_aload 0 27)) := ok_aload_n dX5_turnIn_26 rfl
theorem kX5_turnIn_27 (z : XKT) : XOi z xInf Y_X5_turnIn 27 (.inl (i_getr [4] 40 30)) := ok_getr dX5_turnIn_27 q2517 (List.forall_mem_cons.mpr ⟨⟨_, _, _, _, fd_40_4_0⟩, (fun _ h => absurd h List.not_mem_nil)⟩)
theorem kX5_turnIn_30 (z : XKT) : XOi z xInf Y_X5_turnIn 30 (.inl (i_push (vI 1) 31)) := ok_iconst dX5_turnIn_30 rfl
theorem kX5_turnIn_31 (z : XKT) : XOi z xInf Y_X5_turnIn 31 (.inl (i_ald 1000 32)) := ok_iald dX5_turnIn_31
theorem kX5_turnIn_32 (z : XKT) : XOi z xInf Y_X5_turnIn 32 (.inl (i_push (vI 2) 33)) := ok_iconst dX5_turnIn_32 rfl
theorem kX5_turnIn_33 (z : XKT) : XOi z xInf Y_X5_turnIn 33 (.inl (i_quo (fun x y => x / y) 34)) := ok_idiv dX5_turnIn_33
theorem kX5_turnIn_34 (z : XKT) : XOi z xInf Y_X5_turnIn 34 (.inl (i_goto 38)) := ok_goto dX5_turnIn_34 rfl
theorem kX5_turnIn_37 (z : XKT) : XOi z xInf Y_X5_turnIn 37 (.inl (i_push (vI 0) 38)) := ok_iconst dX5_turnIn_37 rfl
theorem kX5_turnIn_38 (z : XKT) : XOi z xInf Y_X5_turnIn 38 (.inl (i_icmp (fun x y => x = y) 47 41)) := ok_icmp_eq dX5_turnIn_38 rfl
theorem kX5_turnIn_41 (z : XKT) : XOi z xInf Y_X5_turnIn 41 (.inl (i_iinc 2 1 44)) := ok_iinc dX5_turnIn_41 rfl
theorem kX5_turnIn_44 (z : XKT) : XOi z xInf Y_X5_turnIn 44 (.inl (i_goto 7)) := ok_goto dX5_turnIn_44 rfl
theorem kX5_turnIn_47 (z : XKT) : XOi z xInf Y_X5_turnIn 47 (.inl (i_iload 2 48)) := ok_iload_n dX5_turnIn_47 rfl
theorem kX5_turnIn_48 (z : XKT) : XOi z xInf Y_X5_turnIn 48 (.inr (.inr (.inl (r_i .int)))) := show XOkR Y_X5_turnIn 48 ((r_i .int)) from okr_i (q := Y_X5_turnIn) (ty := .int) rfl rfl dX5_turnIn_48
theorem o_X5_turnIn (z : XKT) : XMi z xInf Y_X5_turnIn := XMi.mk9 (T := T_X5_turnIn z) rfl (⟨kX5_turnIn_0 z, ⟨kX5_turnIn_1 z, ⟨kX5_turnIn_2 z, ⟨kX5_turnIn_5 z, ⟨kX5_turnIn_6 z, ⟨kX5_turnIn_7 z, ⟨kX5_turnIn_8 z, ⟨kX5_turnIn_11 z, ⟨kX5_turnIn_12 z, ⟨kX5_turnIn_13 z, ⟨kX5_turnIn_14 z, ⟨kX5_turnIn_15 z, ⟨kX5_turnIn_16 z, ⟨kX5_turnIn_19 z, ⟨kX5_turnIn_20 z, ⟨kX5_turnIn_21 z, ⟨kX5_turnIn_22 z, ⟨kX5_turnIn_23 z, ⟨kX5_turnIn_26 z, ⟨kX5_turnIn_27 z, ⟨kX5_turnIn_30 z, ⟨kX5_turnIn_31 z, ⟨kX5_turnIn_32 z, ⟨kX5_turnIn_33 z, ⟨kX5_turnIn_34 z, ⟨kX5_turnIn_37 z, ⟨kX5_turnIn_38 z, ⟨kX5_turnIn_41 z, ⟨kX5_turnIn_44 z, ⟨kX5_turnIn_47 z, ⟨kX5_turnIn_48 z, trivial⟩⟩⟩⟩⟩⟩⟩⟩⟩⟩⟩⟩⟩⟩⟩⟩⟩⟩⟩⟩⟩⟩⟩⟩⟩⟩⟩⟩⟩⟩⟩) (hd_X5_turnIn z) rfl rfl (by decide +kernel)
theorem hd_X5_undo (z : XKT) : XHd z Y_X5_undo := xHd_none rfl (xhd0 rfl)
theorem kX5_undo_0 (z : XKT) : XOi z xInf Y_X5_undo 0 (.inl (i_aload 0 1)) := ok_aload_n dX5_undo_0 rfl
theorem kX5_undo_1 (z : XKT) : XOi z xInf Y_X5_undo 1 (.inl (i_push (vI 0) 2)) := ok_iconst dX5_undo_1 rfl
theorem kX5_undo_2 (z : XKT) : XOi z xInf Y_X5_undo 2 (.inl (i_puti z.1 [4] .int 42 5)) := ok_puti dX5_undo_2 q2519 rfl (List.forall_mem_cons.mpr ⟨⟨_, _, _, _, tyX5, fd_42_4_0, ⟨tyX5_ok, nmX5, (Or.inl rfl)⟩, rfl⟩, (fun _ h => absurd h List.not_mem_nil)⟩)
theorem kX5_undo_5 (z : XKT) : XOi z xInf Y_X5_undo 5 (.inl (i_aload 0 6)) := ok_aload_n dX5_undo_5 rfl
theorem kX5_undo_6 (z : XKT) : XOi z xInf Y_X5_undo 6 (.inl (i_geti [4] 41 9)) := ok_geti dX5_undo_6 q2518 (List.forall_mem_cons.mpr ⟨⟨_, _, _, _, fd_41_4_0⟩, (fun _ h => absurd h List.not_mem_nil)⟩)
theorem kX5_undo_9 (z : XKT) : XOi z xInf Y_X5_undo 9 (.inl (i_if (fun x => ¬ x = 0) 14 12)) := ok_if_ne dX5_undo_9 rfl
theorem kX5_undo_12 (z : XKT) : XOi z xInf Y_X5_undo 12 (.inl (i_push (vI (-1)) 13)) := ok_iconst dX5_undo_12 rfl
theorem kX5_undo_13 (z : XKT) : XOi z xInf Y_X5_undo 13 (.inr (.inr (.inl (r_i .int)))) := show XOkR Y_X5_undo 13 ((r_i .int)) from okr_i (q := Y_X5_undo) (ty := .int) rfl rfl dX5_undo_13
theorem kX5_undo_14 (z : XKT) : XOi z xInf Y_X5_undo 14 (.inl (i_aload 0 15)) := ok_aload_n dX5_undo_14 rfl
theorem kX5_undo_15 (z : XKT) : XOi z xInf Y_X5_undo 15 (.inl (i_dup 16)) := ok_dup dX5_undo_15
theorem kX5_undo_16 (z : XKT) : XOi z xInf Y_X5_undo 16 (.inl (i_geti [4] 41 19)) := ok_geti dX5_undo_16 q2518 (List.forall_mem_cons.mpr ⟨⟨_, _, _, _, fd_41_4_0⟩, (fun _ h => absurd h List.not_mem_nil)⟩)
theorem kX5_undo_19 (z : XKT) : XOi z xInf Y_X5_undo 19 (.inl (i_push (vI 1) 20)) := ok_iconst dX5_undo_19 rfl
theorem kX5_undo_20 (z : XKT) : XOi z xInf Y_X5_undo 20 (.inl (i_bin (fun x y => x - y) 21)) := ok_isub dX5_undo_20
theorem kX5_undo_21 (z : XKT) : XOi z xInf Y_X5_undo 21 (.inl (i_puti z.1 [4] .int 41 24)) := ok_puti dX5_undo_21 q2518 rfl (List.forall_mem_cons.mpr ⟨⟨_, _, _, _, tyX5, fd_41_4_0, ⟨tyX5_ok, nmX5, (Or.inl rfl)⟩, rfl⟩, (fun _ h => absurd h List.not_mem_nil)⟩)
theorem kX5_undo_24 (z : XKT) : XOi z xInf Y_X5_undo 24 (.inl (i_aload 0 25)) := ok_aload_n dX5_undo_24 rfl
theorem kX5_undo_25 (z : XKT) : XOi z xInf Y_X5_undo 25 (.inl (i_getr [4] 35 28)) := ok_getr dX5_undo_25 q2512 (List.forall_mem_cons.mpr ⟨⟨_, _, _, _, fd_35_4_0⟩, (fun _ h => absurd h List.not_mem_nil)⟩)
theorem kX5_undo_28 (z : XKT) : XOi z xInf Y_X5_undo 28 (.inl (i_push (vI 2) 29)) := ok_iconst dX5_undo_28 rfl
theorem kX5_undo_29 (z : XKT) : XOi z xInf Y_X5_undo 29 (.inl (i_dup2 30)) := ok_dup2 dX5_undo_29
theorem kX5_undo_30 (z : XKT) : XOi z xInf Y_X5_undo 30 (.inl (i_ald 1000 31)) := ok_iald dX5_undo_30
theorem kX5_undo_31 (z : XKT) : XOi z xInf Y_X5_undo 31 (.inl (i_push (vI 1) 32)) := ok_iconst dX5_undo_31 rfl
theorem kX5_undo_32 (z : XKT) : XOi z xInf Y_X5_undo 32 (.inl (i_bin (fun x y => x + y) 33)) := ok_iadd dX5_undo_32
theorem kX5_undo_33 (z : XKT) : XOi z xInf Y_X5_undo 33 (.inl (i_ast z.1 1000 (fun x => x) 34)) := ok_iast dX5_undo_33
theorem kX5_undo_34 (z : XKT) : XOi z xInf Y_X5_undo 34 (.inl (i_aload 0 35)) := ok_aload_n dX5_undo_34 rfl
theorem kX5_undo_35 (z : XKT) : XOi z xInf Y_X5_undo 35 (.inl (i_getr [4] 34 38)) := ok_getr dX5_undo_35 q2511 (List.forall_mem_cons.mpr ⟨⟨_, _, _, _, fd_34_4_0⟩, (fun _ h => absurd h List.not_mem_nil)⟩)
theorem kX5_undo_38 (z : XKT) : XOi z xInf Y_X5_undo 38 (.inl (i_aload 0 39)) := ok_aload_n dX5_undo_38 rfl
theorem kX5_undo_39 (z : XKT) : XOi z xInf Y_X5_undo 39 (.inl (i_geti [4] 41 42)) := ok_geti dX5_undo_39 q2518 (List.forall_mem_cons.mpr ⟨⟨_, _, _, _, fd_41_4_0⟩, (fun _ h => absurd h List.not_mem_nil)⟩)
theorem kX5_undo_42 (z : XKT) : XOi z xInf Y_X5_undo 42 (.inl (i_aload 0 43)) := ok_aload_n dX5_undo_42 rfl
theorem kX5_undo_43 (z : XKT) : XOi z xInf Y_X5_undo 43 (.inl (i_getr [4] 30 46)) := ok_getr dX5_undo_43 q2507 (List.forall_mem_cons.mpr ⟨⟨_, _, _, _, fd_30_4_0⟩, (fun _ h => absurd h List.not_mem_nil)⟩)
theorem kX5_undo_46 (z : XKT) : XOi z xInf Y_X5_undo 46 (.inl (i_push (vI 0) 47)) := ok_iconst dX5_undo_46 rfl
theorem kX5_undo_47 (z : XKT) : XOi z xInf Y_X5_undo 47 (.inr (.inl (50, g_stat 183 4))) := show XOkC z xInf Y_X5_undo 47 50 (g_stat 183 4) from okc_S (q := Y_X5_undo) (q1 := Y_X5_copy) Z_X5_copy rfl (by decide) dX5_undo_47 q2882 q2883 q153 q2884 hy_318
theorem kX5_undo_50 (z : XKT) : XOi z xInf Y_X5_undo 50 (.inl (i_aload 0 51)) := ok_aload_n dX5_undo_50 rfl
theorem kX5_undo_51 (z : XKT) : XOi z xInf Y_X5_undo 51 (.inl (i_geti [4] 41 54)) := ok_geti dX5_undo_51 q2518 (List.forall_mem_cons.mpr ⟨⟨_, _, _, _, fd_41_4_0⟩, (fun _ h => absurd h List.not_mem_nil)⟩)
theorem kX5_undo_54 (z : XKT) : XOi z xInf Y_X5_undo 54 (.inr (.inr (.inl (r_i .int)))) := show XOkR Y_X5_undo 54 ((r_i .int)) from okr_i (q := Y_X5_undo) (ty := .int) rfl rfl dX5_undo_54
theorem o_X5_undo (z : XKT) : XMi z xInf Y_X5_undo := XMi.mk9 (T := T_X5_undo z) rfl (⟨kX5_undo_0 z, ⟨kX5_undo_1 z, ⟨kX5_undo_2 z, ⟨kX5_undo_5 z, ⟨kX5_undo_6 z, ⟨kX5_undo_9 z, ⟨kX5_undo_12 z, ⟨kX5_undo_13 z, ⟨kX5_undo_14 z, ⟨kX5_undo_15 z, ⟨kX5_undo_16 z, ⟨kX5_undo_19 z, ⟨kX5_undo_20 z, ⟨kX5_undo_21 z, ⟨kX5_undo_24 z, ⟨kX5_undo_25 z, ⟨kX5_undo_28 z, ⟨kX5_undo_29 z, ⟨kX5_undo_30 z, ⟨kX5_undo_31 z, ⟨kX5_undo_32 z, ⟨kX5_undo_33 z, ⟨kX5_undo_34 z, ⟨kX5_undo_35 z, ⟨kX5_undo_38 z, ⟨kX5_undo_39 z, ⟨kX5_undo_42 z, ⟨kX5_undo_43 z, ⟨kX5_undo_46 z, ⟨kX5_undo_47 z, ⟨kX5_undo_50 z, ⟨kX5_undo_51 z, ⟨kX5_undo_54 z, trivial⟩⟩⟩⟩⟩⟩⟩⟩⟩⟩⟩⟩⟩⟩⟩⟩⟩⟩⟩⟩⟩⟩⟩⟩⟩⟩⟩⟩⟩⟩⟩⟩⟩) (hd_X5_undo z) rfl rfl (by decide +kernel)
theorem hd_X5_undoCount (z : XKT) : XHd z Y_X5_undoCount := xHd_none rfl (xhd0 rfl)
theorem kX5_undoCount_0 (z : XKT) : XOi z xInf Y_X5_undoCount 0 (.inl (i_aload 0 1)) := ok_aload_n dX5_undoCount_0 rfl
theorem kX5_undoCount_1 (z : XKT) : XOi z xInf Y_X5_undoCount 1 (.inl (i_push (vI 0) 2)) := ok_iconst dX5_undoCount_1 rfl
theorem kX5_undoCount_2 (z : XKT) : XOi z xInf Y_X5_undoCount 2 (.inl (i_puti z.1 [4] .int 42 5)) := ok_puti dX5_undoCount_2 q2519 rfl (List.forall_mem_cons.mpr ⟨⟨_, _, _, _, tyX5, fd_42_4_0, ⟨tyX5_ok, nmX5, (Or.inl rfl)⟩, rfl⟩, (fun _ h => absurd h List.not_mem_nil)⟩)
theorem kX5_undoCount_5 (z : XKT) : XOi z xInf Y_X5_undoCount 5 (.inl (i_aload 0 6)) := ok_aload_n dX5_undoCount_5 rfl
theorem kX5_undoCount_6 (z : XKT) : XOi z xInf Y_X5_undoCount 6 (.inl (i_geti [4] 41 9)) := ok_geti dX5_undoCount_6 q2518 (List.forall_mem_cons.mpr ⟨⟨_, _, _, _, fd_41_4_0⟩, (fun _ h => absurd h List.not_mem_nil)⟩)
theorem kX5_undoCount_9 (z : XKT) : XOi z xInf Y_X5_undoCount 9 (.inr (.inr (.inl (r_i .int)))) := show XOkR Y_X5_undoCount 9 ((r_i .int)) from okr_i (q := Y_X5_undoCount) (ty := .int) rfl rfl dX5_undoCount_9
theorem o_X5_undoCount (z : XKT) : XMi z xInf Y_X5_undoCount := XMi.mk9 (T := T_X5_undoCount z) rfl (⟨kX5_undoCount_0 z, ⟨kX5_undoCount_1 z, ⟨kX5_undoCount_2 z, ⟨kX5_undoCount_5 z, ⟨kX5_undoCount_6 z, ⟨kX5_undoCount_9 z, trivial⟩⟩⟩⟩⟩⟩) (hd_X5_undoCount z) rfl rfl (by decide +kernel)
theorem hd_X5_unequal (z : XKT) : XHd z Y_X5_unequal := xHd_none rfl (xhd0 rfl)
theorem kX5_unequal_0 (z : XKT) : XOi z xInf Y_X5_unequal 0 (.inl (i_aload 0 1)) := ok_aload_n dX5_unequal_0 rfl
theorem kX5_unequal_1 (z : XKT) : XOi z xInf Y_X5_unequal 1 (.inl (i_aload 0 2)) := ok_aload_n dX5_unequal_1 rfl
theorem kX5_unequal_2 (z : XKT) : XOi z xInf Y_X5_unequal 2 (.inl (i_iload 1 3)) := ok_iload_n dX5_unequal_2 rfl
theorem kX5_unequal_3 (z : XKT) : XOi z xInf Y_X5_unequal 3 (.inr (.inl (6, g_virt [(4, 232)] 1))) := show XOkC z xInf Y_X5_unequal 3 6 (g_virt [(4, 232)] 1) from okc_V (q := Y_X5_unequal) (List.forall_mem_cons.mpr ⟨(show XOkV z xInf Y_X5_unequal 3 6 1 (4, 232) from okv_V (q := Y_X5_unequal) (q1 := Y_X5_isGood) Z_X5_isGood rfl (by decide) ⟨by decide, by decide, Or.inl ⟨_, _, (List.mem_of_getElem? (l := xCls) (i := 3) rfl)⟩⟩ dX5_unequal_3 q2654 q2656 qs56 q153 q2657 hy_272), (fun _ h => absurd h List.not_mem_nil)⟩)
theorem kX5_unequal_6 (z : XKT) : XOi z xInf Y_X5_unequal 6 (.inr (.inl (9, g_virt [(4, 240)] 1))) := show XOkC z xInf Y_X5_unequal 6 9 (g_virt [(4, 240)] 1) from okc_V (q := Y_X5_unequal) (List.forall_mem_cons.mpr ⟨(show XOkV z xInf Y_X5_unequal 6 9 1 (4, 240) from okv_V (q := Y_X5_unequal) (q1 := Y_X5_lacks) Z_X5_lacks rfl (by decide) ⟨by decide, by decide, Or.inl ⟨_, _, (List.mem_of_getElem? (l := xCls) (i := 3) rfl)⟩⟩ dX5_unequal_6 q2606 q2608 qs46 q153 q2609 hy_262), (fun _ h => absurd h List.not_mem_nil)⟩)
theorem kX5_unequal_9 (z : XKT) : XOi z xInf Y_X5_unequal 9 (.inl (i_if (fun x => x = 0) 14 12)) := ok_if_eq dX5_unequal_9 rfl
theorem kX5_unequal_12 (z : XKT) : XOi z xInf Y_X5_unequal 12 (.inl (i_push (vI 0) 13)) := ok_iconst dX5_unequal_12 rfl
theorem kX5_unequal_13 (z : XKT) : XOi z xInf Y_X5_unequal 13 (.inr (.inr (.inl (r_i .int)))) := show XOkR Y_X5_unequal 13 ((r_i .int)) from okr_i (q := Y_X5_unequal) (ty := .int) rfl rfl dX5_unequal_13
theorem kX5_unequal_14 (z : XKT) : XOi z xInf Y_X5_unequal 14 (.inl (i_aload 0 15)) := ok_aload_n dX5_unequal_14 rfl
theorem kX5_unequal_15 (z : XKT) : XOi z xInf Y_X5_unequal 15 (.inl (i_iload 1 16)) := ok_iload_n dX5_unequal_15 rfl
theorem kX5_unequal_16 (z : XKT) : XOi z xInf Y_X5_unequal 16 (.inl (i_push (vI 9) 18)) := ok_bipush dX5_unequal_16 rfl
theorem kX5_unequal_18 (z : XKT) : XOi z xInf Y_X5_unequal 18 (.inr (.inl (21, g_virt [(4, 253)] 2))) := show XOkC z xInf Y_X5_unequal 18 21 (g_virt [(4, 253)] 2) from okc_V (q := Y_X5_unequal) (List.forall_mem_cons.mpr ⟨(show XOkV z xInf Y_X5_unequal 18 21 2 (4, 253) from okv_V (q := Y_X5_unequal) (q1 := Y_X5_of) Z_X5_of rfl (by decide) ⟨by decide, by decide, Or.inl ⟨_, _, (List.mem_of_getElem? (l := xCls) (i := 3) rfl)⟩⟩ dX5_unequal_18 q2622 q2624 qs50 q153 q2625 hy_265), (fun _ h => absurd h List.not_mem_nil)⟩)
theorem kX5_unequal_21 (z : XKT) : XOi z xInf Y_X5_unequal 21 (.inl (i_push (vI 1) 22)) := ok_iconst dX5_unequal_21 rfl
theorem kX5_unequal_22 (z : XKT) : XOi z xInf Y_X5_unequal 22 (.inl (i_bin (fun x y => x - y) 23)) := ok_isub dX5_unequal_22
theorem kX5_unequal_23 (z : XKT) : XOi z xInf Y_X5_unequal 23 (.inl (i_istore 2 24)) := ok_istore_n dX5_unequal_23 rfl
theorem kX5_unequal_24 (z : XKT) : XOi z xInf Y_X5_unequal 24 (.inl (i_iload 2 25)) := ok_iload_n dX5_unequal_24 rfl
theorem kX5_unequal_25 (z : XKT) : XOi z xInf Y_X5_unequal 25 (.inl (i_if (fun x => 0 ≤ x) 32 28)) := ok_if_ge dX5_unequal_25 rfl
theorem kX5_unequal_28 (z : XKT) : XOi z xInf Y_X5_unequal 28 (.inl (i_push (vI 0) 29)) := ok_iconst dX5_unequal_28 rfl
theorem kX5_unequal_29 (z : XKT) : XOi z xInf Y_X5_unequal 29 (.inl (i_goto 45)) := ok_goto dX5_unequal_29 rfl
theorem kX5_unequal_32 (z : XKT) : XOi z xInf Y_X5_unequal 32 (.inl (i_aload 0 33)) := ok_aload_n dX5_unequal_32 rfl
theorem kX5_unequal_33 (z : XKT) : XOi z xInf Y_X5_unequal 33 (.inl (i_iload 1 34)) := ok_iload_n dX5_unequal_33 rfl
theorem kX5_unequal_34 (z : XKT) : XOi z xInf Y_X5_unequal 34 (.inl (i_push (vI 0) 35)) := ok_iconst dX5_unequal_34 rfl
theorem kX5_unequal_35 (z : XKT) : XOi z xInf Y_X5_unequal 35 (.inr (.inl (38, g_virt [(4, 286)] 2))) := show XOkC z xInf Y_X5_unequal 35 38 (g_virt [(4, 286)] 2) from okc_V (q := Y_X5_unequal) (List.forall_mem_cons.mpr ⟨(show XOkV z xInf Y_X5_unequal 35 38 2 (4, 286) from okv_V (q := Y_X5_unequal) (q1 := Y_X5_shareAt) Z_X5_shareAt rfl (by decide) ⟨by decide, by decide, Or.inl ⟨_, _, (List.mem_of_getElem? (l := xCls) (i := 3) rfl)⟩⟩ dX5_unequal_35 q2717 q2719 qs64 q153 q2720 hy_288), (fun _ h => absurd h List.not_mem_nil)⟩)
theorem kX5_unequal_38 (z : XKT) : XOi z xInf Y_X5_unequal 38 (.inl (i_aload 0 39)) := ok_aload_n dX5_unequal_38 rfl
theorem kX5_unequal_39 (z : XKT) : XOi z xInf Y_X5_unequal 39 (.inl (i_iload 1 40)) := ok_iload_n dX5_unequal_39 rfl
theorem kX5_unequal_40 (z : XKT) : XOi z xInf Y_X5_unequal 40 (.inl (i_iload 2 41)) := ok_iload_n dX5_unequal_40 rfl
theorem kX5_unequal_41 (z : XKT) : XOi z xInf Y_X5_unequal 41 (.inr (.inl (44, g_virt [(4, 286)] 2))) := show XOkC z xInf Y_X5_unequal 41 44 (g_virt [(4, 286)] 2) from okc_V (q := Y_X5_unequal) (List.forall_mem_cons.mpr ⟨(show XOkV z xInf Y_X5_unequal 41 44 2 (4, 286) from okv_V (q := Y_X5_unequal) (q1 := Y_X5_shareAt) Z_X5_shareAt rfl (by decide) ⟨by decide, by decide, Or.inl ⟨_, _, (List.mem_of_getElem? (l := xCls) (i := 3) rfl)⟩⟩ dX5_unequal_41 q2717 q2719 qs64 q153 q2720 hy_288), (fun _ h => absurd h List.not_mem_nil)⟩)
theorem kX5_unequal_44 (z : XKT) : XOi z xInf Y_X5_unequal 44 (.inl (i_bin (fun x y => x - y) 45)) := ok_isub dX5_unequal_44
theorem kX5_unequal_45 (z : XKT) : XOi z xInf Y_X5_unequal 45 (.inr (.inr (.inl (r_i .int)))) := show XOkR Y_X5_unequal 45 ((r_i .int)) from okr_i (q := Y_X5_unequal) (ty := .int) rfl rfl dX5_unequal_45
theorem o_X5_unequal (z : XKT) : XMi z xInf Y_X5_unequal := XMi.mk9 (T := T_X5_unequal z) rfl (⟨kX5_unequal_0 z, ⟨kX5_unequal_1 z, ⟨kX5_unequal_2 z, ⟨kX5_unequal_3 z, ⟨kX5_unequal_6 z, ⟨kX5_unequal_9 z, ⟨kX5_unequal_12 z, ⟨kX5_unequal_13 z, ⟨kX5_unequal_14 z, ⟨kX5_unequal_15 z, ⟨kX5_unequal_16 z, ⟨kX5_unequal_18 z, ⟨kX5_unequal_21 z, ⟨kX5_unequal_22 z, ⟨kX5_unequal_23 z, ⟨kX5_unequal_24 z, ⟨kX5_unequal_25 z, ⟨kX5_unequal_28 z, ⟨kX5_unequal_29 z, ⟨kX5_unequal_32 z, ⟨kX5_unequal_33 z, ⟨kX5_unequal_34 z, ⟨kX5_unequal_35 z, ⟨kX5_unequal_38 z, ⟨kX5_unequal_39 z, ⟨kX5_unequal_40 z, ⟨kX5_unequal_41 z, ⟨kX5_unequal_44 z, ⟨kX5_unequal_45 z, trivial⟩⟩⟩⟩⟩⟩⟩⟩⟩⟩⟩⟩⟩⟩⟩⟩⟩⟩⟩⟩⟩⟩⟩⟩⟩⟩⟩⟩⟩) (hd_X5_unequal z) rfl rfl (by decide +kernel)
theorem hd_X5_value (z : XKT) : XHd z Y_X5_value := xHd_none rfl (xhd0 rfl)
theorem kX5_value_0 (z : XKT) : XOi z xInf Y_X5_value 0 (.inl (i_push (vI 0) 1)) := ok_iconst dX5_value_0 rfl
theorem kX5_value_1 (z : XKT) : XOi z xInf Y_X5_value 1 (.inl (i_istore 1 2)) := ok_istore_n dX5_value_1 rfl
theorem kX5_value_2 (z : XKT) : XOi z xInf Y_X5_value 2 (.inl (i_aload 0 3)) := ok_aload_n dX5_value_2 rfl
theorem kX5_value_3 (z : XKT) : XOi z xInf Y_X5_value 3 (.inl (i_geti [4] 50 6)) := ok_geti dX5_value_3 q2527 (List.forall_mem_cons.mpr ⟨⟨_, _, _, _, fd_50_4_0⟩, (fun _ h => absurd h List.not_mem_nil)⟩)
theorem kX5_value_6 (z : XKT) : XOi z xInf Y_X5_value 6 (.inl (i_istore 2 7)) := ok_istore_n dX5_value_6 rfl
theorem kX5_value_7 (z : XKT) : XOi z xInf Y_X5_value 7 (.inl (i_iload 2 8)) := ok_iload_n dX5_value_7 rfl
theorem kX5_value_8 (z : XKT) : XOi z xInf Y_X5_value 8 (.inl (i_aload 0 9)) := ok_aload_n dX5_value_8 rfl
theorem kX5_value_9 (z : XKT) : XOi z xInf Y_X5_value 9 (.inl (i_geti [4] 49 12)) := ok_geti dX5_value_9 q2526 (List.forall_mem_cons.mpr ⟨⟨_, _, _, _, fd_49_4_0⟩, (fun _ h => absurd h List.not_mem_nil)⟩)
theorem kX5_value_12 (z : XKT) : XOi z xInf Y_X5_value 12 (.inl (i_icmp (fun x y => y ≤ x) 55 15)) := ok_icmp_ge dX5_value_12 rfl
theorem kX5_value_15 (z : XKT) : XOi z xInf Y_X5_value 15 (.inl (i_aload 0 16)) := ok_aload_n dX5_value_15 rfl
theorem kX5_value_16 (z : XKT) : XOi z xInf Y_X5_value 16 (.inl (i_geti [4] 51 19)) := ok_geti dX5_value_16 q2528 (List.forall_mem_cons.mpr ⟨⟨_, _, _, _, fd_51_4_0⟩, (fun _ h => absurd h List.not_mem_nil)⟩)
theorem kX5_value_19 (z : XKT) : XOi z xInf Y_X5_value 19 (.inl (i_push (vI 2) 20)) := ok_iconst dX5_value_19 rfl
theorem kX5_value_20 (z : XKT) : XOi z xInf Y_X5_value 20 (.inl (i_icmp (fun x y => ¬ x = y) 55 23)) := ok_icmp_ne dX5_value_20 rfl
theorem kX5_value_23 (z : XKT) : XOi z xInf Y_X5_value 23 (.inl (i_iload 1 24)) := ok_iload_n dX5_value_23 rfl
theorem kX5_value_24 (z : XKT) : XOi z xInf Y_X5_value 24 (.inl (i_push (vI (9999999)) 27)) := ok_ldcw dX5_value_24 q3089
theorem kX5_value_27 (z : XKT) : XOi z xInf Y_X5_value 27 (.inl (i_icmp (fun x y => x ≤ y) 34 30)) := ok_icmp_le dX5_value_27 rfl
theorem kX5_value_30 (z : XKT) : XOi z xInf Y_X5_value 30 (.inl (i_iload 1 31)) := ok_iload_n dX5_value_30 rfl
theorem kX5_value_31 (z : XKT) : XOi z xInf Y_X5_value 31 (.inl (i_goto 48)) := ok_goto dX5_value_31 rfl
theorem kX5_value_34 (z : XKT) : XOi z xInf Y_X5_value 34 (.inl (i_push (vI 10) 36)) := ok_bipush dX5_value_34 rfl
theorem kX5_value_36 (z : XKT) : XOi z xInf Y_X5_value 36 (.inl (i_iload 1 37)) := ok_iload_n dX5_value_36 rfl
theorem kX5_value_37 (z : XKT) : XOi z xInf Y_X5_value 37 (.inl (i_bin (fun x y => x * y) 38)) := ok_imul dX5_value_37
theorem kX5_value_38 (z : XKT) : XOi z xInf Y_X5_value 38 (.inl (i_aload 0 39)) := ok_aload_n dX5_value_38 rfl
theorem kX5_value_39 (z : XKT) : XOi z xInf Y_X5_value 39 (.inl (i_getr [4] 46 42)) := ok_getr dX5_value_39 q2523 (List.forall_mem_cons.mpr ⟨⟨_, _, _, _, fd_46_4_0⟩, (fun _ h => absurd h List.not_mem_nil)⟩)
theorem kX5_value_42 (z : XKT) : XOi z xInf Y_X5_value 42 (.inl (i_iload 2 43)) := ok_iload_n dX5_value_42 rfl
theorem kX5_value_43 (z : XKT) : XOi z xInf Y_X5_value 43 (.inl (i_ald 1000 44)) := ok_iald dX5_value_43
theorem kX5_value_44 (z : XKT) : XOi z xInf Y_X5_value 44 (.inl (i_bin (fun x y => x + y) 45)) := ok_iadd dX5_value_44
theorem kX5_value_45 (z : XKT) : XOi z xInf Y_X5_value 45 (.inl (i_push (vI 48) 47)) := ok_bipush dX5_value_45 rfl
theorem kX5_value_47 (z : XKT) : XOi z xInf Y_X5_value 47 (.inl (i_bin (fun x y => x - y) 48)) := ok_isub dX5_value_47
theorem kX5_value_48 (z : XKT) : XOi z xInf Y_X5_value 48 (.inl (i_istore 1 49)) := ok_istore_n dX5_value_48 rfl
theorem kX5_value_49 (z : XKT) : XOi z xInf Y_X5_value 49 (.inl (i_iinc 2 1 52)) := ok_iinc dX5_value_49 rfl
theorem kX5_value_52 (z : XKT) : XOi z xInf Y_X5_value 52 (.inl (i_goto 7)) := ok_goto dX5_value_52 rfl
theorem kX5_value_55 (z : XKT) : XOi z xInf Y_X5_value 55 (.inl (i_iload 1 56)) := ok_iload_n dX5_value_55 rfl
theorem kX5_value_56 (z : XKT) : XOi z xInf Y_X5_value 56 (.inr (.inr (.inl (r_i .int)))) := show XOkR Y_X5_value 56 ((r_i .int)) from okr_i (q := Y_X5_value) (ty := .int) rfl rfl dX5_value_56
theorem o_X5_value (z : XKT) : XMi z xInf Y_X5_value := XMi.mk9 (T := T_X5_value z) rfl (⟨kX5_value_0 z, ⟨kX5_value_1 z, ⟨kX5_value_2 z, ⟨kX5_value_3 z, ⟨kX5_value_6 z, ⟨kX5_value_7 z, ⟨kX5_value_8 z, ⟨kX5_value_9 z, ⟨kX5_value_12 z, ⟨kX5_value_15 z, ⟨kX5_value_16 z, ⟨kX5_value_19 z, ⟨kX5_value_20 z, ⟨kX5_value_23 z, ⟨kX5_value_24 z, ⟨kX5_value_27 z, ⟨kX5_value_30 z, ⟨kX5_value_31 z, ⟨kX5_value_34 z, ⟨kX5_value_36 z, ⟨kX5_value_37 z, ⟨kX5_value_38 z, ⟨kX5_value_39 z, ⟨kX5_value_42 z, ⟨kX5_value_43 z, ⟨kX5_value_44 z, ⟨kX5_value_45 z, ⟨kX5_value_47 z, ⟨kX5_value_48 z, ⟨kX5_value_49 z, ⟨kX5_value_52 z, ⟨kX5_value_55 z, ⟨kX5_value_56 z, trivial⟩⟩⟩⟩⟩⟩⟩⟩⟩⟩⟩⟩⟩⟩⟩⟩⟩⟩⟩⟩⟩⟩⟩⟩⟩⟩⟩⟩⟩⟩⟩⟩⟩) (hd_X5_value z) rfl rfl (by decide +kernel)
theorem hd_X5_wash (z : XKT) : XHd z Y_X5_wash := xHd_none rfl (xhd0 rfl)
theorem kX5_wash_0 (z : XKT) : XOi z xInf Y_X5_wash 0 (.inl (i_aload 0 1)) := ok_aload_n dX5_wash_0 rfl
theorem kX5_wash_1 (z : XKT) : XOi z xInf Y_X5_wash 1 (.inl (i_iload 1 2)) := ok_iload_n dX5_wash_1 rfl
theorem kX5_wash_2 (z : XKT) : XOi z xInf Y_X5_wash 2 (.inl (i_push (vI 6) 4)) := ok_bipush dX5_wash_2 rfl
theorem kX5_wash_4 (z : XKT) : XOi z xInf Y_X5_wash 4 (.inl (i_aload 0 5)) := ok_aload_n dX5_wash_4 rfl
theorem kX5_wash_5 (z : XKT) : XOi z xInf Y_X5_wash 5 (.inl (i_iload 1 6)) := ok_iload_n dX5_wash_5 rfl
theorem kX5_wash_6 (z : XKT) : XOi z xInf Y_X5_wash 6 (.inl (i_push (vI 6) 8)) := ok_bipush dX5_wash_6 rfl
theorem kX5_wash_8 (z : XKT) : XOi z xInf Y_X5_wash 8 (.inr (.inl (11, g_virt [(4, 253)] 2))) := show XOkC z xInf Y_X5_wash 8 11 (g_virt [(4, 253)] 2) from okc_V (q := Y_X5_wash) (List.forall_mem_cons.mpr ⟨(show XOkV z xInf Y_X5_wash 8 11 2 (4, 253) from okv_V (q := Y_X5_wash) (q1 := Y_X5_of) Z_X5_of rfl (by decide) ⟨by decide, by decide, Or.inl ⟨_, _, (List.mem_of_getElem? (l := xCls) (i := 3) rfl)⟩⟩ dX5_wash_8 q2622 q2624 qs50 q153 q2625 hy_265), (fun _ h => absurd h List.not_mem_nil)⟩)
theorem kX5_wash_11 (z : XKT) : XOi z xInf Y_X5_wash 11 (.inl (i_push (vI 1) 12)) := ok_iconst dX5_wash_11 rfl
theorem kX5_wash_12 (z : XKT) : XOi z xInf Y_X5_wash 12 (.inl (i_bin (fun x y => x + y) 13)) := ok_iadd dX5_wash_12
theorem kX5_wash_13 (z : XKT) : XOi z xInf Y_X5_wash 13 (.inr (.inl (16, g_virt [(4, 241)] 3))) := show XOkC z xInf Y_X5_wash 13 16 (g_virt [(4, 241)] 3) from okc_V (q := Y_X5_wash) (List.forall_mem_cons.mpr ⟨(show XOkV z xInf Y_X5_wash 13 16 3 (4, 241) from okv_V (q := Y_X5_wash) (q1 := Y_X5_lay) Z_X5_lay rfl (by decide) ⟨by decide, by decide, Or.inl ⟨_, _, (List.mem_of_getElem? (l := xCls) (i := 3) rfl)⟩⟩ dX5_wash_13 q2503 q2505 qs45 q153 q2506 hy_264), (fun _ h => absurd h List.not_mem_nil)⟩)
theorem kX5_wash_16 (z : XKT) : XOi z xInf Y_X5_wash 16 (.inl (i_aload 0 17)) := ok_aload_n dX5_wash_16 rfl
theorem kX5_wash_17 (z : XKT) : XOi z xInf Y_X5_wash 17 (.inl (i_iload 1 18)) := ok_iload_n dX5_wash_17 rfl
theorem kX5_wash_18 (z : XKT) : XOi z xInf Y_X5_wash 18 (.inl (i_push (vI 6) 20)) := ok_bipush dX5_wash_18 rfl
theorem kX5_wash_20 (z : XKT) : XOi z xInf Y_X5_wash 20 (.inr (.inl (23, g_virt [(4, 253)] 2))) := show XOkC z xInf Y_X5_wash 20 23 (g_virt [(4, 253)] 2) from okc_V (q := Y_X5_wash) (List.forall_mem_cons.mpr ⟨(show XOkV z xInf Y_X5_wash 20 23 2 (4, 253) from okv_V (q := Y_X5_wash) (q1 := Y_X5_of) Z_X5_of rfl (by decide) ⟨by decide, by decide, Or.inl ⟨_, _, (List.mem_of_getElem? (l := xCls) (i := 3) rfl)⟩⟩ dX5_wash_20 q2622 q2624 qs50 q153 q2625 hy_265), (fun _ h => absurd h List.not_mem_nil)⟩)
theorem kX5_wash_23 (z : XKT) : XOi z xInf Y_X5_wash 23 (.inl (i_aload 0 24)) := ok_aload_n dX5_wash_23 rfl
theorem kX5_wash_24 (z : XKT) : XOi z xInf Y_X5_wash 24 (.inl (i_getr [4] 40 27)) := ok_getr dX5_wash_24 q2517 (List.forall_mem_cons.mpr ⟨⟨_, _, _, _, fd_40_4_0⟩, (fun _ h => absurd h List.not_mem_nil)⟩)
theorem kX5_wash_27 (z : XKT) : XOi z xInf Y_X5_wash 27 (.inl (i_push (vI 2) 28)) := ok_iconst dX5_wash_27 rfl
theorem kX5_wash_28 (z : XKT) : XOi z xInf Y_X5_wash 28 (.inl (i_ald 1000 29)) := ok_iald dX5_wash_28
theorem kX5_wash_29 (z : XKT) : XOi z xInf Y_X5_wash 29 (.inl (i_icmp (fun x y => ¬ x = y) 37 32)) := ok_icmp_ne dX5_wash_29 rfl
theorem kX5_wash_32 (z : XKT) : XOi z xInf Y_X5_wash 32 (.inl (i_aload 0 33)) := ok_aload_n dX5_wash_32 rfl
theorem kX5_wash_33 (z : XKT) : XOi z xInf Y_X5_wash 33 (.inl (i_iload 1 34)) := ok_iload_n dX5_wash_33 rfl
theorem kX5_wash_34 (z : XKT) : XOi z xInf Y_X5_wash 34 (.inr (.inl (37, g_virt [(4, 248)] 1))) := show XOkC z xInf Y_X5_wash 34 37 (g_virt [(4, 248)] 1) from okc_V (q := Y_X5_wash) (List.forall_mem_cons.mpr ⟨(show XOkV z xInf Y_X5_wash 34 37 1 (4, 248) from okv_V (q := Y_X5_wash) (q1 := Y_X5_lose) Z_X5_lose rfl (by decide) ⟨by decide, by decide, Or.inl ⟨_, _, (List.mem_of_getElem? (l := xCls) (i := 3) rfl)⟩⟩ dX5_wash_34 q2994 q2996 qs99 q153 q2997 hy_343), (fun _ h => absurd h List.not_mem_nil)⟩)
theorem kX5_wash_37 (z : XKT) : XOi z xInf Y_X5_wash 37 (.inr (.inr (.inl r_v))) := show XOkR Y_X5_wash 37 (r_v) from okr_v (q := Y_X5_wash) rfl dX5_wash_37
theorem o_X5_wash (z : XKT) : XMi z xInf Y_X5_wash := XMi.mk9 (T := T_X5_wash z) rfl (⟨kX5_wash_0 z, ⟨kX5_wash_1 z, ⟨kX5_wash_2 z, ⟨kX5_wash_4 z, ⟨kX5_wash_5 z, ⟨kX5_wash_6 z, ⟨kX5_wash_8 z, ⟨kX5_wash_11 z, ⟨kX5_wash_12 z, ⟨kX5_wash_13 z, ⟨kX5_wash_16 z, ⟨kX5_wash_17 z, ⟨kX5_wash_18 z, ⟨kX5_wash_20 z, ⟨kX5_wash_23 z, ⟨kX5_wash_24 z, ⟨kX5_wash_27 z, ⟨kX5_wash_28 z, ⟨kX5_wash_29 z, ⟨kX5_wash_32 z, ⟨kX5_wash_33 z, ⟨kX5_wash_34 z, ⟨kX5_wash_37 z, trivial⟩⟩⟩⟩⟩⟩⟩⟩⟩⟩⟩⟩⟩⟩⟩⟩⟩⟩⟩⟩⟩⟩⟩) (hd_X5_wash z) rfl rfl (by decide +kernel)
theorem hd_X5_why (z : XKT) : XHd z Y_X5_why := xHd_none rfl (xhd0 rfl)
theorem kX5_why_0 (z : XKT) : XOi z xInf Y_X5_why 0 (.inl (i_aload 0 1)) := ok_aload_n dX5_why_0 rfl
theorem kX5_why_1 (z : XKT) : XOi z xInf Y_X5_why 1 (.inl (i_aload 0 2)) := ok_aload_n dX5_why_1 rfl
theorem kX5_why_2 (z : XKT) : XOi z xInf Y_X5_why 2 (.inl (i_iload 1 3)) := ok_iload_n dX5_why_2 rfl
theorem kX5_why_3 (z : XKT) : XOi z xInf Y_X5_why 3 (.inr (.inl (6, g_virt [(4, 232)] 1))) := show XOkC z xInf Y_X5_why 3 6 (g_virt [(4, 232)] 1) from okc_V (q := Y_X5_why) (List.forall_mem_cons.mpr ⟨(show XOkV z xInf Y_X5_why 3 6 1 (4, 232) from okv_V (q := Y_X5_why) (q1 := Y_X5_isGood) Z_X5_isGood rfl (by decide) ⟨by decide, by decide, Or.inl ⟨_, _, (List.mem_of_getElem? (l := xCls) (i := 3) rfl)⟩⟩ dX5_why_3 q2654 q2656 qs56 q153 q2657 hy_272), (fun _ h => absurd h List.not_mem_nil)⟩)
theorem kX5_why_6 (z : XKT) : XOi z xInf Y_X5_why 6 (.inr (.inl (9, g_virt [(4, 240)] 1))) := show XOkC z xInf Y_X5_why 6 9 (g_virt [(4, 240)] 1) from okc_V (q := Y_X5_why) (List.forall_mem_cons.mpr ⟨(show XOkV z xInf Y_X5_why 6 9 1 (4, 240) from okv_V (q := Y_X5_why) (q1 := Y_X5_lacks) Z_X5_lacks rfl (by decide) ⟨by decide, by decide, Or.inl ⟨_, _, (List.mem_of_getElem? (l := xCls) (i := 3) rfl)⟩⟩ dX5_why_6 q2606 q2608 qs46 q153 q2609 hy_262), (fun _ h => absurd h List.not_mem_nil)⟩)
theorem kX5_why_9 (z : XKT) : XOi z xInf Y_X5_why 9 (.inl (i_if (fun x => x = 0) 16 12)) := ok_if_eq dX5_why_9 rfl
theorem kX5_why_12 (z : XKT) : XOi z xInf Y_X5_why 12 (.inl (i_push (vI 0) 13)) := ok_iconst dX5_why_12 rfl
theorem kX5_why_13 (z : XKT) : XOi z xInf Y_X5_why 13 (.inl (i_goto 21)) := ok_goto dX5_why_13 rfl
theorem kX5_why_16 (z : XKT) : XOi z xInf Y_X5_why 16 (.inl (i_aload 0 17)) := ok_aload_n dX5_why_16 rfl
theorem kX5_why_17 (z : XKT) : XOi z xInf Y_X5_why 17 (.inl (i_iload 1 18)) := ok_iload_n dX5_why_17 rfl
theorem kX5_why_18 (z : XKT) : XOi z xInf Y_X5_why 18 (.inr (.inl (21, g_virt [(4, 225)] 1))) := show XOkC z xInf Y_X5_why 18 21 (g_virt [(4, 225)] 1) from okc_V (q := Y_X5_why) (List.forall_mem_cons.mpr ⟨(show XOkV z xInf Y_X5_why 18 21 1 (4, 225) from okv_V (q := Y_X5_why) (q1 := Y_X5_haulRefusal) Z_X5_haulRefusal rfl (by decide) ⟨by decide, by decide, Or.inl ⟨_, _, (List.mem_of_getElem? (l := xCls) (i := 3) rfl)⟩⟩ dX5_why_18 q2846 q2848 qs77 q153 q2849 hy_273), (fun _ h => absurd h List.not_mem_nil)⟩)
theorem kX5_why_21 (z : XKT) : XOi z xInf Y_X5_why 21 (.inr (.inr (.inl (r_i .int)))) := show XOkR Y_X5_why 21 ((r_i .int)) from okr_i (q := Y_X5_why) (ty := .int) rfl rfl dX5_why_21
theorem o_X5_why (z : XKT) : XMi z xInf Y_X5_why := XMi.mk9 (T := T_X5_why z) rfl (⟨kX5_why_0 z, ⟨kX5_why_1 z, ⟨kX5_why_2 z, ⟨kX5_why_3 z, ⟨kX5_why_6 z, ⟨kX5_why_9 z, ⟨kX5_why_12 z, ⟨kX5_why_13 z, ⟨kX5_why_16 z, ⟨kX5_why_17 z, ⟨kX5_why_18 z, ⟨kX5_why_21 z, trivial⟩⟩⟩⟩⟩⟩⟩⟩⟩⟩⟩⟩) (hd_X5_why z) rfl rfl (by decide +kernel)
theorem hd_X5_whyDivide (z : XKT) : XHd z Y_X5_whyDivide := xHd_none rfl (xhd0 rfl)
theorem kX5_whyDivide_0 (z : XKT) : XOi z xInf Y_X5_whyDivide 0 (.inl (i_aload 0 1)) := ok_aload_n dX5_whyDivide_0 rfl
theorem kX5_whyDivide_1 (z : XKT) : XOi z xInf Y_X5_whyDivide 1 (.inl (i_aload 0 2)) := ok_aload_n dX5_whyDivide_1 rfl
theorem kX5_whyDivide_2 (z : XKT) : XOi z xInf Y_X5_whyDivide 2 (.inl (i_iload 1 3)) := ok_iload_n dX5_whyDivide_2 rfl
theorem kX5_whyDivide_3 (z : XKT) : XOi z xInf Y_X5_whyDivide 3 (.inr (.inl (6, g_virt [(4, 232)] 1))) := show XOkC z xInf Y_X5_whyDivide 3 6 (g_virt [(4, 232)] 1) from okc_V (q := Y_X5_whyDivide) (List.forall_mem_cons.mpr ⟨(show XOkV z xInf Y_X5_whyDivide 3 6 1 (4, 232) from okv_V (q := Y_X5_whyDivide) (q1 := Y_X5_isGood) Z_X5_isGood rfl (by decide) ⟨by decide, by decide, Or.inl ⟨_, _, (List.mem_of_getElem? (l := xCls) (i := 3) rfl)⟩⟩ dX5_whyDivide_3 q2654 q2656 qs56 q153 q2657 hy_272), (fun _ h => absurd h List.not_mem_nil)⟩)
theorem kX5_whyDivide_6 (z : XKT) : XOi z xInf Y_X5_whyDivide 6 (.inr (.inl (9, g_virt [(4, 240)] 1))) := show XOkC z xInf Y_X5_whyDivide 6 9 (g_virt [(4, 240)] 1) from okc_V (q := Y_X5_whyDivide) (List.forall_mem_cons.mpr ⟨(show XOkV z xInf Y_X5_whyDivide 6 9 1 (4, 240) from okv_V (q := Y_X5_whyDivide) (q1 := Y_X5_lacks) Z_X5_lacks rfl (by decide) ⟨by decide, by decide, Or.inl ⟨_, _, (List.mem_of_getElem? (l := xCls) (i := 3) rfl)⟩⟩ dX5_whyDivide_6 q2606 q2608 qs46 q153 q2609 hy_262), (fun _ h => absurd h List.not_mem_nil)⟩)
theorem kX5_whyDivide_9 (z : XKT) : XOi z xInf Y_X5_whyDivide 9 (.inl (i_if (fun x => x = 0) 16 12)) := ok_if_eq dX5_whyDivide_9 rfl
theorem kX5_whyDivide_12 (z : XKT) : XOi z xInf Y_X5_whyDivide 12 (.inl (i_push (vI 0) 13)) := ok_iconst dX5_whyDivide_12 rfl
theorem kX5_whyDivide_13 (z : XKT) : XOi z xInf Y_X5_whyDivide 13 (.inl (i_goto 21)) := ok_goto dX5_whyDivide_13 rfl
theorem kX5_whyDivide_16 (z : XKT) : XOi z xInf Y_X5_whyDivide 16 (.inl (i_aload 0 17)) := ok_aload_n dX5_whyDivide_16 rfl
theorem kX5_whyDivide_17 (z : XKT) : XOi z xInf Y_X5_whyDivide 17 (.inl (i_iload 1 18)) := ok_iload_n dX5_whyDivide_17 rfl
theorem kX5_whyDivide_18 (z : XKT) : XOi z xInf Y_X5_whyDivide 18 (.inr (.inl (21, g_virt [(4, 197)] 1))) := show XOkC z xInf Y_X5_whyDivide 18 21 (g_virt [(4, 197)] 1) from okc_V (q := Y_X5_whyDivide) (List.forall_mem_cons.mpr ⟨(show XOkV z xInf Y_X5_whyDivide 18 21 1 (4, 197) from okv_V (q := Y_X5_whyDivide) (q1 := Y_X5_divideRefusal) Z_X5_divideRefusal rfl (by decide) ⟨by decide, by decide, Or.inl ⟨_, _, (List.mem_of_getElem? (l := xCls) (i := 3) rfl)⟩⟩ dX5_whyDivide_18 q2858 q2860 qs78 q153 q2861 hy_292), (fun _ h => absurd h List.not_mem_nil)⟩)
theorem kX5_whyDivide_21 (z : XKT) : XOi z xInf Y_X5_whyDivide 21 (.inr (.inr (.inl (r_i .int)))) := show XOkR Y_X5_whyDivide 21 ((r_i .int)) from okr_i (q := Y_X5_whyDivide) (ty := .int) rfl rfl dX5_whyDivide_21
theorem o_X5_whyDivide (z : XKT) : XMi z xInf Y_X5_whyDivide := XMi.mk9 (T := T_X5_whyDivide z) rfl (⟨kX5_whyDivide_0 z, ⟨kX5_whyDivide_1 z, ⟨kX5_whyDivide_2 z, ⟨kX5_whyDivide_3 z, ⟨kX5_whyDivide_6 z, ⟨kX5_whyDivide_9 z, ⟨kX5_whyDivide_12 z, ⟨kX5_whyDivide_13 z, ⟨kX5_whyDivide_16 z, ⟨kX5_whyDivide_17 z, ⟨kX5_whyDivide_18 z, ⟨kX5_whyDivide_21 z, trivial⟩⟩⟩⟩⟩⟩⟩⟩⟩⟩⟩⟩) (hd_X5_whyDivide z) rfl rfl (by decide +kernel)
theorem hd_X5_write (z : XKT) : XHd z Y_X5_write := xHd_none rfl (xhd0 rfl)
theorem kX5_write_0 (z : XKT) : XOi z xInf Y_X5_write 0 (.inl (i_aload 0 1)) := ok_aload_n dX5_write_0 rfl
theorem kX5_write_1 (z : XKT) : XOi z xInf Y_X5_write 1 (.inl (i_getr [4] 44 4)) := ok_getr dX5_write_1 q2521 (List.forall_mem_cons.mpr ⟨⟨_, _, _, _, fd_44_4_0⟩, (fun _ h => absurd h List.not_mem_nil)⟩)
theorem kX5_write_4 (z : XKT) : XOi z xInf Y_X5_write 4 (.inl (i_aload 0 5)) := ok_aload_n dX5_write_4 rfl
theorem kX5_write_5 (z : XKT) : XOi z xInf Y_X5_write 5 (.inl (i_geti [4] 45 8)) := ok_geti dX5_write_5 q2522 (List.forall_mem_cons.mpr ⟨⟨_, _, _, _, fd_45_4_0⟩, (fun _ h => absurd h List.not_mem_nil)⟩)
theorem kX5_write_8 (z : XKT) : XOi z xInf Y_X5_write 8 (.inl (i_iload 1 9)) := ok_iload_n dX5_write_8 rfl
theorem kX5_write_9 (z : XKT) : XOi z xInf Y_X5_write 9 (.inl (i_ast z.1 1000 (fun x => x) 10)) := ok_iast dX5_write_9
theorem kX5_write_10 (z : XKT) : XOi z xInf Y_X5_write 10 (.inl (i_aload 0 11)) := ok_aload_n dX5_write_10 rfl
theorem kX5_write_11 (z : XKT) : XOi z xInf Y_X5_write 11 (.inl (i_dup 12)) := ok_dup dX5_write_11
theorem kX5_write_12 (z : XKT) : XOi z xInf Y_X5_write 12 (.inl (i_geti [4] 45 15)) := ok_geti dX5_write_12 q2522 (List.forall_mem_cons.mpr ⟨⟨_, _, _, _, fd_45_4_0⟩, (fun _ h => absurd h List.not_mem_nil)⟩)
theorem kX5_write_15 (z : XKT) : XOi z xInf Y_X5_write 15 (.inl (i_push (vI 1) 16)) := ok_iconst dX5_write_15 rfl
theorem kX5_write_16 (z : XKT) : XOi z xInf Y_X5_write 16 (.inl (i_bin (fun x y => x + y) 17)) := ok_iadd dX5_write_16
theorem kX5_write_17 (z : XKT) : XOi z xInf Y_X5_write 17 (.inl (i_puti z.1 [4] .int 45 20)) := ok_puti dX5_write_17 q2522 rfl (List.forall_mem_cons.mpr ⟨⟨_, _, _, _, tyX5, fd_45_4_0, ⟨tyX5_ok, nmX5, (Or.inl rfl)⟩, rfl⟩, (fun _ h => absurd h List.not_mem_nil)⟩)
theorem kX5_write_20 (z : XKT) : XOi z xInf Y_X5_write 20 (.inr (.inr (.inl r_v))) := show XOkR Y_X5_write 20 (r_v) from okr_v (q := Y_X5_write) rfl dX5_write_20
theorem o_X5_write (z : XKT) : XMi z xInf Y_X5_write := XMi.mk9 (T := T_X5_write z) rfl (⟨kX5_write_0 z, ⟨kX5_write_1 z, ⟨kX5_write_4 z, ⟨kX5_write_5 z, ⟨kX5_write_8 z, ⟨kX5_write_9 z, ⟨kX5_write_10 z, ⟨kX5_write_11 z, ⟨kX5_write_12 z, ⟨kX5_write_15 z, ⟨kX5_write_16 z, ⟨kX5_write_17 z, ⟨kX5_write_20 z, trivial⟩⟩⟩⟩⟩⟩⟩⟩⟩⟩⟩⟩⟩) (hd_X5_write z) rfl rfl (by decide +kernel)
theorem hd_X5_writeNumber (z : XKT) : XHd z Y_X5_writeNumber := xHd_none rfl (xhd0 rfl)
theorem kX5_writeNumber_0 (z : XKT) : XOi z xInf Y_X5_writeNumber 0 (.inl (i_iload 1 1)) := ok_iload_n dX5_writeNumber_0 rfl
theorem kX5_writeNumber_1 (z : XKT) : XOi z xInf Y_X5_writeNumber 1 (.inl (i_push (vI 99) 3)) := ok_bipush dX5_writeNumber_1 rfl
theorem kX5_writeNumber_3 (z : XKT) : XOi z xInf Y_X5_writeNumber 3 (.inl (i_icmp (fun x y => x ≤ y) 11 6)) := ok_icmp_le dX5_writeNumber_3 rfl
theorem kX5_writeNumber_6 (z : XKT) : XOi z xInf Y_X5_writeNumber 6 (.inl (i_push (vI 100) 8)) := ok_bipush dX5_writeNumber_6 rfl
theorem kX5_writeNumber_8 (z : XKT) : XOi z xInf Y_X5_writeNumber 8 (.inl (i_goto 23)) := ok_goto dX5_writeNumber_8 rfl
theorem kX5_writeNumber_11 (z : XKT) : XOi z xInf Y_X5_writeNumber 11 (.inl (i_iload 1 12)) := ok_iload_n dX5_writeNumber_11 rfl
theorem kX5_writeNumber_12 (z : XKT) : XOi z xInf Y_X5_writeNumber 12 (.inl (i_push (vI 9) 14)) := ok_bipush dX5_writeNumber_12 rfl
theorem kX5_writeNumber_14 (z : XKT) : XOi z xInf Y_X5_writeNumber 14 (.inl (i_icmp (fun x y => x ≤ y) 22 17)) := ok_icmp_le dX5_writeNumber_14 rfl
theorem kX5_writeNumber_17 (z : XKT) : XOi z xInf Y_X5_writeNumber 17 (.inl (i_push (vI 10) 19)) := ok_bipush dX5_writeNumber_17 rfl
theorem kX5_writeNumber_19 (z : XKT) : XOi z xInf Y_X5_writeNumber 19 (.inl (i_goto 23)) := ok_goto dX5_writeNumber_19 rfl
theorem kX5_writeNumber_22 (z : XKT) : XOi z xInf Y_X5_writeNumber 22 (.inl (i_push (vI 1) 23)) := ok_iconst dX5_writeNumber_22 rfl
theorem kX5_writeNumber_23 (z : XKT) : XOi z xInf Y_X5_writeNumber 23 (.inl (i_istore 2 24)) := ok_istore_n dX5_writeNumber_23 rfl
theorem kX5_writeNumber_24 (z : XKT) : XOi z xInf Y_X5_writeNumber 24 (.inl (i_iload 2 25)) := ok_iload_n dX5_writeNumber_24 rfl
theorem kX5_writeNumber_25 (z : XKT) : XOi z xInf Y_X5_writeNumber 25 (.inl (i_istore 3 26)) := ok_istore_n dX5_writeNumber_25 rfl
theorem kX5_writeNumber_26 (z : XKT) : XOi z xInf Y_X5_writeNumber 26 (.inl (i_iload 3 27)) := ok_iload_n dX5_writeNumber_26 rfl
theorem kX5_writeNumber_27 (z : XKT) : XOi z xInf Y_X5_writeNumber 27 (.inl (i_if (fun x => x ≤ 0) 51 30)) := ok_if_le dX5_writeNumber_27 rfl
theorem kX5_writeNumber_30 (z : XKT) : XOi z xInf Y_X5_writeNumber 30 (.inl (i_aload 0 31)) := ok_aload_n dX5_writeNumber_30 rfl
theorem kX5_writeNumber_31 (z : XKT) : XOi z xInf Y_X5_writeNumber 31 (.inl (i_push (vI 48) 33)) := ok_bipush dX5_writeNumber_31 rfl
theorem kX5_writeNumber_33 (z : XKT) : XOi z xInf Y_X5_writeNumber 33 (.inl (i_iload 1 34)) := ok_iload_n dX5_writeNumber_33 rfl
theorem kX5_writeNumber_34 (z : XKT) : XOi z xInf Y_X5_writeNumber 34 (.inl (i_iload 3 35)) := ok_iload_n dX5_writeNumber_34 rfl
theorem kX5_writeNumber_35 (z : XKT) : XOi z xInf Y_X5_writeNumber 35 (.inl (i_quo (fun x y => x / y) 36)) := ok_idiv dX5_writeNumber_35
theorem kX5_writeNumber_36 (z : XKT) : XOi z xInf Y_X5_writeNumber 36 (.inl (i_push (vI 10) 38)) := ok_bipush dX5_writeNumber_36 rfl
theorem kX5_writeNumber_38 (z : XKT) : XOi z xInf Y_X5_writeNumber 38 (.inl (i_quo (fun x y => x - x / y * y) 39)) := ok_irem dX5_writeNumber_38
theorem kX5_writeNumber_39 (z : XKT) : XOi z xInf Y_X5_writeNumber 39 (.inl (i_bin (fun x y => x + y) 40)) := ok_iadd dX5_writeNumber_39
theorem kX5_writeNumber_40 (z : XKT) : XOi z xInf Y_X5_writeNumber 40 (.inr (.inl (43, g_virt [(4, 305)] 1))) := show XOkC z xInf Y_X5_writeNumber 40 43 (g_virt [(4, 305)] 1) from okc_V (q := Y_X5_writeNumber) (List.forall_mem_cons.mpr ⟨(show XOkV z xInf Y_X5_writeNumber 40 43 1 (4, 305) from okv_V (q := Y_X5_writeNumber) (q1 := Y_X5_write) Z_X5_write rfl (by decide) ⟨by decide, by decide, Or.inl ⟨_, _, (List.mem_of_getElem? (l := xCls) (i := 3) rfl)⟩⟩ dX5_writeNumber_40 q3002 q3004 qs100 q153 q3005 hy_311), (fun _ h => absurd h List.not_mem_nil)⟩)
theorem kX5_writeNumber_43 (z : XKT) : XOi z xInf Y_X5_writeNumber 43 (.inl (i_iload 3 44)) := ok_iload_n dX5_writeNumber_43 rfl
theorem kX5_writeNumber_44 (z : XKT) : XOi z xInf Y_X5_writeNumber 44 (.inl (i_push (vI 10) 46)) := ok_bipush dX5_writeNumber_44 rfl
theorem kX5_writeNumber_46 (z : XKT) : XOi z xInf Y_X5_writeNumber 46 (.inl (i_quo (fun x y => x / y) 47)) := ok_idiv dX5_writeNumber_46
theorem kX5_writeNumber_47 (z : XKT) : XOi z xInf Y_X5_writeNumber 47 (.inl (i_istore 3 48)) := ok_istore_n dX5_writeNumber_47 rfl
theorem kX5_writeNumber_48 (z : XKT) : XOi z xInf Y_X5_writeNumber 48 (.inl (i_goto 26)) := ok_goto dX5_writeNumber_48 rfl
theorem kX5_writeNumber_51 (z : XKT) : XOi z xInf Y_X5_writeNumber 51 (.inr (.inr (.inl r_v))) := show XOkR Y_X5_writeNumber 51 (r_v) from okr_v (q := Y_X5_writeNumber) rfl dX5_writeNumber_51
theorem o_X5_writeNumber (z : XKT) : XMi z xInf Y_X5_writeNumber := XMi.mk9 (T := T_X5_writeNumber z) rfl (⟨kX5_writeNumber_0 z, ⟨kX5_writeNumber_1 z, ⟨kX5_writeNumber_3 z, ⟨kX5_writeNumber_6 z, ⟨kX5_writeNumber_8 z, ⟨kX5_writeNumber_11 z, ⟨kX5_writeNumber_12 z, ⟨kX5_writeNumber_14 z, ⟨kX5_writeNumber_17 z, ⟨kX5_writeNumber_19 z, ⟨kX5_writeNumber_22 z, ⟨kX5_writeNumber_23 z, ⟨kX5_writeNumber_24 z, ⟨kX5_writeNumber_25 z, ⟨kX5_writeNumber_26 z, ⟨kX5_writeNumber_27 z, ⟨kX5_writeNumber_30 z, ⟨kX5_writeNumber_31 z, ⟨kX5_writeNumber_33 z, ⟨kX5_writeNumber_34 z, ⟨kX5_writeNumber_35 z, ⟨kX5_writeNumber_36 z, ⟨kX5_writeNumber_38 z, ⟨kX5_writeNumber_39 z, ⟨kX5_writeNumber_40 z, ⟨kX5_writeNumber_43 z, ⟨kX5_writeNumber_44 z, ⟨kX5_writeNumber_46 z, ⟨kX5_writeNumber_47 z, ⟨kX5_writeNumber_48 z, ⟨kX5_writeNumber_51 z, trivial⟩⟩⟩⟩⟩⟩⟩⟩⟩⟩⟩⟩⟩⟩⟩⟩⟩⟩⟩⟩⟩⟩⟩⟩⟩⟩⟩⟩⟩⟩⟩) (hd_X5_writeNumber z) rfl rfl (by decide +kernel)
