/-! EVERY INSTRUCTION IS THE MODEL'S; printed by tools/okgen.py -/
set_option maxRecDepth 100000
theorem hd_X5_accept (z : XKT) : XHd z Y_X5_accept := xHd_none rfl (xhd0 rfl)
theorem kX5_accept_0 (z : XKT) : XOi z xInf Y_X5_accept 0 (.inl (i_aload 0 1)) := ok_aload_n dX5_accept_0 rfl
theorem kX5_accept_1 (z : XKT) : XOi z xInf Y_X5_accept 1 (.inl (i_aload 1 2)) := ok_aload_n dX5_accept_1 rfl
theorem kX5_accept_2 (z : XKT) : XOi z xInf Y_X5_accept 2 (.inr (.inl (5, g_virt [(4, 237)] 1))) := show XOkC z xInf Y_X5_accept 2 5 (g_virt [(4, 237)] 1) from okc_V (q := Y_X5_accept) (List.forall_mem_cons.mpr ⟨(show XOkV z xInf Y_X5_accept 2 5 1 (4, 237) from okv_V (q := Y_X5_accept) (q1 := Y_X5_isWord) Z_X5_isWord rfl (by decide) ⟨by decide, by decide, Or.inl ⟨_, _, (List.mem_of_getElem? (l := xCls) (i := 3) rfl)⟩⟩ dX5_accept_2 q3067 q3069 qs108 q153 q3070 hy_259), (fun _ h => absurd h List.not_mem_nil)⟩)
theorem kX5_accept_5 (z : XKT) : XOi z xInf Y_X5_accept 5 (.inl (i_istore 2 6)) := ok_istore_n dX5_accept_5 rfl
theorem kX5_accept_6 (z : XKT) : XOi z xInf Y_X5_accept 6 (.inl (i_iload 2 7)) := ok_iload_n dX5_accept_6 rfl
theorem kX5_accept_7 (z : XKT) : XOi z xInf Y_X5_accept 7 (.inl (i_if (fun x => x = 0) 14 10)) := ok_if_eq dX5_accept_7 rfl
theorem kX5_accept_10 (z : XKT) : XOi z xInf Y_X5_accept 10 (.inl (i_aload 0 11)) := ok_aload_n dX5_accept_10 rfl
theorem kX5_accept_11 (z : XKT) : XOi z xInf Y_X5_accept 11 (.inr (.inl (14, g_virt [(4, 284)] 0))) := show XOkC z xInf Y_X5_accept 11 14 (g_virt [(4, 284)] 0) from okc_V (q := Y_X5_accept) (List.forall_mem_cons.mpr ⟨(show XOkV z xInf Y_X5_accept 11 14 0 (4, 284) from okv_V (q := Y_X5_accept) (q1 := Y_X5_scan) Z_X5_scan rfl (by decide) ⟨by decide, by decide, Or.inl ⟨_, _, (List.mem_of_getElem? (l := xCls) (i := 3) rfl)⟩⟩ dX5_accept_11 q3046 q3048 qs103 q153 q3049 hy_260), (fun _ h => absurd h List.not_mem_nil)⟩)
theorem kX5_accept_14 (z : XKT) : XOi z xInf Y_X5_accept 14 (.inl (i_iload 2 15)) := ok_iload_n dX5_accept_14 rfl
theorem kX5_accept_15 (z : XKT) : XOi z xInf Y_X5_accept 15 (.inr (.inr (.inl (r_i .boolean)))) := show XOkR Y_X5_accept 15 ((r_i .boolean)) from okr_i (q := Y_X5_accept) (ty := .boolean) rfl rfl dX5_accept_15
theorem o_X5_accept (z : XKT) : XMi z xInf Y_X5_accept := XMi.mk9 (T := T_X5_accept z) rfl (⟨kX5_accept_0 z, ⟨kX5_accept_1 z, ⟨kX5_accept_2 z, ⟨kX5_accept_5 z, ⟨kX5_accept_6 z, ⟨kX5_accept_7 z, ⟨kX5_accept_10 z, ⟨kX5_accept_11 z, ⟨kX5_accept_14 z, ⟨kX5_accept_15 z, trivial⟩⟩⟩⟩⟩⟩⟩⟩⟩⟩) (hd_X5_accept z) rfl rfl rfl
theorem hd_X5_account (z : XKT) : XHd z Y_X5_account := xHd_none rfl (xhd0 rfl)
theorem kX5_account_0 (z : XKT) : XOi z xInf Y_X5_account 0 (.inl (i_aload 0 1)) := ok_aload_n dX5_account_0 rfl
theorem kX5_account_1 (z : XKT) : XOi z xInf Y_X5_account 1 (.inl (i_iload 1 2)) := ok_iload_n dX5_account_1 rfl
theorem kX5_account_2 (z : XKT) : XOi z xInf Y_X5_account 2 (.inl (i_push (vI 0) 3)) := ok_iconst dX5_account_2 rfl
theorem kX5_account_3 (z : XKT) : XOi z xInf Y_X5_account 3 (.inl (i_push (vI 10) 5)) := ok_bipush dX5_account_3 rfl
theorem kX5_account_5 (z : XKT) : XOi z xInf Y_X5_account 5 (.inr (.inl (8, g_stat 226 3))) := show XOkC z xInf Y_X5_account 5 8 (g_stat 226 3) from okc_S (q := Y_X5_account) (q1 := Y_X5_inRange) Z_X5_inRange rfl (by decide) dX5_account_5 q2603 q2604 q153 q2605 hy_261
theorem kX5_account_8 (z : XKT) : XOi z xInf Y_X5_account 8 (.inr (.inl (11, g_virt [(4, 240)] 1))) := show XOkC z xInf Y_X5_account 8 11 (g_virt [(4, 240)] 1) from okc_V (q := Y_X5_account) (List.forall_mem_cons.mpr ⟨(show XOkV z xInf Y_X5_account 8 11 1 (4, 240) from okv_V (q := Y_X5_account) (q1 := Y_X5_lacks) Z_X5_lacks rfl (by decide) ⟨by decide, by decide, Or.inl ⟨_, _, (List.mem_of_getElem? (l := xCls) (i := 3) rfl)⟩⟩ dX5_account_8 q2606 q2608 qs46 q153 q2609 hy_262), (fun _ h => absurd h List.not_mem_nil)⟩)
theorem kX5_account_11 (z : XKT) : XOi z xInf Y_X5_account 11 (.inl (i_if (fun x => x = 0) 16 14)) := ok_if_eq dX5_account_11 rfl
theorem kX5_account_14 (z : XKT) : XOi z xInf Y_X5_account 14 (.inl (i_push (vI 0) 15)) := ok_iconst dX5_account_14 rfl
theorem kX5_account_15 (z : XKT) : XOi z xInf Y_X5_account 15 (.inr (.inr (.inl (r_i .int)))) := show XOkR Y_X5_account 15 ((r_i .int)) from okr_i (q := Y_X5_account) (ty := .int) rfl rfl dX5_account_15
theorem kX5_account_16 (z : XKT) : XOi z xInf Y_X5_account 16 (.inl (i_iload 1 17)) := ok_iload_n dX5_account_16 rfl
theorem kX5_account_17 (z : XKT) : XOi z xInf Y_X5_account 17 (.inl (i_push (vI 3) 18)) := ok_iconst dX5_account_17 rfl
theorem kX5_account_18 (z : XKT) : XOi z xInf Y_X5_account 18 (.inl (i_icmp (fun x y => y ≤ x) 30 21)) := ok_icmp_ge dX5_account_18 rfl
theorem kX5_account_21 (z : XKT) : XOi z xInf Y_X5_account 21 (.inl (i_aload 0 22)) := ok_aload_n dX5_account_21 rfl
theorem kX5_account_22 (z : XKT) : XOi z xInf Y_X5_account 22 (.inl (i_getr [4] 35 25)) := ok_getr dX5_account_22 q2512 (List.forall_mem_cons.mpr ⟨⟨_, _, _, _, fd_35_4_0⟩, (fun _ h => absurd h List.not_mem_nil)⟩)
theorem kX5_account_25 (z : XKT) : XOi z xInf Y_X5_account 25 (.inl (i_iload 1 26)) := ok_iload_n dX5_account_25 rfl
theorem kX5_account_26 (z : XKT) : XOi z xInf Y_X5_account 26 (.inl (i_ald 1000 27)) := ok_iald dX5_account_26
theorem kX5_account_27 (z : XKT) : XOi z xInf Y_X5_account 27 (.inl (i_goto 35)) := ok_goto dX5_account_27 rfl
theorem kX5_account_30 (z : XKT) : XOi z xInf Y_X5_account 30 (.inl (i_aload 0 31)) := ok_aload_n dX5_account_30 rfl
theorem kX5_account_31 (z : XKT) : XOi z xInf Y_X5_account 31 (.inl (i_iload 1 32)) := ok_iload_n dX5_account_31 rfl
theorem kX5_account_32 (z : XKT) : XOi z xInf Y_X5_account 32 (.inr (.inl (35, g_virt [(4, 290)] 1))) := show XOkC z xInf Y_X5_account 32 35 (g_virt [(4, 290)] 1) from okc_V (q := Y_X5_account) (List.forall_mem_cons.mpr ⟨(show XOkV z xInf Y_X5_account 32 35 1 (4, 290) from okv_V (q := Y_X5_account) (q1 := Y_X5_tallied) Z_X5_tallied rfl (by decide) ⟨by decide, by decide, Or.inl ⟨_, _, (List.mem_of_getElem? (l := xCls) (i := 3) rfl)⟩⟩ dX5_account_32 q2646 q2648 qs55 q153 q2649 hy_263), (fun _ h => absurd h List.not_mem_nil)⟩)
theorem kX5_account_35 (z : XKT) : XOi z xInf Y_X5_account 35 (.inr (.inr (.inl (r_i .int)))) := show XOkR Y_X5_account 35 ((r_i .int)) from okr_i (q := Y_X5_account) (ty := .int) rfl rfl dX5_account_35
theorem o_X5_account (z : XKT) : XMi z xInf Y_X5_account := XMi.mk9 (T := T_X5_account z) rfl (⟨kX5_account_0 z, ⟨kX5_account_1 z, ⟨kX5_account_2 z, ⟨kX5_account_3 z, ⟨kX5_account_5 z, ⟨kX5_account_8 z, ⟨kX5_account_11 z, ⟨kX5_account_14 z, ⟨kX5_account_15 z, ⟨kX5_account_16 z, ⟨kX5_account_17 z, ⟨kX5_account_18 z, ⟨kX5_account_21 z, ⟨kX5_account_22 z, ⟨kX5_account_25 z, ⟨kX5_account_26 z, ⟨kX5_account_27 z, ⟨kX5_account_30 z, ⟨kX5_account_31 z, ⟨kX5_account_32 z, ⟨kX5_account_35 z, trivial⟩⟩⟩⟩⟩⟩⟩⟩⟩⟩⟩⟩⟩⟩⟩⟩⟩⟩⟩⟩⟩) (hd_X5_account z) rfl rfl rfl
theorem hd_X5_addGood (z : XKT) : XHd z Y_X5_addGood := xHd_none rfl (xhd0 rfl)
theorem kX5_addGood_0 (z : XKT) : XOi z xInf Y_X5_addGood 0 (.inl (i_aload 0 1)) := ok_aload_n dX5_addGood_0 rfl
theorem kX5_addGood_1 (z : XKT) : XOi z xInf Y_X5_addGood 1 (.inl (i_getr [4] 40 4)) := ok_getr dX5_addGood_1 q2517 (List.forall_mem_cons.mpr ⟨⟨_, _, _, _, fd_40_4_0⟩, (fun _ h => absurd h List.not_mem_nil)⟩)
theorem kX5_addGood_4 (z : XKT) : XOi z xInf Y_X5_addGood 4 (.inl (i_push (vI 5) 5)) := ok_iconst dX5_addGood_4 rfl
theorem kX5_addGood_5 (z : XKT) : XOi z xInf Y_X5_addGood 5 (.inl (i_ald 1000 6)) := ok_iald dX5_addGood_5
theorem kX5_addGood_6 (z : XKT) : XOi z xInf Y_X5_addGood 6 (.inl (i_istore 6 8)) := ok_istore dX5_addGood_6
theorem kX5_addGood_8 (z : XKT) : XOi z xInf Y_X5_addGood 8 (.inl (i_aload 0 9)) := ok_aload_n dX5_addGood_8 rfl
theorem kX5_addGood_9 (z : XKT) : XOi z xInf Y_X5_addGood 9 (.inl (i_getr [4] 40 12)) := ok_getr dX5_addGood_9 q2517 (List.forall_mem_cons.mpr ⟨⟨_, _, _, _, fd_40_4_0⟩, (fun _ h => absurd h List.not_mem_nil)⟩)
theorem kX5_addGood_12 (z : XKT) : XOi z xInf Y_X5_addGood 12 (.inl (i_push (vI 5) 13)) := ok_iconst dX5_addGood_12 rfl
theorem kX5_addGood_13 (z : XKT) : XOi z xInf Y_X5_addGood 13 (.inl (i_dup2 14)) := ok_dup2 dX5_addGood_13
theorem kX5_addGood_14 (z : XKT) : XOi z xInf Y_X5_addGood 14 (.inl (i_ald 1000 15)) := ok_iald dX5_addGood_14
theorem kX5_addGood_15 (z : XKT) : XOi z xInf Y_X5_addGood 15 (.inl (i_push (vI 1) 16)) := ok_iconst dX5_addGood_15 rfl
theorem kX5_addGood_16 (z : XKT) : XOi z xInf Y_X5_addGood 16 (.inl (i_bin (fun x y => x + y) 17)) := ok_iadd dX5_addGood_16
theorem kX5_addGood_17 (z : XKT) : XOi z xInf Y_X5_addGood 17 (.inl (i_ast z.1 1000 (fun x => x) 18)) := ok_iast dX5_addGood_17
theorem kX5_addGood_18 (z : XKT) : XOi z xInf Y_X5_addGood 18 (.inl (i_aload 0 19)) := ok_aload_n dX5_addGood_18 rfl
theorem kX5_addGood_19 (z : XKT) : XOi z xInf Y_X5_addGood 19 (.inl (i_iload 6 21)) := ok_iload dX5_addGood_19
theorem kX5_addGood_21 (z : XKT) : XOi z xInf Y_X5_addGood 21 (.inl (i_push (vI 0) 22)) := ok_iconst dX5_addGood_21 rfl
theorem kX5_addGood_22 (z : XKT) : XOi z xInf Y_X5_addGood 22 (.inl (i_iload 1 23)) := ok_iload_n dX5_addGood_22 rfl
theorem kX5_addGood_23 (z : XKT) : XOi z xInf Y_X5_addGood 23 (.inr (.inl (26, g_virt [(4, 241)] 3))) := show XOkC z xInf Y_X5_addGood 23 26 (g_virt [(4, 241)] 3) from okc_V (q := Y_X5_addGood) (List.forall_mem_cons.mpr ⟨(show XOkV z xInf Y_X5_addGood 23 26 3 (4, 241) from okv_V (q := Y_X5_addGood) (q1 := Y_X5_lay) Z_X5_lay rfl (by decide) ⟨by decide, by decide, Or.inl ⟨_, _, (List.mem_of_getElem? (l := xCls) (i := 3) rfl)⟩⟩ dX5_addGood_23 q2503 q2505 qs45 q153 q2506 hy_264), (fun _ h => absurd h List.not_mem_nil)⟩)
theorem kX5_addGood_26 (z : XKT) : XOi z xInf Y_X5_addGood 26 (.inl (i_aload 0 27)) := ok_aload_n dX5_addGood_26 rfl
theorem kX5_addGood_27 (z : XKT) : XOi z xInf Y_X5_addGood 27 (.inl (i_iload 6 29)) := ok_iload dX5_addGood_27
theorem kX5_addGood_29 (z : XKT) : XOi z xInf Y_X5_addGood 29 (.inl (i_push (vI 1) 30)) := ok_iconst dX5_addGood_29 rfl
theorem kX5_addGood_30 (z : XKT) : XOi z xInf Y_X5_addGood 30 (.inl (i_iload 2 31)) := ok_iload_n dX5_addGood_30 rfl
theorem kX5_addGood_31 (z : XKT) : XOi z xInf Y_X5_addGood 31 (.inr (.inl (34, g_virt [(4, 241)] 3))) := show XOkC z xInf Y_X5_addGood 31 34 (g_virt [(4, 241)] 3) from okc_V (q := Y_X5_addGood) (List.forall_mem_cons.mpr ⟨(show XOkV z xInf Y_X5_addGood 31 34 3 (4, 241) from okv_V (q := Y_X5_addGood) (q1 := Y_X5_lay) Z_X5_lay rfl (by decide) ⟨by decide, by decide, Or.inl ⟨_, _, (List.mem_of_getElem? (l := xCls) (i := 3) rfl)⟩⟩ dX5_addGood_31 q2503 q2505 qs45 q153 q2506 hy_264), (fun _ h => absurd h List.not_mem_nil)⟩)
theorem kX5_addGood_34 (z : XKT) : XOi z xInf Y_X5_addGood 34 (.inl (i_aload 0 35)) := ok_aload_n dX5_addGood_34 rfl
theorem kX5_addGood_35 (z : XKT) : XOi z xInf Y_X5_addGood 35 (.inl (i_iload 6 37)) := ok_iload dX5_addGood_35
theorem kX5_addGood_37 (z : XKT) : XOi z xInf Y_X5_addGood 37 (.inl (i_push (vI 3) 38)) := ok_iconst dX5_addGood_37 rfl
theorem kX5_addGood_38 (z : XKT) : XOi z xInf Y_X5_addGood 38 (.inl (i_iload 3 39)) := ok_iload_n dX5_addGood_38 rfl
theorem kX5_addGood_39 (z : XKT) : XOi z xInf Y_X5_addGood 39 (.inr (.inl (42, g_virt [(4, 241)] 3))) := show XOkC z xInf Y_X5_addGood 39 42 (g_virt [(4, 241)] 3) from okc_V (q := Y_X5_addGood) (List.forall_mem_cons.mpr ⟨(show XOkV z xInf Y_X5_addGood 39 42 3 (4, 241) from okv_V (q := Y_X5_addGood) (q1 := Y_X5_lay) Z_X5_lay rfl (by decide) ⟨by decide, by decide, Or.inl ⟨_, _, (List.mem_of_getElem? (l := xCls) (i := 3) rfl)⟩⟩ dX5_addGood_39 q2503 q2505 qs45 q153 q2506 hy_264), (fun _ h => absurd h List.not_mem_nil)⟩)
theorem kX5_addGood_42 (z : XKT) : XOi z xInf Y_X5_addGood 42 (.inl (i_aload 0 43)) := ok_aload_n dX5_addGood_42 rfl
theorem kX5_addGood_43 (z : XKT) : XOi z xInf Y_X5_addGood 43 (.inl (i_iload 6 45)) := ok_iload dX5_addGood_43
theorem kX5_addGood_45 (z : XKT) : XOi z xInf Y_X5_addGood 45 (.inl (i_push (vI 4) 46)) := ok_iconst dX5_addGood_45 rfl
theorem kX5_addGood_46 (z : XKT) : XOi z xInf Y_X5_addGood 46 (.inl (i_iload 4 48)) := ok_iload dX5_addGood_46
theorem kX5_addGood_48 (z : XKT) : XOi z xInf Y_X5_addGood 48 (.inr (.inl (51, g_virt [(4, 241)] 3))) := show XOkC z xInf Y_X5_addGood 48 51 (g_virt [(4, 241)] 3) from okc_V (q := Y_X5_addGood) (List.forall_mem_cons.mpr ⟨(show XOkV z xInf Y_X5_addGood 48 51 3 (4, 241) from okv_V (q := Y_X5_addGood) (q1 := Y_X5_lay) Z_X5_lay rfl (by decide) ⟨by decide, by decide, Or.inl ⟨_, _, (List.mem_of_getElem? (l := xCls) (i := 3) rfl)⟩⟩ dX5_addGood_48 q2503 q2505 qs45 q153 q2506 hy_264), (fun _ h => absurd h List.not_mem_nil)⟩)
theorem kX5_addGood_51 (z : XKT) : XOi z xInf Y_X5_addGood 51 (.inl (i_aload 0 52)) := ok_aload_n dX5_addGood_51 rfl
theorem kX5_addGood_52 (z : XKT) : XOi z xInf Y_X5_addGood 52 (.inl (i_iload 6 54)) := ok_iload dX5_addGood_52
theorem kX5_addGood_54 (z : XKT) : XOi z xInf Y_X5_addGood 54 (.inl (i_push (vI 2) 55)) := ok_iconst dX5_addGood_54 rfl
theorem kX5_addGood_55 (z : XKT) : XOi z xInf Y_X5_addGood 55 (.inl (i_iload 5 57)) := ok_iload dX5_addGood_55
theorem kX5_addGood_57 (z : XKT) : XOi z xInf Y_X5_addGood 57 (.inr (.inl (60, g_virt [(4, 241)] 3))) := show XOkC z xInf Y_X5_addGood 57 60 (g_virt [(4, 241)] 3) from okc_V (q := Y_X5_addGood) (List.forall_mem_cons.mpr ⟨(show XOkV z xInf Y_X5_addGood 57 60 3 (4, 241) from okv_V (q := Y_X5_addGood) (q1 := Y_X5_lay) Z_X5_lay rfl (by decide) ⟨by decide, by decide, Or.inl ⟨_, _, (List.mem_of_getElem? (l := xCls) (i := 3) rfl)⟩⟩ dX5_addGood_57 q2503 q2505 qs45 q153 q2506 hy_264), (fun _ h => absurd h List.not_mem_nil)⟩)
theorem kX5_addGood_60 (z : XKT) : XOi z xInf Y_X5_addGood 60 (.inl (i_aload 0 61)) := ok_aload_n dX5_addGood_60 rfl
theorem kX5_addGood_61 (z : XKT) : XOi z xInf Y_X5_addGood 61 (.inl (i_iload 6 63)) := ok_iload dX5_addGood_61
theorem kX5_addGood_63 (z : XKT) : XOi z xInf Y_X5_addGood 63 (.inl (i_push (vI 7) 65)) := ok_bipush dX5_addGood_63 rfl
theorem kX5_addGood_65 (z : XKT) : XOi z xInf Y_X5_addGood 65 (.inl (i_push (vI (-1)) 66)) := ok_iconst dX5_addGood_65 rfl
theorem kX5_addGood_66 (z : XKT) : XOi z xInf Y_X5_addGood 66 (.inr (.inl (69, g_virt [(4, 241)] 3))) := show XOkC z xInf Y_X5_addGood 66 69 (g_virt [(4, 241)] 3) from okc_V (q := Y_X5_addGood) (List.forall_mem_cons.mpr ⟨(show XOkV z xInf Y_X5_addGood 66 69 3 (4, 241) from okv_V (q := Y_X5_addGood) (q1 := Y_X5_lay) Z_X5_lay rfl (by decide) ⟨by decide, by decide, Or.inl ⟨_, _, (List.mem_of_getElem? (l := xCls) (i := 3) rfl)⟩⟩ dX5_addGood_66 q2503 q2505 qs45 q153 q2506 hy_264), (fun _ h => absurd h List.not_mem_nil)⟩)
theorem kX5_addGood_69 (z : XKT) : XOi z xInf Y_X5_addGood 69 (.inr (.inr (.inl r_v))) := show XOkR Y_X5_addGood 69 (r_v) from okr_v (q := Y_X5_addGood) rfl dX5_addGood_69
theorem o_X5_addGood (z : XKT) : XMi z xInf Y_X5_addGood := XMi.mk9 (T := T_X5_addGood z) rfl (⟨kX5_addGood_0 z, ⟨kX5_addGood_1 z, ⟨kX5_addGood_4 z, ⟨kX5_addGood_5 z, ⟨kX5_addGood_6 z, ⟨kX5_addGood_8 z, ⟨kX5_addGood_9 z, ⟨kX5_addGood_12 z, ⟨kX5_addGood_13 z, ⟨kX5_addGood_14 z, ⟨kX5_addGood_15 z, ⟨kX5_addGood_16 z, ⟨kX5_addGood_17 z, ⟨kX5_addGood_18 z, ⟨kX5_addGood_19 z, ⟨kX5_addGood_21 z, ⟨kX5_addGood_22 z, ⟨kX5_addGood_23 z, ⟨kX5_addGood_26 z, ⟨kX5_addGood_27 z, ⟨kX5_addGood_29 z, ⟨kX5_addGood_30 z, ⟨kX5_addGood_31 z, ⟨kX5_addGood_34 z, ⟨kX5_addGood_35 z, ⟨kX5_addGood_37 z, ⟨kX5_addGood_38 z, ⟨kX5_addGood_39 z, ⟨kX5_addGood_42 z, ⟨kX5_addGood_43 z, ⟨kX5_addGood_45 z, ⟨kX5_addGood_46 z, ⟨kX5_addGood_48 z, ⟨kX5_addGood_51 z, ⟨kX5_addGood_52 z, ⟨kX5_addGood_54 z, ⟨kX5_addGood_55 z, ⟨kX5_addGood_57 z, ⟨kX5_addGood_60 z, ⟨kX5_addGood_61 z, ⟨kX5_addGood_63 z, ⟨kX5_addGood_65 z, ⟨kX5_addGood_66 z, ⟨kX5_addGood_69 z, trivial⟩⟩⟩⟩⟩⟩⟩⟩⟩⟩⟩⟩⟩⟩⟩⟩⟩⟩⟩⟩⟩⟩⟩⟩⟩⟩⟩⟩⟩⟩⟩⟩⟩⟩⟩⟩⟩⟩⟩⟩⟩⟩⟩⟩) (hd_X5_addGood z) rfl rfl rfl
theorem hd_X5_addHand (z : XKT) : XHd z Y_X5_addHand := xHd_none rfl (xhd0 rfl)
theorem kX5_addHand_0 (z : XKT) : XOi z xInf Y_X5_addHand 0 (.inl (i_aload 0 1)) := ok_aload_n dX5_addHand_0 rfl
theorem kX5_addHand_1 (z : XKT) : XOi z xInf Y_X5_addHand 1 (.inl (i_iload 1 2)) := ok_iload_n dX5_addHand_1 rfl
theorem kX5_addHand_2 (z : XKT) : XOi z xInf Y_X5_addHand 2 (.inl (i_push (vI 10) 4)) := ok_bipush dX5_addHand_2 rfl
theorem kX5_addHand_4 (z : XKT) : XOi z xInf Y_X5_addHand 4 (.inl (i_aload 0 5)) := ok_aload_n dX5_addHand_4 rfl
theorem kX5_addHand_5 (z : XKT) : XOi z xInf Y_X5_addHand 5 (.inl (i_iload 1 6)) := ok_iload_n dX5_addHand_5 rfl
theorem kX5_addHand_6 (z : XKT) : XOi z xInf Y_X5_addHand 6 (.inl (i_push (vI 9) 8)) := ok_bipush dX5_addHand_6 rfl
theorem kX5_addHand_8 (z : XKT) : XOi z xInf Y_X5_addHand 8 (.inr (.inl (11, g_virt [(4, 253)] 2))) := show XOkC z xInf Y_X5_addHand 8 11 (g_virt [(4, 253)] 2) from okc_V (q := Y_X5_addHand) (List.forall_mem_cons.mpr ⟨(show XOkV z xInf Y_X5_addHand 8 11 2 (4, 253) from okv_V (q := Y_X5_addHand) (q1 := Y_X5_of) Z_X5_of rfl (by decide) ⟨by decide, by decide, Or.inl ⟨_, _, (List.mem_of_getElem? (l := xCls) (i := 3) rfl)⟩⟩ dX5_addHand_8 q2622 q2624 qs50 q153 q2625 hy_265), (fun _ h => absurd h List.not_mem_nil)⟩)
theorem kX5_addHand_11 (z : XKT) : XOi z xInf Y_X5_addHand 11 (.inl (i_bin (fun x y => x + y) 12)) := ok_iadd dX5_addHand_11
theorem kX5_addHand_12 (z : XKT) : XOi z xInf Y_X5_addHand 12 (.inl (i_iload 2 13)) := ok_iload_n dX5_addHand_12 rfl
theorem kX5_addHand_13 (z : XKT) : XOi z xInf Y_X5_addHand 13 (.inr (.inl (16, g_virt [(4, 241)] 3))) := show XOkC z xInf Y_X5_addHand 13 16 (g_virt [(4, 241)] 3) from okc_V (q := Y_X5_addHand) (List.forall_mem_cons.mpr ⟨(show XOkV z xInf Y_X5_addHand 13 16 3 (4, 241) from okv_V (q := Y_X5_addHand) (q1 := Y_X5_lay) Z_X5_lay rfl (by decide) ⟨by decide, by decide, Or.inl ⟨_, _, (List.mem_of_getElem? (l := xCls) (i := 3) rfl)⟩⟩ dX5_addHand_13 q2503 q2505 qs45 q153 q2506 hy_264), (fun _ h => absurd h List.not_mem_nil)⟩)
theorem kX5_addHand_16 (z : XKT) : XOi z xInf Y_X5_addHand 16 (.inl (i_aload 0 17)) := ok_aload_n dX5_addHand_16 rfl
theorem kX5_addHand_17 (z : XKT) : XOi z xInf Y_X5_addHand 17 (.inl (i_iload 1 18)) := ok_iload_n dX5_addHand_17 rfl
theorem kX5_addHand_18 (z : XKT) : XOi z xInf Y_X5_addHand 18 (.inl (i_push (vI 9) 20)) := ok_bipush dX5_addHand_18 rfl
theorem kX5_addHand_20 (z : XKT) : XOi z xInf Y_X5_addHand 20 (.inl (i_aload 0 21)) := ok_aload_n dX5_addHand_20 rfl
theorem kX5_addHand_21 (z : XKT) : XOi z xInf Y_X5_addHand 21 (.inl (i_iload 1 22)) := ok_iload_n dX5_addHand_21 rfl
theorem kX5_addHand_22 (z : XKT) : XOi z xInf Y_X5_addHand 22 (.inl (i_push (vI 9) 24)) := ok_bipush dX5_addHand_22 rfl
theorem kX5_addHand_24 (z : XKT) : XOi z xInf Y_X5_addHand 24 (.inr (.inl (27, g_virt [(4, 253)] 2))) := show XOkC z xInf Y_X5_addHand 24 27 (g_virt [(4, 253)] 2) from okc_V (q := Y_X5_addHand) (List.forall_mem_cons.mpr ⟨(show XOkV z xInf Y_X5_addHand 24 27 2 (4, 253) from okv_V (q := Y_X5_addHand) (q1 := Y_X5_of) Z_X5_of rfl (by decide) ⟨by decide, by decide, Or.inl ⟨_, _, (List.mem_of_getElem? (l := xCls) (i := 3) rfl)⟩⟩ dX5_addHand_24 q2622 q2624 qs50 q153 q2625 hy_265), (fun _ h => absurd h List.not_mem_nil)⟩)
theorem kX5_addHand_27 (z : XKT) : XOi z xInf Y_X5_addHand 27 (.inl (i_push (vI 1) 28)) := ok_iconst dX5_addHand_27 rfl
theorem kX5_addHand_28 (z : XKT) : XOi z xInf Y_X5_addHand 28 (.inl (i_bin (fun x y => x + y) 29)) := ok_iadd dX5_addHand_28
theorem kX5_addHand_29 (z : XKT) : XOi z xInf Y_X5_addHand 29 (.inr (.inl (32, g_virt [(4, 241)] 3))) := show XOkC z xInf Y_X5_addHand 29 32 (g_virt [(4, 241)] 3) from okc_V (q := Y_X5_addHand) (List.forall_mem_cons.mpr ⟨(show XOkV z xInf Y_X5_addHand 29 32 3 (4, 241) from okv_V (q := Y_X5_addHand) (q1 := Y_X5_lay) Z_X5_lay rfl (by decide) ⟨by decide, by decide, Or.inl ⟨_, _, (List.mem_of_getElem? (l := xCls) (i := 3) rfl)⟩⟩ dX5_addHand_29 q2503 q2505 qs45 q153 q2506 hy_264), (fun _ h => absurd h List.not_mem_nil)⟩)
theorem kX5_addHand_32 (z : XKT) : XOi z xInf Y_X5_addHand 32 (.inl (i_aload 0 33)) := ok_aload_n dX5_addHand_32 rfl
theorem kX5_addHand_33 (z : XKT) : XOi z xInf Y_X5_addHand 33 (.inl (i_iload 2 34)) := ok_iload_n dX5_addHand_33 rfl
theorem kX5_addHand_34 (z : XKT) : XOi z xInf Y_X5_addHand 34 (.inl (i_push (vI 1) 35)) := ok_iconst dX5_addHand_34 rfl
theorem kX5_addHand_35 (z : XKT) : XOi z xInf Y_X5_addHand 35 (.inl (i_iload 1 36)) := ok_iload_n dX5_addHand_35 rfl
theorem kX5_addHand_36 (z : XKT) : XOi z xInf Y_X5_addHand 36 (.inr (.inl (39, g_virt [(4, 242)] 3))) := show XOkC z xInf Y_X5_addHand 36 39 (g_virt [(4, 242)] 3) from okc_V (q := Y_X5_addHand) (List.forall_mem_cons.mpr ⟨(show XOkV z xInf Y_X5_addHand 36 39 3 (4, 242) from okv_V (q := Y_X5_addHand) (q1 := Y_X5_layFinder) Z_X5_layFinder rfl (by decide) ⟨by decide, by decide, Or.inl ⟨_, _, (List.mem_of_getElem? (l := xCls) (i := 3) rfl)⟩⟩ dX5_addHand_36 q2495 q2497 qs43 q153 q2498 hy_266), (fun _ h => absurd h List.not_mem_nil)⟩)
theorem kX5_addHand_39 (z : XKT) : XOi z xInf Y_X5_addHand 39 (.inr (.inr (.inl r_v))) := show XOkR Y_X5_addHand 39 (r_v) from okr_v (q := Y_X5_addHand) rfl dX5_addHand_39
theorem o_X5_addHand (z : XKT) : XMi z xInf Y_X5_addHand := XMi.mk9 (T := T_X5_addHand z) rfl (⟨kX5_addHand_0 z, ⟨kX5_addHand_1 z, ⟨kX5_addHand_2 z, ⟨kX5_addHand_4 z, ⟨kX5_addHand_5 z, ⟨kX5_addHand_6 z, ⟨kX5_addHand_8 z, ⟨kX5_addHand_11 z, ⟨kX5_addHand_12 z, ⟨kX5_addHand_13 z, ⟨kX5_addHand_16 z, ⟨kX5_addHand_17 z, ⟨kX5_addHand_18 z, ⟨kX5_addHand_20 z, ⟨kX5_addHand_21 z, ⟨kX5_addHand_22 z, ⟨kX5_addHand_24 z, ⟨kX5_addHand_27 z, ⟨kX5_addHand_28 z, ⟨kX5_addHand_29 z, ⟨kX5_addHand_32 z, ⟨kX5_addHand_33 z, ⟨kX5_addHand_34 z, ⟨kX5_addHand_35 z, ⟨kX5_addHand_36 z, ⟨kX5_addHand_39 z, trivial⟩⟩⟩⟩⟩⟩⟩⟩⟩⟩⟩⟩⟩⟩⟩⟩⟩⟩⟩⟩⟩⟩⟩⟩⟩⟩) (hd_X5_addHand z) rfl rfl rfl
theorem hd_X5_advance (z : XKT) : XHd z Y_X5_advance := xHd_none rfl (xhd0 rfl)
theorem kX5_advance_0 (z : XKT) : XOi z xInf Y_X5_advance 0 (.inl (i_aload 0 1)) := ok_aload_n dX5_advance_0 rfl
theorem kX5_advance_1 (z : XKT) : XOi z xInf Y_X5_advance 1 (.inl (i_geti [4] 52 4)) := ok_geti dX5_advance_1 q2529 (List.forall_mem_cons.mpr ⟨⟨_, _, _, _, fd_52_4_0⟩, (fun _ h => absurd h List.not_mem_nil)⟩)
theorem kX5_advance_4 (z : XKT) : XOi z xInf Y_X5_advance 4 (.inl (i_if (fun x => ¬ x = 0) 11 7)) := ok_if_ne dX5_advance_4 rfl
theorem kX5_advance_7 (z : XKT) : XOi z xInf Y_X5_advance 7 (.inl (i_aload 0 8)) := ok_aload_n dX5_advance_7 rfl
theorem kX5_advance_8 (z : XKT) : XOi z xInf Y_X5_advance 8 (.inr (.inl (11, g_virt [(4, 284)] 0))) := show XOkC z xInf Y_X5_advance 8 11 (g_virt [(4, 284)] 0) from okc_V (q := Y_X5_advance) (List.forall_mem_cons.mpr ⟨(show XOkV z xInf Y_X5_advance 8 11 0 (4, 284) from okv_V (q := Y_X5_advance) (q1 := Y_X5_scan) Z_X5_scan rfl (by decide) ⟨by decide, by decide, Or.inl ⟨_, _, (List.mem_of_getElem? (l := xCls) (i := 3) rfl)⟩⟩ dX5_advance_8 q3046 q3048 qs103 q153 q3049 hy_260), (fun _ h => absurd h List.not_mem_nil)⟩)
theorem kX5_advance_11 (z : XKT) : XOi z xInf Y_X5_advance 11 (.inr (.inr (.inl r_v))) := show XOkR Y_X5_advance 11 (r_v) from okr_v (q := Y_X5_advance) rfl dX5_advance_11
theorem o_X5_advance (z : XKT) : XMi z xInf Y_X5_advance := XMi.mk9 (T := T_X5_advance z) rfl (⟨kX5_advance_0 z, ⟨kX5_advance_1 z, ⟨kX5_advance_4 z, ⟨kX5_advance_7 z, ⟨kX5_advance_8 z, ⟨kX5_advance_11 z, trivial⟩⟩⟩⟩⟩⟩) (hd_X5_advance z) rfl rfl rfl
theorem hd_X5_allPurses (z : XKT) : XHd z Y_X5_allPurses := xHd_none rfl (xhd0 rfl)
theorem kX5_allPurses_0 (z : XKT) : XOi z xInf Y_X5_allPurses 0 (.inl (i_aload 0 1)) := ok_aload_n dX5_allPurses_0 rfl
theorem kX5_allPurses_1 (z : XKT) : XOi z xInf Y_X5_allPurses 1 (.inl (i_getr [4] 40 4)) := ok_getr dX5_allPurses_1 q2517 (List.forall_mem_cons.mpr ⟨⟨_, _, _, _, fd_40_4_0⟩, (fun _ h => absurd h List.not_mem_nil)⟩)
theorem kX5_allPurses_4 (z : XKT) : XOi z xInf Y_X5_allPurses 4 (.inl (i_push (vI 6) 6)) := ok_bipush dX5_allPurses_4 rfl
theorem kX5_allPurses_6 (z : XKT) : XOi z xInf Y_X5_allPurses 6 (.inl (i_ald 1000 7)) := ok_iald dX5_allPurses_6
theorem kX5_allPurses_7 (z : XKT) : XOi z xInf Y_X5_allPurses 7 (.inl (i_istore 1 8)) := ok_istore_n dX5_allPurses_7 rfl
theorem kX5_allPurses_8 (z : XKT) : XOi z xInf Y_X5_allPurses 8 (.inl (i_push (vI 0) 9)) := ok_iconst dX5_allPurses_8 rfl
theorem kX5_allPurses_9 (z : XKT) : XOi z xInf Y_X5_allPurses 9 (.inl (i_istore 2 10)) := ok_istore_n dX5_allPurses_9 rfl
theorem kX5_allPurses_10 (z : XKT) : XOi z xInf Y_X5_allPurses 10 (.inl (i_iload 2 11)) := ok_iload_n dX5_allPurses_10 rfl
theorem kX5_allPurses_11 (z : XKT) : XOi z xInf Y_X5_allPurses 11 (.inl (i_push (vI 5) 12)) := ok_iconst dX5_allPurses_11 rfl
theorem kX5_allPurses_12 (z : XKT) : XOi z xInf Y_X5_allPurses 12 (.inl (i_icmp (fun x y => y ≤ x) 33 15)) := ok_icmp_ge dX5_allPurses_12 rfl
theorem kX5_allPurses_15 (z : XKT) : XOi z xInf Y_X5_allPurses 15 (.inl (i_iload 1 16)) := ok_iload_n dX5_allPurses_15 rfl
theorem kX5_allPurses_16 (z : XKT) : XOi z xInf Y_X5_allPurses 16 (.inl (i_aload 0 17)) := ok_aload_n dX5_allPurses_16 rfl
theorem kX5_allPurses_17 (z : XKT) : XOi z xInf Y_X5_allPurses 17 (.inl (i_getr [4] 40 20)) := ok_getr dX5_allPurses_17 q2517 (List.forall_mem_cons.mpr ⟨⟨_, _, _, _, fd_40_4_0⟩, (fun _ h => absurd h List.not_mem_nil)⟩)
theorem kX5_allPurses_20 (z : XKT) : XOi z xInf Y_X5_allPurses 20 (.inl (i_push (vI 15) 22)) := ok_bipush dX5_allPurses_20 rfl
theorem kX5_allPurses_22 (z : XKT) : XOi z xInf Y_X5_allPurses 22 (.inl (i_iload 2 23)) := ok_iload_n dX5_allPurses_22 rfl
theorem kX5_allPurses_23 (z : XKT) : XOi z xInf Y_X5_allPurses 23 (.inl (i_bin (fun x y => x + y) 24)) := ok_iadd dX5_allPurses_23
theorem kX5_allPurses_24 (z : XKT) : XOi z xInf Y_X5_allPurses 24 (.inl (i_ald 1000 25)) := ok_iald dX5_allPurses_24
theorem kX5_allPurses_25 (z : XKT) : XOi z xInf Y_X5_allPurses 25 (.inl (i_bin (fun x y => x + y) 26)) := ok_iadd dX5_allPurses_25
theorem kX5_allPurses_26 (z : XKT) : XOi z xInf Y_X5_allPurses 26 (.inl (i_istore 1 27)) := ok_istore_n dX5_allPurses_26 rfl
theorem kX5_allPurses_27 (z : XKT) : XOi z xInf Y_X5_allPurses 27 (.inl (i_iinc 2 1 30)) := ok_iinc dX5_allPurses_27 rfl
theorem kX5_allPurses_30 (z : XKT) : XOi z xInf Y_X5_allPurses 30 (.inl (i_goto 10)) := ok_goto dX5_allPurses_30 rfl
theorem kX5_allPurses_33 (z : XKT) : XOi z xInf Y_X5_allPurses 33 (.inl (i_push (vI 0) 34)) := ok_iconst dX5_allPurses_33 rfl
theorem kX5_allPurses_34 (z : XKT) : XOi z xInf Y_X5_allPurses 34 (.inl (i_istore 2 35)) := ok_istore_n dX5_allPurses_34 rfl
theorem kX5_allPurses_35 (z : XKT) : XOi z xInf Y_X5_allPurses 35 (.inl (i_iload 2 36)) := ok_iload_n dX5_allPurses_35 rfl
theorem kX5_allPurses_36 (z : XKT) : XOi z xInf Y_X5_allPurses 36 (.inl (i_aload 0 37)) := ok_aload_n dX5_allPurses_36 rfl
theorem kX5_allPurses_37 (z : XKT) : XOi z xInf Y_X5_allPurses 37 (.inl (i_getr [4] 40 40)) := ok_getr dX5_allPurses_37 q2517 (List.forall_mem_cons.mpr ⟨⟨_, _, _, _, fd_40_4_0⟩, (fun _ h => absurd h List.not_mem_nil)⟩)
theorem kX5_allPurses_40 (z : XKT) : XOi z xInf Y_X5_allPurses 40 (.inl (i_push (vI 4) 41)) := ok_iconst dX5_allPurses_40 rfl
theorem kX5_allPurses_41 (z : XKT) : XOi z xInf Y_X5_allPurses 41 (.inl (i_ald 1000 42)) := ok_iald dX5_allPurses_41
theorem kX5_allPurses_42 (z : XKT) : XOi z xInf Y_X5_allPurses 42 (.inl (i_icmp (fun x y => y ≤ x) 60 45)) := ok_icmp_ge dX5_allPurses_42 rfl
theorem kX5_allPurses_45 (z : XKT) : XOi z xInf Y_X5_allPurses 45 (.inl (i_iload 1 46)) := ok_iload_n dX5_allPurses_45 rfl
theorem kX5_allPurses_46 (z : XKT) : XOi z xInf Y_X5_allPurses 46 (.inl (i_aload 0 47)) := ok_aload_n dX5_allPurses_46 rfl
theorem kX5_allPurses_47 (z : XKT) : XOi z xInf Y_X5_allPurses 47 (.inl (i_iload 2 48)) := ok_iload_n dX5_allPurses_47 rfl
theorem kX5_allPurses_48 (z : XKT) : XOi z xInf Y_X5_allPurses 48 (.inl (i_push (vI 0) 49)) := ok_iconst dX5_allPurses_48 rfl
theorem kX5_allPurses_49 (z : XKT) : XOi z xInf Y_X5_allPurses 49 (.inr (.inl (52, g_virt [(4, 254)] 2))) := show XOkC z xInf Y_X5_allPurses 49 52 (g_virt [(4, 254)] 2) from okc_V (q := Y_X5_allPurses) (List.forall_mem_cons.mpr ⟨(show XOkV z xInf Y_X5_allPurses 49 52 2 (4, 254) from okv_V (q := Y_X5_allPurses) (q1 := Y_X5_ofFinder) Z_X5_ofFinder rfl (by decide) ⟨by decide, by decide, Or.inl ⟨_, _, (List.mem_of_getElem? (l := xCls) (i := 3) rfl)⟩⟩ dX5_allPurses_49 q2630 q2632 qs52 q153 q2633 hy_267), (fun _ h => absurd h List.not_mem_nil)⟩)
theorem kX5_allPurses_52 (z : XKT) : XOi z xInf Y_X5_allPurses 52 (.inl (i_bin (fun x y => x + y) 53)) := ok_iadd dX5_allPurses_52
theorem kX5_allPurses_53 (z : XKT) : XOi z xInf Y_X5_allPurses 53 (.inl (i_istore 1 54)) := ok_istore_n dX5_allPurses_53 rfl
theorem kX5_allPurses_54 (z : XKT) : XOi z xInf Y_X5_allPurses 54 (.inl (i_iinc 2 1 57)) := ok_iinc dX5_allPurses_54 rfl
theorem kX5_allPurses_57 (z : XKT) : XOi z xInf Y_X5_allPurses 57 (.inl (i_goto 35)) := ok_goto dX5_allPurses_57 rfl
theorem kX5_allPurses_60 (z : XKT) : XOi z xInf Y_X5_allPurses 60 (.inl (i_iload 1 61)) := ok_iload_n dX5_allPurses_60 rfl
theorem kX5_allPurses_61 (z : XKT) : XOi z xInf Y_X5_allPurses 61 (.inr (.inr (.inl (r_i .int)))) := show XOkR Y_X5_allPurses 61 ((r_i .int)) from okr_i (q := Y_X5_allPurses) (ty := .int) rfl rfl dX5_allPurses_61
theorem o_X5_allPurses (z : XKT) : XMi z xInf Y_X5_allPurses := XMi.mk9 (T := T_X5_allPurses z) rfl (⟨kX5_allPurses_0 z, ⟨kX5_allPurses_1 z, ⟨kX5_allPurses_4 z, ⟨kX5_allPurses_6 z, ⟨kX5_allPurses_7 z, ⟨kX5_allPurses_8 z, ⟨kX5_allPurses_9 z, ⟨kX5_allPurses_10 z, ⟨kX5_allPurses_11 z, ⟨kX5_allPurses_12 z, ⟨kX5_allPurses_15 z, ⟨kX5_allPurses_16 z, ⟨kX5_allPurses_17 z, ⟨kX5_allPurses_20 z, ⟨kX5_allPurses_22 z, ⟨kX5_allPurses_23 z, ⟨kX5_allPurses_24 z, ⟨kX5_allPurses_25 z, ⟨kX5_allPurses_26 z, ⟨kX5_allPurses_27 z, ⟨kX5_allPurses_30 z, ⟨kX5_allPurses_33 z, ⟨kX5_allPurses_34 z, ⟨kX5_allPurses_35 z, ⟨kX5_allPurses_36 z, ⟨kX5_allPurses_37 z, ⟨kX5_allPurses_40 z, ⟨kX5_allPurses_41 z, ⟨kX5_allPurses_42 z, ⟨kX5_allPurses_45 z, ⟨kX5_allPurses_46 z, ⟨kX5_allPurses_47 z, ⟨kX5_allPurses_48 z, ⟨kX5_allPurses_49 z, ⟨kX5_allPurses_52 z, ⟨kX5_allPurses_53 z, ⟨kX5_allPurses_54 z, ⟨kX5_allPurses_57 z, ⟨kX5_allPurses_60 z, ⟨kX5_allPurses_61 z, trivial⟩⟩⟩⟩⟩⟩⟩⟩⟩⟩⟩⟩⟩⟩⟩⟩⟩⟩⟩⟩⟩⟩⟩⟩⟩⟩⟩⟩⟩⟩⟩⟩⟩⟩⟩⟩⟩⟩⟩⟩) (hd_X5_allPurses z) rfl rfl rfl
theorem hd_X5_begin (z : XKT) : XHd z Y_X5_begin := xHd_none rfl (xhd0 rfl)
theorem kX5_begin_0 (z : XKT) : XOi z xInf Y_X5_begin 0 (.inl (i_push (vI 0) 1)) := ok_iconst dX5_begin_0 rfl
theorem kX5_begin_1 (z : XKT) : XOi z xInf Y_X5_begin 1 (.inl (i_istore 5 3)) := ok_istore dX5_begin_1
theorem kX5_begin_3 (z : XKT) : XOi z xInf Y_X5_begin 3 (.inl (i_iload 5 5)) := ok_iload dX5_begin_3
theorem kX5_begin_5 (z : XKT) : XOi z xInf Y_X5_begin 5 (.inl (i_push (vI 468) 8)) := ok_sipush dX5_begin_5 rfl
theorem kX5_begin_8 (z : XKT) : XOi z xInf Y_X5_begin 8 (.inl (i_icmp (fun x y => y ≤ x) 25 11)) := ok_icmp_ge dX5_begin_8 rfl
theorem kX5_begin_11 (z : XKT) : XOi z xInf Y_X5_begin 11 (.inl (i_aload 0 12)) := ok_aload_n dX5_begin_11 rfl
theorem kX5_begin_12 (z : XKT) : XOi z xInf Y_X5_begin 12 (.inl (i_getr [4] 40 15)) := ok_getr dX5_begin_12 q2517 (List.forall_mem_cons.mpr ⟨⟨_, _, _, _, fd_40_4_0⟩, (fun _ h => absurd h List.not_mem_nil)⟩)
theorem kX5_begin_15 (z : XKT) : XOi z xInf Y_X5_begin 15 (.inl (i_iload 5 17)) := ok_iload dX5_begin_15
theorem kX5_begin_17 (z : XKT) : XOi z xInf Y_X5_begin 17 (.inl (i_push (vI 0) 18)) := ok_iconst dX5_begin_17 rfl
theorem kX5_begin_18 (z : XKT) : XOi z xInf Y_X5_begin 18 (.inl (i_ast z.1 1000 (fun x => x) 19)) := ok_iast dX5_begin_18
theorem kX5_begin_19 (z : XKT) : XOi z xInf Y_X5_begin 19 (.inl (i_iinc 5 1 22)) := ok_iinc dX5_begin_19 rfl
theorem kX5_begin_22 (z : XKT) : XOi z xInf Y_X5_begin 22 (.inl (i_goto 3)) := ok_goto dX5_begin_22 rfl
theorem kX5_begin_25 (z : XKT) : XOi z xInf Y_X5_begin 25 (.inl (i_aload 0 26)) := ok_aload_n dX5_begin_25 rfl
theorem kX5_begin_26 (z : XKT) : XOi z xInf Y_X5_begin 26 (.inl (i_getr [4] 40 29)) := ok_getr dX5_begin_26 q2517 (List.forall_mem_cons.mpr ⟨⟨_, _, _, _, fd_40_4_0⟩, (fun _ h => absurd h List.not_mem_nil)⟩)
theorem kX5_begin_29 (z : XKT) : XOi z xInf Y_X5_begin 29 (.inl (i_push (vI 1) 30)) := ok_iconst dX5_begin_29 rfl
theorem kX5_begin_30 (z : XKT) : XOi z xInf Y_X5_begin 30 (.inl (i_iload 1 31)) := ok_iload_n dX5_begin_30 rfl
theorem kX5_begin_31 (z : XKT) : XOi z xInf Y_X5_begin 31 (.inl (i_ast z.1 1000 (fun x => x) 32)) := ok_iast dX5_begin_31
theorem kX5_begin_32 (z : XKT) : XOi z xInf Y_X5_begin 32 (.inl (i_aload 0 33)) := ok_aload_n dX5_begin_32 rfl
theorem kX5_begin_33 (z : XKT) : XOi z xInf Y_X5_begin 33 (.inl (i_getr [4] 40 36)) := ok_getr dX5_begin_33 q2517 (List.forall_mem_cons.mpr ⟨⟨_, _, _, _, fd_40_4_0⟩, (fun _ h => absurd h List.not_mem_nil)⟩)
theorem kX5_begin_36 (z : XKT) : XOi z xInf Y_X5_begin 36 (.inl (i_push (vI 2) 37)) := ok_iconst dX5_begin_36 rfl
theorem kX5_begin_37 (z : XKT) : XOi z xInf Y_X5_begin 37 (.inl (i_iload 2 38)) := ok_iload_n dX5_begin_37 rfl
theorem kX5_begin_38 (z : XKT) : XOi z xInf Y_X5_begin 38 (.inl (i_ast z.1 1000 (fun x => x) 39)) := ok_iast dX5_begin_38
theorem kX5_begin_39 (z : XKT) : XOi z xInf Y_X5_begin 39 (.inl (i_aload 0 40)) := ok_aload_n dX5_begin_39 rfl
theorem kX5_begin_40 (z : XKT) : XOi z xInf Y_X5_begin 40 (.inl (i_getr [4] 40 43)) := ok_getr dX5_begin_40 q2517 (List.forall_mem_cons.mpr ⟨⟨_, _, _, _, fd_40_4_0⟩, (fun _ h => absurd h List.not_mem_nil)⟩)
theorem kX5_begin_43 (z : XKT) : XOi z xInf Y_X5_begin 43 (.inl (i_push (vI 3) 44)) := ok_iconst dX5_begin_43 rfl
theorem kX5_begin_44 (z : XKT) : XOi z xInf Y_X5_begin 44 (.inl (i_iload 3 45)) := ok_iload_n dX5_begin_44 rfl
theorem kX5_begin_45 (z : XKT) : XOi z xInf Y_X5_begin 45 (.inl (i_ast z.1 1000 (fun x => x) 46)) := ok_iast dX5_begin_45
theorem kX5_begin_46 (z : XKT) : XOi z xInf Y_X5_begin 46 (.inl (i_aload 0 47)) := ok_aload_n dX5_begin_46 rfl
theorem kX5_begin_47 (z : XKT) : XOi z xInf Y_X5_begin 47 (.inl (i_getr [4] 40 50)) := ok_getr dX5_begin_47 q2517 (List.forall_mem_cons.mpr ⟨⟨_, _, _, _, fd_40_4_0⟩, (fun _ h => absurd h List.not_mem_nil)⟩)
theorem kX5_begin_50 (z : XKT) : XOi z xInf Y_X5_begin 50 (.inl (i_push (vI 4) 51)) := ok_iconst dX5_begin_50 rfl
theorem kX5_begin_51 (z : XKT) : XOi z xInf Y_X5_begin 51 (.inl (i_iload 4 53)) := ok_iload dX5_begin_51
theorem kX5_begin_53 (z : XKT) : XOi z xInf Y_X5_begin 53 (.inl (i_ast z.1 1000 (fun x => x) 54)) := ok_iast dX5_begin_53
theorem kX5_begin_54 (z : XKT) : XOi z xInf Y_X5_begin 54 (.inl (i_push (vI 0) 55)) := ok_iconst dX5_begin_54 rfl
theorem kX5_begin_55 (z : XKT) : XOi z xInf Y_X5_begin 55 (.inl (i_istore 5 57)) := ok_istore dX5_begin_55
theorem kX5_begin_57 (z : XKT) : XOi z xInf Y_X5_begin 57 (.inl (i_iload 5 59)) := ok_iload dX5_begin_57
theorem kX5_begin_59 (z : XKT) : XOi z xInf Y_X5_begin 59 (.inl (i_iload 4 61)) := ok_iload dX5_begin_59
theorem kX5_begin_61 (z : XKT) : XOi z xInf Y_X5_begin 61 (.inl (i_icmp (fun x y => y ≤ x) 78 64)) := ok_icmp_ge dX5_begin_61 rfl
theorem kX5_begin_64 (z : XKT) : XOi z xInf Y_X5_begin 64 (.inl (i_aload 0 65)) := ok_aload_n dX5_begin_64 rfl
theorem kX5_begin_65 (z : XKT) : XOi z xInf Y_X5_begin 65 (.inl (i_iload 5 67)) := ok_iload dX5_begin_65
theorem kX5_begin_67 (z : XKT) : XOi z xInf Y_X5_begin 67 (.inl (i_push (vI 1) 68)) := ok_iconst dX5_begin_67 rfl
theorem kX5_begin_68 (z : XKT) : XOi z xInf Y_X5_begin 68 (.inl (i_push (vI (-1)) 69)) := ok_iconst dX5_begin_68 rfl
theorem kX5_begin_69 (z : XKT) : XOi z xInf Y_X5_begin 69 (.inr (.inl (72, g_virt [(4, 242)] 3))) := show XOkC z xInf Y_X5_begin 69 72 (g_virt [(4, 242)] 3) from okc_V (q := Y_X5_begin) (List.forall_mem_cons.mpr ⟨(show XOkV z xInf Y_X5_begin 69 72 3 (4, 242) from okv_V (q := Y_X5_begin) (q1 := Y_X5_layFinder) Z_X5_layFinder rfl (by decide) ⟨by decide, by decide, Or.inl ⟨_, _, (List.mem_of_getElem? (l := xCls) (i := 3) rfl)⟩⟩ dX5_begin_69 q2495 q2497 qs43 q153 q2498 hy_266), (fun _ h => absurd h List.not_mem_nil)⟩)
theorem kX5_begin_72 (z : XKT) : XOi z xInf Y_X5_begin 72 (.inl (i_iinc 5 1 75)) := ok_iinc dX5_begin_72 rfl
theorem kX5_begin_75 (z : XKT) : XOi z xInf Y_X5_begin 75 (.inl (i_goto 57)) := ok_goto dX5_begin_75 rfl
theorem kX5_begin_78 (z : XKT) : XOi z xInf Y_X5_begin 78 (.inr (.inr (.inl r_v))) := show XOkR Y_X5_begin 78 (r_v) from okr_v (q := Y_X5_begin) rfl dX5_begin_78
theorem o_X5_begin (z : XKT) : XMi z xInf Y_X5_begin := XMi.mk9 (T := T_X5_begin z) rfl (⟨kX5_begin_0 z, ⟨kX5_begin_1 z, ⟨kX5_begin_3 z, ⟨kX5_begin_5 z, ⟨kX5_begin_8 z, ⟨kX5_begin_11 z, ⟨kX5_begin_12 z, ⟨kX5_begin_15 z, ⟨kX5_begin_17 z, ⟨kX5_begin_18 z, ⟨kX5_begin_19 z, ⟨kX5_begin_22 z, ⟨kX5_begin_25 z, ⟨kX5_begin_26 z, ⟨kX5_begin_29 z, ⟨kX5_begin_30 z, ⟨kX5_begin_31 z, ⟨kX5_begin_32 z, ⟨kX5_begin_33 z, ⟨kX5_begin_36 z, ⟨kX5_begin_37 z, ⟨kX5_begin_38 z, ⟨kX5_begin_39 z, ⟨kX5_begin_40 z, ⟨kX5_begin_43 z, ⟨kX5_begin_44 z, ⟨kX5_begin_45 z, ⟨kX5_begin_46 z, ⟨kX5_begin_47 z, ⟨kX5_begin_50 z, ⟨kX5_begin_51 z, ⟨kX5_begin_53 z, ⟨kX5_begin_54 z, ⟨kX5_begin_55 z, ⟨kX5_begin_57 z, ⟨kX5_begin_59 z, ⟨kX5_begin_61 z, ⟨kX5_begin_64 z, ⟨kX5_begin_65 z, ⟨kX5_begin_67 z, ⟨kX5_begin_68 z, ⟨kX5_begin_69 z, ⟨kX5_begin_72 z, ⟨kX5_begin_75 z, ⟨kX5_begin_78 z, trivial⟩⟩⟩⟩⟩⟩⟩⟩⟩⟩⟩⟩⟩⟩⟩⟩⟩⟩⟩⟩⟩⟩⟩⟩⟩⟩⟩⟩⟩⟩⟩⟩⟩⟩⟩⟩⟩⟩⟩⟩⟩⟩⟩⟩⟩) (hd_X5_begin z) rfl rfl rfl
theorem hd_X5_bestClaim (z : XKT) : XHd z Y_X5_bestClaim := xHd_none rfl (xhd0 rfl)
theorem kX5_bestClaim_0 (z : XKT) : XOi z xInf Y_X5_bestClaim 0 (.inl (i_aload 0 1)) := ok_aload_n dX5_bestClaim_0 rfl
theorem kX5_bestClaim_1 (z : XKT) : XOi z xInf Y_X5_bestClaim 1 (.inl (i_push (vI 0) 2)) := ok_iconst dX5_bestClaim_1 rfl
theorem kX5_bestClaim_2 (z : XKT) : XOi z xInf Y_X5_bestClaim 2 (.inl (i_puti z.1 [4] .int 42 5)) := ok_puti dX5_bestClaim_2 q2519 rfl (List.forall_mem_cons.mpr ⟨⟨_, _, _, _, tyX5, fd_42_4_0, ⟨tyX5_ok, nmX5, (Or.inl rfl)⟩, rfl⟩, (fun _ h => absurd h List.not_mem_nil)⟩)
theorem kX5_bestClaim_5 (z : XKT) : XOi z xInf Y_X5_bestClaim 5 (.inl (i_push (vI (-1)) 6)) := ok_iconst dX5_bestClaim_5 rfl
theorem kX5_bestClaim_6 (z : XKT) : XOi z xInf Y_X5_bestClaim 6 (.inl (i_istore 1 7)) := ok_istore_n dX5_bestClaim_6 rfl
theorem kX5_bestClaim_7 (z : XKT) : XOi z xInf Y_X5_bestClaim 7 (.inl (i_push (vI 0) 8)) := ok_iconst dX5_bestClaim_7 rfl
theorem kX5_bestClaim_8 (z : XKT) : XOi z xInf Y_X5_bestClaim 8 (.inl (i_istore 2 9)) := ok_istore_n dX5_bestClaim_8 rfl
theorem kX5_bestClaim_9 (z : XKT) : XOi z xInf Y_X5_bestClaim 9 (.inl (i_push (vI 1) 10)) := ok_iconst dX5_bestClaim_9 rfl
theorem kX5_bestClaim_10 (z : XKT) : XOi z xInf Y_X5_bestClaim 10 (.inl (i_istore 3 11)) := ok_istore_n dX5_bestClaim_10 rfl
theorem kX5_bestClaim_11 (z : XKT) : XOi z xInf Y_X5_bestClaim 11 (.inl (i_iload 3 12)) := ok_iload_n dX5_bestClaim_11 rfl
theorem kX5_bestClaim_12 (z : XKT) : XOi z xInf Y_X5_bestClaim 12 (.inl (i_push (vI 5) 13)) := ok_iconst dX5_bestClaim_12 rfl
theorem kX5_bestClaim_13 (z : XKT) : XOi z xInf Y_X5_bestClaim 13 (.inl (i_icmp (fun x y => y < x) 39 16)) := ok_icmp_gt dX5_bestClaim_13 rfl
theorem kX5_bestClaim_16 (z : XKT) : XOi z xInf Y_X5_bestClaim 16 (.inl (i_aload 0 17)) := ok_aload_n dX5_bestClaim_16 rfl
theorem kX5_bestClaim_17 (z : XKT) : XOi z xInf Y_X5_bestClaim 17 (.inl (i_iload 3 18)) := ok_iload_n dX5_bestClaim_17 rfl
theorem kX5_bestClaim_18 (z : XKT) : XOi z xInf Y_X5_bestClaim 18 (.inr (.inl (21, g_virt [(4, 182)] 1))) := show XOkC z xInf Y_X5_bestClaim 18 21 (g_virt [(4, 182)] 1) from okc_V (q := Y_X5_bestClaim) (List.forall_mem_cons.mpr ⟨(show XOkV z xInf Y_X5_bestClaim 18 21 1 (4, 182) from okv_V (q := Y_X5_bestClaim) (q1 := Y_X5_claimable) Z_X5_claimable rfl (by decide) ⟨by decide, by decide, Or.inl ⟨_, _, (List.mem_of_getElem? (l := xCls) (i := 3) rfl)⟩⟩ dX5_bestClaim_18 q2826 q2828 qs76 q153 q2829 hy_268), (fun _ h => absurd h List.not_mem_nil)⟩)
theorem kX5_bestClaim_21 (z : XKT) : XOi z xInf Y_X5_bestClaim 21 (.inl (i_iload 2 22)) := ok_iload_n dX5_bestClaim_21 rfl
theorem kX5_bestClaim_22 (z : XKT) : XOi z xInf Y_X5_bestClaim 22 (.inl (i_icmp (fun x y => x ≤ y) 33 25)) := ok_icmp_le dX5_bestClaim_22 rfl
theorem kX5_bestClaim_25 (z : XKT) : XOi z xInf Y_X5_bestClaim 25 (.inl (i_iload 3 26)) := ok_iload_n dX5_bestClaim_25 rfl
theorem kX5_bestClaim_26 (z : XKT) : XOi z xInf Y_X5_bestClaim 26 (.inl (i_istore 1 27)) := ok_istore_n dX5_bestClaim_26 rfl
theorem kX5_bestClaim_27 (z : XKT) : XOi z xInf Y_X5_bestClaim 27 (.inl (i_aload 0 28)) := ok_aload_n dX5_bestClaim_27 rfl
theorem kX5_bestClaim_28 (z : XKT) : XOi z xInf Y_X5_bestClaim 28 (.inl (i_iload 3 29)) := ok_iload_n dX5_bestClaim_28 rfl
theorem kX5_bestClaim_29 (z : XKT) : XOi z xInf Y_X5_bestClaim 29 (.inr (.inl (32, g_virt [(4, 182)] 1))) := show XOkC z xInf Y_X5_bestClaim 29 32 (g_virt [(4, 182)] 1) from okc_V (q := Y_X5_bestClaim) (List.forall_mem_cons.mpr ⟨(show XOkV z xInf Y_X5_bestClaim 29 32 1 (4, 182) from okv_V (q := Y_X5_bestClaim) (q1 := Y_X5_claimable) Z_X5_claimable rfl (by decide) ⟨by decide, by decide, Or.inl ⟨_, _, (List.mem_of_getElem? (l := xCls) (i := 3) rfl)⟩⟩ dX5_bestClaim_29 q2826 q2828 qs76 q153 q2829 hy_268), (fun _ h => absurd h List.not_mem_nil)⟩)
theorem kX5_bestClaim_32 (z : XKT) : XOi z xInf Y_X5_bestClaim 32 (.inl (i_istore 2 33)) := ok_istore_n dX5_bestClaim_32 rfl
theorem kX5_bestClaim_33 (z : XKT) : XOi z xInf Y_X5_bestClaim 33 (.inl (i_iinc 3 1 36)) := ok_iinc dX5_bestClaim_33 rfl
theorem kX5_bestClaim_36 (z : XKT) : XOi z xInf Y_X5_bestClaim 36 (.inl (i_goto 11)) := ok_goto dX5_bestClaim_36 rfl
theorem kX5_bestClaim_39 (z : XKT) : XOi z xInf Y_X5_bestClaim 39 (.inl (i_iload 1 40)) := ok_iload_n dX5_bestClaim_39 rfl
theorem kX5_bestClaim_40 (z : XKT) : XOi z xInf Y_X5_bestClaim 40 (.inr (.inr (.inl (r_i .int)))) := show XOkR Y_X5_bestClaim 40 ((r_i .int)) from okr_i (q := Y_X5_bestClaim) (ty := .int) rfl rfl dX5_bestClaim_40
theorem o_X5_bestClaim (z : XKT) : XMi z xInf Y_X5_bestClaim := XMi.mk9 (T := T_X5_bestClaim z) rfl (⟨kX5_bestClaim_0 z, ⟨kX5_bestClaim_1 z, ⟨kX5_bestClaim_2 z, ⟨kX5_bestClaim_5 z, ⟨kX5_bestClaim_6 z, ⟨kX5_bestClaim_7 z, ⟨kX5_bestClaim_8 z, ⟨kX5_bestClaim_9 z, ⟨kX5_bestClaim_10 z, ⟨kX5_bestClaim_11 z, ⟨kX5_bestClaim_12 z, ⟨kX5_bestClaim_13 z, ⟨kX5_bestClaim_16 z, ⟨kX5_bestClaim_17 z, ⟨kX5_bestClaim_18 z, ⟨kX5_bestClaim_21 z, ⟨kX5_bestClaim_22 z, ⟨kX5_bestClaim_25 z, ⟨kX5_bestClaim_26 z, ⟨kX5_bestClaim_27 z, ⟨kX5_bestClaim_28 z, ⟨kX5_bestClaim_29 z, ⟨kX5_bestClaim_32 z, ⟨kX5_bestClaim_33 z, ⟨kX5_bestClaim_36 z, ⟨kX5_bestClaim_39 z, ⟨kX5_bestClaim_40 z, trivial⟩⟩⟩⟩⟩⟩⟩⟩⟩⟩⟩⟩⟩⟩⟩⟩⟩⟩⟩⟩⟩⟩⟩⟩⟩⟩⟩) (hd_X5_bestClaim z) rfl rfl rfl
theorem hd_X5_bestHaul (z : XKT) : XHd z Y_X5_bestHaul := xHd_none rfl (xhd0 rfl)
theorem kX5_bestHaul_0 (z : XKT) : XOi z xInf Y_X5_bestHaul 0 (.inl (i_aload 0 1)) := ok_aload_n dX5_bestHaul_0 rfl
theorem kX5_bestHaul_1 (z : XKT) : XOi z xInf Y_X5_bestHaul 1 (.inl (i_push (vI 0) 2)) := ok_iconst dX5_bestHaul_1 rfl
theorem kX5_bestHaul_2 (z : XKT) : XOi z xInf Y_X5_bestHaul 2 (.inl (i_puti z.1 [4] .int 42 5)) := ok_puti dX5_bestHaul_2 q2519 rfl (List.forall_mem_cons.mpr ⟨⟨_, _, _, _, tyX5, fd_42_4_0, ⟨tyX5_ok, nmX5, (Or.inl rfl)⟩, rfl⟩, (fun _ h => absurd h List.not_mem_nil)⟩)
theorem kX5_bestHaul_5 (z : XKT) : XOi z xInf Y_X5_bestHaul 5 (.inl (i_push (vI (-1)) 6)) := ok_iconst dX5_bestHaul_5 rfl
theorem kX5_bestHaul_6 (z : XKT) : XOi z xInf Y_X5_bestHaul 6 (.inl (i_istore 1 7)) := ok_istore_n dX5_bestHaul_6 rfl
theorem kX5_bestHaul_7 (z : XKT) : XOi z xInf Y_X5_bestHaul 7 (.inl (i_aload 0 8)) := ok_aload_n dX5_bestHaul_7 rfl
theorem kX5_bestHaul_8 (z : XKT) : XOi z xInf Y_X5_bestHaul 8 (.inr (.inl (11, g_virt [(4, 187)] 0))) := show XOkC z xInf Y_X5_bestHaul 8 11 (g_virt [(4, 187)] 0) from okc_V (q := Y_X5_bestHaul) (List.forall_mem_cons.mpr ⟨(show XOkV z xInf Y_X5_bestHaul 8 11 0 (4, 187) from okv_V (q := Y_X5_bestHaul) (q1 := Y_X5_countFree) Z_X5_countFree rfl (by decide) ⟨by decide, by decide, Or.inl ⟨_, _, (List.mem_of_getElem? (l := xCls) (i := 3) rfl)⟩⟩ dX5_bestHaul_8 q2626 q2628 qs51 q153 q2629 hy_269), (fun _ h => absurd h List.not_mem_nil)⟩)
theorem kX5_bestHaul_11 (z : XKT) : XOi z xInf Y_X5_bestHaul 11 (.inl (i_istore 2 12)) := ok_istore_n dX5_bestHaul_11 rfl
theorem kX5_bestHaul_12 (z : XKT) : XOi z xInf Y_X5_bestHaul 12 (.inl (i_push (vI 0) 13)) := ok_iconst dX5_bestHaul_12 rfl
theorem kX5_bestHaul_13 (z : XKT) : XOi z xInf Y_X5_bestHaul 13 (.inl (i_istore 3 14)) := ok_istore_n dX5_bestHaul_13 rfl
theorem kX5_bestHaul_14 (z : XKT) : XOi z xInf Y_X5_bestHaul 14 (.inl (i_iload 3 15)) := ok_iload_n dX5_bestHaul_14 rfl
theorem kX5_bestHaul_15 (z : XKT) : XOi z xInf Y_X5_bestHaul 15 (.inl (i_aload 0 16)) := ok_aload_n dX5_bestHaul_15 rfl
theorem kX5_bestHaul_16 (z : XKT) : XOi z xInf Y_X5_bestHaul 16 (.inl (i_getr [4] 40 19)) := ok_getr dX5_bestHaul_16 q2517 (List.forall_mem_cons.mpr ⟨⟨_, _, _, _, fd_40_4_0⟩, (fun _ h => absurd h List.not_mem_nil)⟩)
theorem kX5_bestHaul_19 (z : XKT) : XOi z xInf Y_X5_bestHaul 19 (.inl (i_push (vI 5) 20)) := ok_iconst dX5_bestHaul_19 rfl
theorem kX5_bestHaul_20 (z : XKT) : XOi z xInf Y_X5_bestHaul 20 (.inl (i_ald 1000 21)) := ok_iald dX5_bestHaul_20
theorem kX5_bestHaul_21 (z : XKT) : XOi z xInf Y_X5_bestHaul 21 (.inl (i_icmp (fun x y => y ≤ x) 109 24)) := ok_icmp_ge dX5_bestHaul_21 rfl
theorem kX5_bestHaul_24 (z : XKT) : XOi z xInf Y_X5_bestHaul 24 (.inl (i_aload 0 25)) := ok_aload_n dX5_bestHaul_24 rfl
theorem kX5_bestHaul_25 (z : XKT) : XOi z xInf Y_X5_bestHaul 25 (.inl (i_iload 3 26)) := ok_iload_n dX5_bestHaul_25 rfl
theorem kX5_bestHaul_26 (z : XKT) : XOi z xInf Y_X5_bestHaul 26 (.inl (i_push (vI 0) 27)) := ok_iconst dX5_bestHaul_26 rfl
theorem kX5_bestHaul_27 (z : XKT) : XOi z xInf Y_X5_bestHaul 27 (.inr (.inl (30, g_virt [(4, 233)] 2))) := show XOkC z xInf Y_X5_bestHaul 27 30 (g_virt [(4, 233)] 2) from okc_V (q := Y_X5_bestHaul) (List.forall_mem_cons.mpr ⟨(show XOkV z xInf Y_X5_bestHaul 27 30 2 (4, 233) from okv_V (q := Y_X5_bestHaul) (q1 := Y_X5_isIn) Z_X5_isIn rfl (by decide) ⟨by decide, by decide, Or.inl ⟨_, _, (List.mem_of_getElem? (l := xCls) (i := 3) rfl)⟩⟩ dX5_bestHaul_27 q2618 q2620 qs49 q153 q2621 hy_270), (fun _ h => absurd h List.not_mem_nil)⟩)
theorem kX5_bestHaul_30 (z : XKT) : XOi z xInf Y_X5_bestHaul 30 (.inl (i_if (fun x => x = 0) 69 33)) := ok_if_eq dX5_bestHaul_30 rfl
theorem kX5_bestHaul_33 (z : XKT) : XOi z xInf Y_X5_bestHaul 33 (.inl (i_aload 0 34)) := ok_aload_n dX5_bestHaul_33 rfl
theorem kX5_bestHaul_34 (z : XKT) : XOi z xInf Y_X5_bestHaul 34 (.inl (i_iload 3 35)) := ok_iload_n dX5_bestHaul_34 rfl
theorem kX5_bestHaul_35 (z : XKT) : XOi z xInf Y_X5_bestHaul 35 (.inl (i_aload 0 36)) := ok_aload_n dX5_bestHaul_35 rfl
theorem kX5_bestHaul_36 (z : XKT) : XOi z xInf Y_X5_bestHaul 36 (.inl (i_getr [4] 40 39)) := ok_getr dX5_bestHaul_36 q2517 (List.forall_mem_cons.mpr ⟨⟨_, _, _, _, fd_40_4_0⟩, (fun _ h => absurd h List.not_mem_nil)⟩)
theorem kX5_bestHaul_39 (z : XKT) : XOi z xInf Y_X5_bestHaul 39 (.inl (i_push (vI 0) 40)) := ok_iconst dX5_bestHaul_39 rfl
theorem kX5_bestHaul_40 (z : XKT) : XOi z xInf Y_X5_bestHaul 40 (.inl (i_ald 1000 41)) := ok_iald dX5_bestHaul_40
theorem kX5_bestHaul_41 (z : XKT) : XOi z xInf Y_X5_bestHaul 41 (.inr (.inl (44, g_virt [(4, 230)] 2))) := show XOkC z xInf Y_X5_bestHaul 41 44 (g_virt [(4, 230)] 2) from okc_V (q := Y_X5_bestHaul) (List.forall_mem_cons.mpr ⟨(show XOkV z xInf Y_X5_bestHaul 41 44 2 (4, 230) from okv_V (q := Y_X5_bestHaul) (q1 := Y_X5_isDry) Z_X5_isDry rfl (by decide) ⟨by decide, by decide, Or.inl ⟨_, _, (List.mem_of_getElem? (l := xCls) (i := 3) rfl)⟩⟩ dX5_bestHaul_41 q2638 q2640 qs54 q153 q2641 hy_271), (fun _ h => absurd h List.not_mem_nil)⟩)
theorem kX5_bestHaul_44 (z : XKT) : XOi z xInf Y_X5_bestHaul 44 (.inl (i_if (fun x => x = 0) 69 47)) := ok_if_eq dX5_bestHaul_44 rfl
theorem kX5_bestHaul_47 (z : XKT) : XOi z xInf Y_X5_bestHaul 47 (.inl (i_aload 0 48)) := ok_aload_n dX5_bestHaul_47 rfl
theorem kX5_bestHaul_48 (z : XKT) : XOi z xInf Y_X5_bestHaul 48 (.inl (i_iload 3 49)) := ok_iload_n dX5_bestHaul_48 rfl
theorem kX5_bestHaul_49 (z : XKT) : XOi z xInf Y_X5_bestHaul 49 (.inl (i_push (vI 9) 51)) := ok_bipush dX5_bestHaul_49 rfl
theorem kX5_bestHaul_51 (z : XKT) : XOi z xInf Y_X5_bestHaul 51 (.inr (.inl (54, g_virt [(4, 253)] 2))) := show XOkC z xInf Y_X5_bestHaul 51 54 (g_virt [(4, 253)] 2) from okc_V (q := Y_X5_bestHaul) (List.forall_mem_cons.mpr ⟨(show XOkV z xInf Y_X5_bestHaul 51 54 2 (4, 253) from okv_V (q := Y_X5_bestHaul) (q1 := Y_X5_of) Z_X5_of rfl (by decide) ⟨by decide, by decide, Or.inl ⟨_, _, (List.mem_of_getElem? (l := xCls) (i := 3) rfl)⟩⟩ dX5_bestHaul_51 q2622 q2624 qs50 q153 q2625 hy_265), (fun _ h => absurd h List.not_mem_nil)⟩)
theorem kX5_bestHaul_54 (z : XKT) : XOi z xInf Y_X5_bestHaul 54 (.inl (i_iload 2 55)) := ok_iload_n dX5_bestHaul_54 rfl
theorem kX5_bestHaul_55 (z : XKT) : XOi z xInf Y_X5_bestHaul 55 (.inl (i_bin (fun x y => x + y) 56)) := ok_iadd dX5_bestHaul_55
theorem kX5_bestHaul_56 (z : XKT) : XOi z xInf Y_X5_bestHaul 56 (.inl (i_aload 0 57)) := ok_aload_n dX5_bestHaul_56 rfl
theorem kX5_bestHaul_57 (z : XKT) : XOi z xInf Y_X5_bestHaul 57 (.inl (i_iload 3 58)) := ok_iload_n dX5_bestHaul_57 rfl
theorem kX5_bestHaul_58 (z : XKT) : XOi z xInf Y_X5_bestHaul 58 (.inl (i_push (vI 4) 59)) := ok_iconst dX5_bestHaul_58 rfl
theorem kX5_bestHaul_59 (z : XKT) : XOi z xInf Y_X5_bestHaul 59 (.inr (.inl (62, g_virt [(4, 253)] 2))) := show XOkC z xInf Y_X5_bestHaul 59 62 (g_virt [(4, 253)] 2) from okc_V (q := Y_X5_bestHaul) (List.forall_mem_cons.mpr ⟨(show XOkV z xInf Y_X5_bestHaul 59 62 2 (4, 253) from okv_V (q := Y_X5_bestHaul) (q1 := Y_X5_of) Z_X5_of rfl (by decide) ⟨by decide, by decide, Or.inl ⟨_, _, (List.mem_of_getElem? (l := xCls) (i := 3) rfl)⟩⟩ dX5_bestHaul_59 q2622 q2624 qs50 q153 q2625 hy_265), (fun _ h => absurd h List.not_mem_nil)⟩)
theorem kX5_bestHaul_62 (z : XKT) : XOi z xInf Y_X5_bestHaul 62 (.inl (i_icmp (fun x y => x < y) 69 65)) := ok_icmp_lt dX5_bestHaul_62 rfl
theorem kX5_bestHaul_65 (z : XKT) : XOi z xInf Y_X5_bestHaul 65 (.inl (i_push (vI 1) 66)) := ok_iconst dX5_bestHaul_65 rfl
theorem kX5_bestHaul_66 (z : XKT) : XOi z xInf Y_X5_bestHaul 66 (.inl (i_goto 70)) := ok_goto dX5_bestHaul_66 rfl
theorem kX5_bestHaul_69 (z : XKT) : XOi z xInf Y_X5_bestHaul 69 (.inl (i_push (vI 0) 70)) := ok_iconst dX5_bestHaul_69 rfl
theorem kX5_bestHaul_70 (z : XKT) : XOi z xInf Y_X5_bestHaul 70 (.inl (i_istore 4 72)) := ok_istore dX5_bestHaul_70
theorem kX5_bestHaul_72 (z : XKT) : XOi z xInf Y_X5_bestHaul 72 (.inl (i_iload 4 74)) := ok_iload dX5_bestHaul_72
theorem kX5_bestHaul_74 (z : XKT) : XOi z xInf Y_X5_bestHaul 74 (.inl (i_if (fun x => x = 0) 101 77)) := ok_if_eq dX5_bestHaul_74 rfl
theorem kX5_bestHaul_77 (z : XKT) : XOi z xInf Y_X5_bestHaul 77 (.inl (i_iload 1 78)) := ok_iload_n dX5_bestHaul_77 rfl
theorem kX5_bestHaul_78 (z : XKT) : XOi z xInf Y_X5_bestHaul 78 (.inl (i_push (vI (-1)) 79)) := ok_iconst dX5_bestHaul_78 rfl
theorem kX5_bestHaul_79 (z : XKT) : XOi z xInf Y_X5_bestHaul 79 (.inl (i_icmp (fun x y => x = y) 97 82)) := ok_icmp_eq dX5_bestHaul_79 rfl
theorem kX5_bestHaul_82 (z : XKT) : XOi z xInf Y_X5_bestHaul 82 (.inl (i_aload 0 83)) := ok_aload_n dX5_bestHaul_82 rfl
theorem kX5_bestHaul_83 (z : XKT) : XOi z xInf Y_X5_bestHaul 83 (.inl (i_iload 3 84)) := ok_iload_n dX5_bestHaul_83 rfl
theorem kX5_bestHaul_84 (z : XKT) : XOi z xInf Y_X5_bestHaul 84 (.inl (i_push (vI 1) 85)) := ok_iconst dX5_bestHaul_84 rfl
theorem kX5_bestHaul_85 (z : XKT) : XOi z xInf Y_X5_bestHaul 85 (.inr (.inl (88, g_virt [(4, 253)] 2))) := show XOkC z xInf Y_X5_bestHaul 85 88 (g_virt [(4, 253)] 2) from okc_V (q := Y_X5_bestHaul) (List.forall_mem_cons.mpr ⟨(show XOkV z xInf Y_X5_bestHaul 85 88 2 (4, 253) from okv_V (q := Y_X5_bestHaul) (q1 := Y_X5_of) Z_X5_of rfl (by decide) ⟨by decide, by decide, Or.inl ⟨_, _, (List.mem_of_getElem? (l := xCls) (i := 3) rfl)⟩⟩ dX5_bestHaul_85 q2622 q2624 qs50 q153 q2625 hy_265), (fun _ h => absurd h List.not_mem_nil)⟩)
theorem kX5_bestHaul_88 (z : XKT) : XOi z xInf Y_X5_bestHaul 88 (.inl (i_aload 0 89)) := ok_aload_n dX5_bestHaul_88 rfl
theorem kX5_bestHaul_89 (z : XKT) : XOi z xInf Y_X5_bestHaul 89 (.inl (i_iload 1 90)) := ok_iload_n dX5_bestHaul_89 rfl
theorem kX5_bestHaul_90 (z : XKT) : XOi z xInf Y_X5_bestHaul 90 (.inl (i_push (vI 1) 91)) := ok_iconst dX5_bestHaul_90 rfl
theorem kX5_bestHaul_91 (z : XKT) : XOi z xInf Y_X5_bestHaul 91 (.inr (.inl (94, g_virt [(4, 253)] 2))) := show XOkC z xInf Y_X5_bestHaul 91 94 (g_virt [(4, 253)] 2) from okc_V (q := Y_X5_bestHaul) (List.forall_mem_cons.mpr ⟨(show XOkV z xInf Y_X5_bestHaul 91 94 2 (4, 253) from okv_V (q := Y_X5_bestHaul) (q1 := Y_X5_of) Z_X5_of rfl (by decide) ⟨by decide, by decide, Or.inl ⟨_, _, (List.mem_of_getElem? (l := xCls) (i := 3) rfl)⟩⟩ dX5_bestHaul_91 q2622 q2624 qs50 q153 q2625 hy_265), (fun _ h => absurd h List.not_mem_nil)⟩)
theorem kX5_bestHaul_94 (z : XKT) : XOi z xInf Y_X5_bestHaul 94 (.inl (i_icmp (fun x y => x ≤ y) 101 97)) := ok_icmp_le dX5_bestHaul_94 rfl
theorem kX5_bestHaul_97 (z : XKT) : XOi z xInf Y_X5_bestHaul 97 (.inl (i_iload 3 98)) := ok_iload_n dX5_bestHaul_97 rfl
theorem kX5_bestHaul_98 (z : XKT) : XOi z xInf Y_X5_bestHaul 98 (.inl (i_goto 102)) := ok_goto dX5_bestHaul_98 rfl
theorem kX5_bestHaul_101 (z : XKT) : XOi z xInf Y_X5_bestHaul 101 (.inl (i_iload 1 102)) := ok_iload_n dX5_bestHaul_101 rfl
theorem kX5_bestHaul_102 (z : XKT) : XOi z xInf Y_X5_bestHaul 102 (.inl (i_istore 1 103)) := ok_istore_n dX5_bestHaul_102 rfl
theorem kX5_bestHaul_103 (z : XKT) : XOi z xInf Y_X5_bestHaul 103 (.inl (i_iinc 3 1 106)) := ok_iinc dX5_bestHaul_103 rfl
theorem kX5_bestHaul_106 (z : XKT) : XOi z xInf Y_X5_bestHaul 106 (.inl (i_goto 14)) := ok_goto dX5_bestHaul_106 rfl
theorem kX5_bestHaul_109 (z : XKT) : XOi z xInf Y_X5_bestHaul 109 (.inl (i_iload 1 110)) := ok_iload_n dX5_bestHaul_109 rfl
theorem kX5_bestHaul_110 (z : XKT) : XOi z xInf Y_X5_bestHaul 110 (.inr (.inr (.inl (r_i .int)))) := show XOkR Y_X5_bestHaul 110 ((r_i .int)) from okr_i (q := Y_X5_bestHaul) (ty := .int) rfl rfl dX5_bestHaul_110
theorem o_X5_bestHaul (z : XKT) : XMi z xInf Y_X5_bestHaul := XMi.mk9 (T := T_X5_bestHaul z) rfl (⟨kX5_bestHaul_0 z, ⟨kX5_bestHaul_1 z, ⟨kX5_bestHaul_2 z, ⟨kX5_bestHaul_5 z, ⟨kX5_bestHaul_6 z, ⟨kX5_bestHaul_7 z, ⟨kX5_bestHaul_8 z, ⟨kX5_bestHaul_11 z, ⟨kX5_bestHaul_12 z, ⟨kX5_bestHaul_13 z, ⟨kX5_bestHaul_14 z, ⟨kX5_bestHaul_15 z, ⟨kX5_bestHaul_16 z, ⟨kX5_bestHaul_19 z, ⟨kX5_bestHaul_20 z, ⟨kX5_bestHaul_21 z, ⟨kX5_bestHaul_24 z, ⟨kX5_bestHaul_25 z, ⟨kX5_bestHaul_26 z, ⟨kX5_bestHaul_27 z, ⟨kX5_bestHaul_30 z, ⟨kX5_bestHaul_33 z, ⟨kX5_bestHaul_34 z, ⟨kX5_bestHaul_35 z, ⟨kX5_bestHaul_36 z, ⟨kX5_bestHaul_39 z, ⟨kX5_bestHaul_40 z, ⟨kX5_bestHaul_41 z, ⟨kX5_bestHaul_44 z, ⟨kX5_bestHaul_47 z, ⟨kX5_bestHaul_48 z, ⟨kX5_bestHaul_49 z, ⟨kX5_bestHaul_51 z, ⟨kX5_bestHaul_54 z, ⟨kX5_bestHaul_55 z, ⟨kX5_bestHaul_56 z, ⟨kX5_bestHaul_57 z, ⟨kX5_bestHaul_58 z, ⟨kX5_bestHaul_59 z, ⟨kX5_bestHaul_62 z, ⟨kX5_bestHaul_65 z, ⟨kX5_bestHaul_66 z, ⟨kX5_bestHaul_69 z, ⟨kX5_bestHaul_70 z, ⟨kX5_bestHaul_72 z, ⟨kX5_bestHaul_74 z, ⟨kX5_bestHaul_77 z, ⟨kX5_bestHaul_78 z, ⟨kX5_bestHaul_79 z, ⟨kX5_bestHaul_82 z, ⟨kX5_bestHaul_83 z, ⟨kX5_bestHaul_84 z, ⟨kX5_bestHaul_85 z, ⟨kX5_bestHaul_88 z, ⟨kX5_bestHaul_89 z, ⟨kX5_bestHaul_90 z, ⟨kX5_bestHaul_91 z, ⟨kX5_bestHaul_94 z, ⟨kX5_bestHaul_97 z, ⟨kX5_bestHaul_98 z, ⟨kX5_bestHaul_101 z, ⟨kX5_bestHaul_102 z, ⟨kX5_bestHaul_103 z, ⟨kX5_bestHaul_106 z, ⟨kX5_bestHaul_109 z, ⟨kX5_bestHaul_110 z, trivial⟩⟩⟩⟩⟩⟩⟩⟩⟩⟩⟩⟩⟩⟩⟩⟩⟩⟩⟩⟩⟩⟩⟩⟩⟩⟩⟩⟩⟩⟩⟩⟩⟩⟩⟩⟩⟩⟩⟩⟩⟩⟩⟩⟩⟩⟩⟩⟩⟩⟩⟩⟩⟩⟩⟩⟩⟩⟩⟩⟩⟩⟩⟩⟩⟩⟩) (hd_X5_bestHaul z) rfl rfl rfl
theorem hd_X5_byteAt (z : XKT) : XHd z Y_X5_byteAt := xHd_none rfl (xhd0 rfl)
theorem kX5_byteAt_0 (z : XKT) : XOi z xInf Y_X5_byteAt 0 (.inl (i_iload 1 1)) := ok_iload_n dX5_byteAt_0 rfl
theorem kX5_byteAt_1 (z : XKT) : XOi z xInf Y_X5_byteAt 1 (.inl (i_aload 0 2)) := ok_aload_n dX5_byteAt_1 rfl
theorem kX5_byteAt_2 (z : XKT) : XOi z xInf Y_X5_byteAt 2 (.inl (i_geti [4] 48 5)) := ok_geti dX5_byteAt_2 q2525 (List.forall_mem_cons.mpr ⟨⟨_, _, _, _, fd_48_4_0⟩, (fun _ h => absurd h List.not_mem_nil)⟩)
theorem kX5_byteAt_5 (z : XKT) : XOi z xInf Y_X5_byteAt 5 (.inl (i_icmp (fun x y => y ≤ x) 17 8)) := ok_icmp_ge dX5_byteAt_5 rfl
theorem kX5_byteAt_8 (z : XKT) : XOi z xInf Y_X5_byteAt 8 (.inl (i_aload 0 9)) := ok_aload_n dX5_byteAt_8 rfl
theorem kX5_byteAt_9 (z : XKT) : XOi z xInf Y_X5_byteAt 9 (.inl (i_getr [4] 46 12)) := ok_getr dX5_byteAt_9 q2523 (List.forall_mem_cons.mpr ⟨⟨_, _, _, _, fd_46_4_0⟩, (fun _ h => absurd h List.not_mem_nil)⟩)
theorem kX5_byteAt_12 (z : XKT) : XOi z xInf Y_X5_byteAt 12 (.inl (i_iload 1 13)) := ok_iload_n dX5_byteAt_12 rfl
theorem kX5_byteAt_13 (z : XKT) : XOi z xInf Y_X5_byteAt 13 (.inl (i_ald 1000 14)) := ok_iald dX5_byteAt_13
theorem kX5_byteAt_14 (z : XKT) : XOi z xInf Y_X5_byteAt 14 (.inl (i_goto 18)) := ok_goto dX5_byteAt_14 rfl
theorem kX5_byteAt_17 (z : XKT) : XOi z xInf Y_X5_byteAt 17 (.inl (i_push (vI (-1)) 18)) := ok_iconst dX5_byteAt_17 rfl
theorem kX5_byteAt_18 (z : XKT) : XOi z xInf Y_X5_byteAt 18 (.inr (.inr (.inl (r_i .int)))) := show XOkR Y_X5_byteAt 18 ((r_i .int)) from okr_i (q := Y_X5_byteAt) (ty := .int) rfl rfl dX5_byteAt_18
theorem o_X5_byteAt (z : XKT) : XMi z xInf Y_X5_byteAt := XMi.mk9 (T := T_X5_byteAt z) rfl (⟨kX5_byteAt_0 z, ⟨kX5_byteAt_1 z, ⟨kX5_byteAt_2 z, ⟨kX5_byteAt_5 z, ⟨kX5_byteAt_8 z, ⟨kX5_byteAt_9 z, ⟨kX5_byteAt_12 z, ⟨kX5_byteAt_13 z, ⟨kX5_byteAt_14 z, ⟨kX5_byteAt_17 z, ⟨kX5_byteAt_18 z, trivial⟩⟩⟩⟩⟩⟩⟩⟩⟩⟩⟩) (hd_X5_byteAt z) rfl rfl rfl
theorem hd_X5_cause (z : XKT) : XHd z Y_X5_cause := xHd_none rfl (xhd0 rfl)
theorem kX5_cause_0 (z : XKT) : XOi z xInf Y_X5_cause 0 (.inl (i_aload 0 1)) := ok_aload_n dX5_cause_0 rfl
theorem kX5_cause_1 (z : XKT) : XOi z xInf Y_X5_cause 1 (.inl (i_aload 0 2)) := ok_aload_n dX5_cause_1 rfl
theorem kX5_cause_2 (z : XKT) : XOi z xInf Y_X5_cause 2 (.inl (i_iload 1 3)) := ok_iload_n dX5_cause_2 rfl
theorem kX5_cause_3 (z : XKT) : XOi z xInf Y_X5_cause 3 (.inr (.inl (6, g_virt [(4, 232)] 1))) := show XOkC z xInf Y_X5_cause 3 6 (g_virt [(4, 232)] 1) from okc_V (q := Y_X5_cause) (List.forall_mem_cons.mpr ⟨(show XOkV z xInf Y_X5_cause 3 6 1 (4, 232) from okv_V (q := Y_X5_cause) (q1 := Y_X5_isGood) Z_X5_isGood rfl (by decide) ⟨by decide, by decide, Or.inl ⟨_, _, (List.mem_of_getElem? (l := xCls) (i := 3) rfl)⟩⟩ dX5_cause_3 q2654 q2656 qs56 q153 q2657 hy_272), (fun _ h => absurd h List.not_mem_nil)⟩)
theorem kX5_cause_6 (z : XKT) : XOi z xInf Y_X5_cause 6 (.inr (.inl (9, g_virt [(4, 240)] 1))) := show XOkC z xInf Y_X5_cause 6 9 (g_virt [(4, 240)] 1) from okc_V (q := Y_X5_cause) (List.forall_mem_cons.mpr ⟨(show XOkV z xInf Y_X5_cause 6 9 1 (4, 240) from okv_V (q := Y_X5_cause) (q1 := Y_X5_lacks) Z_X5_lacks rfl (by decide) ⟨by decide, by decide, Or.inl ⟨_, _, (List.mem_of_getElem? (l := xCls) (i := 3) rfl)⟩⟩ dX5_cause_6 q2606 q2608 qs46 q153 q2609 hy_262), (fun _ h => absurd h List.not_mem_nil)⟩)
theorem kX5_cause_9 (z : XKT) : XOi z xInf Y_X5_cause 9 (.inl (i_if (fun x => x = 0) 14 12)) := ok_if_eq dX5_cause_9 rfl
theorem kX5_cause_12 (z : XKT) : XOi z xInf Y_X5_cause 12 (.inl (i_push (vI 0) 13)) := ok_iconst dX5_cause_12 rfl
theorem kX5_cause_13 (z : XKT) : XOi z xInf Y_X5_cause 13 (.inr (.inr (.inl (r_i .int)))) := show XOkR Y_X5_cause 13 ((r_i .int)) from okr_i (q := Y_X5_cause) (ty := .int) rfl rfl dX5_cause_13
theorem kX5_cause_14 (z : XKT) : XOi z xInf Y_X5_cause 14 (.inl (i_aload 0 15)) := ok_aload_n dX5_cause_14 rfl
theorem kX5_cause_15 (z : XKT) : XOi z xInf Y_X5_cause 15 (.inl (i_iload 1 16)) := ok_iload_n dX5_cause_15 rfl
theorem kX5_cause_16 (z : XKT) : XOi z xInf Y_X5_cause 16 (.inr (.inl (19, g_virt [(4, 225)] 1))) := show XOkC z xInf Y_X5_cause 16 19 (g_virt [(4, 225)] 1) from okc_V (q := Y_X5_cause) (List.forall_mem_cons.mpr ⟨(show XOkV z xInf Y_X5_cause 16 19 1 (4, 225) from okv_V (q := Y_X5_cause) (q1 := Y_X5_haulRefusal) Z_X5_haulRefusal rfl (by decide) ⟨by decide, by decide, Or.inl ⟨_, _, (List.mem_of_getElem? (l := xCls) (i := 3) rfl)⟩⟩ dX5_cause_16 q2846 q2848 qs77 q153 q2849 hy_273), (fun _ h => absurd h List.not_mem_nil)⟩)
theorem kX5_cause_19 (z : XKT) : XOi z xInf Y_X5_cause 19 (.inl (i_swt [((-4), 57), ((-3), 51), ((-2), 44)] 72)) := ok_table dX5_cause_19 rfl rfl (by decide +kernel)
theorem kX5_cause_44 (z : XKT) : XOi z xInf Y_X5_cause 44 (.inl (i_aload 0 45)) := ok_aload_n dX5_cause_44 rfl
theorem kX5_cause_45 (z : XKT) : XOi z xInf Y_X5_cause 45 (.inl (i_iload 1 46)) := ok_iload_n dX5_cause_45 rfl
theorem kX5_cause_46 (z : XKT) : XOi z xInf Y_X5_cause 46 (.inl (i_push (vI 5) 47)) := ok_iconst dX5_cause_46 rfl
theorem kX5_cause_47 (z : XKT) : XOi z xInf Y_X5_cause 47 (.inr (.inl (50, g_virt [(4, 253)] 2))) := show XOkC z xInf Y_X5_cause 47 50 (g_virt [(4, 253)] 2) from okc_V (q := Y_X5_cause) (List.forall_mem_cons.mpr ⟨(show XOkV z xInf Y_X5_cause 47 50 2 (4, 253) from okv_V (q := Y_X5_cause) (q1 := Y_X5_of) Z_X5_of rfl (by decide) ⟨by decide, by decide, Or.inl ⟨_, _, (List.mem_of_getElem? (l := xCls) (i := 3) rfl)⟩⟩ dX5_cause_47 q2622 q2624 qs50 q153 q2625 hy_265), (fun _ h => absurd h List.not_mem_nil)⟩)
theorem kX5_cause_50 (z : XKT) : XOi z xInf Y_X5_cause 50 (.inr (.inr (.inl (r_i .int)))) := show XOkR Y_X5_cause 50 ((r_i .int)) from okr_i (q := Y_X5_cause) (ty := .int) rfl rfl dX5_cause_50
theorem kX5_cause_51 (z : XKT) : XOi z xInf Y_X5_cause 51 (.inl (i_aload 0 52)) := ok_aload_n dX5_cause_51 rfl
theorem kX5_cause_52 (z : XKT) : XOi z xInf Y_X5_cause 52 (.inl (i_iload 1 53)) := ok_iload_n dX5_cause_52 rfl
theorem kX5_cause_53 (z : XKT) : XOi z xInf Y_X5_cause 53 (.inr (.inl (56, g_virt [(4, 295)] 1))) := show XOkC z xInf Y_X5_cause 53 56 (g_virt [(4, 295)] 1) from okc_V (q := Y_X5_cause) (List.forall_mem_cons.mpr ⟨(show XOkV z xInf Y_X5_cause 53 56 1 (4, 295) from okv_V (q := Y_X5_cause) (q1 := Y_X5_ticksToDry) Z_X5_ticksToDry rfl (by decide) ⟨by decide, by decide, Or.inl ⟨_, _, (List.mem_of_getElem? (l := xCls) (i := 3) rfl)⟩⟩ dX5_cause_53 q2774 q2776 qs73 q153 q2777 hy_274), (fun _ h => absurd h List.not_mem_nil)⟩)
theorem kX5_cause_56 (z : XKT) : XOi z xInf Y_X5_cause 56 (.inr (.inr (.inl (r_i .int)))) := show XOkR Y_X5_cause 56 ((r_i .int)) from okr_i (q := Y_X5_cause) (ty := .int) rfl rfl dX5_cause_56
theorem kX5_cause_57 (z : XKT) : XOi z xInf Y_X5_cause 57 (.inl (i_aload 0 58)) := ok_aload_n dX5_cause_57 rfl
theorem kX5_cause_58 (z : XKT) : XOi z xInf Y_X5_cause 58 (.inl (i_iload 1 59)) := ok_iload_n dX5_cause_58 rfl
theorem kX5_cause_59 (z : XKT) : XOi z xInf Y_X5_cause 59 (.inl (i_push (vI 4) 60)) := ok_iconst dX5_cause_59 rfl
theorem kX5_cause_60 (z : XKT) : XOi z xInf Y_X5_cause 60 (.inr (.inl (63, g_virt [(4, 253)] 2))) := show XOkC z xInf Y_X5_cause 60 63 (g_virt [(4, 253)] 2) from okc_V (q := Y_X5_cause) (List.forall_mem_cons.mpr ⟨(show XOkV z xInf Y_X5_cause 60 63 2 (4, 253) from okv_V (q := Y_X5_cause) (q1 := Y_X5_of) Z_X5_of rfl (by decide) ⟨by decide, by decide, Or.inl ⟨_, _, (List.mem_of_getElem? (l := xCls) (i := 3) rfl)⟩⟩ dX5_cause_60 q2622 q2624 qs50 q153 q2625 hy_265), (fun _ h => absurd h List.not_mem_nil)⟩)
theorem kX5_cause_63 (z : XKT) : XOi z xInf Y_X5_cause 63 (.inl (i_aload 0 64)) := ok_aload_n dX5_cause_63 rfl
theorem kX5_cause_64 (z : XKT) : XOi z xInf Y_X5_cause 64 (.inl (i_iload 1 65)) := ok_iload_n dX5_cause_64 rfl
theorem kX5_cause_65 (z : XKT) : XOi z xInf Y_X5_cause 65 (.inl (i_push (vI 9) 67)) := ok_bipush dX5_cause_65 rfl
theorem kX5_cause_67 (z : XKT) : XOi z xInf Y_X5_cause 67 (.inr (.inl (70, g_virt [(4, 253)] 2))) := show XOkC z xInf Y_X5_cause 67 70 (g_virt [(4, 253)] 2) from okc_V (q := Y_X5_cause) (List.forall_mem_cons.mpr ⟨(show XOkV z xInf Y_X5_cause 67 70 2 (4, 253) from okv_V (q := Y_X5_cause) (q1 := Y_X5_of) Z_X5_of rfl (by decide) ⟨by decide, by decide, Or.inl ⟨_, _, (List.mem_of_getElem? (l := xCls) (i := 3) rfl)⟩⟩ dX5_cause_67 q2622 q2624 qs50 q153 q2625 hy_265), (fun _ h => absurd h List.not_mem_nil)⟩)
theorem kX5_cause_70 (z : XKT) : XOi z xInf Y_X5_cause 70 (.inl (i_bin (fun x y => x - y) 71)) := ok_isub dX5_cause_70
theorem kX5_cause_71 (z : XKT) : XOi z xInf Y_X5_cause 71 (.inr (.inr (.inl (r_i .int)))) := show XOkR Y_X5_cause 71 ((r_i .int)) from okr_i (q := Y_X5_cause) (ty := .int) rfl rfl dX5_cause_71
theorem kX5_cause_72 (z : XKT) : XOi z xInf Y_X5_cause 72 (.inl (i_push (vI (-1)) 73)) := ok_iconst dX5_cause_72 rfl
theorem kX5_cause_73 (z : XKT) : XOi z xInf Y_X5_cause 73 (.inr (.inr (.inl (r_i .int)))) := show XOkR Y_X5_cause 73 ((r_i .int)) from okr_i (q := Y_X5_cause) (ty := .int) rfl rfl dX5_cause_73
theorem o_X5_cause (z : XKT) : XMi z xInf Y_X5_cause := XMi.mk9 (T := T_X5_cause z) rfl (⟨kX5_cause_0 z, ⟨kX5_cause_1 z, ⟨kX5_cause_2 z, ⟨kX5_cause_3 z, ⟨kX5_cause_6 z, ⟨kX5_cause_9 z, ⟨kX5_cause_12 z, ⟨kX5_cause_13 z, ⟨kX5_cause_14 z, ⟨kX5_cause_15 z, ⟨kX5_cause_16 z, ⟨kX5_cause_19 z, ⟨kX5_cause_44 z, ⟨kX5_cause_45 z, ⟨kX5_cause_46 z, ⟨kX5_cause_47 z, ⟨kX5_cause_50 z, ⟨kX5_cause_51 z, ⟨kX5_cause_52 z, ⟨kX5_cause_53 z, ⟨kX5_cause_56 z, ⟨kX5_cause_57 z, ⟨kX5_cause_58 z, ⟨kX5_cause_59 z, ⟨kX5_cause_60 z, ⟨kX5_cause_63 z, ⟨kX5_cause_64 z, ⟨kX5_cause_65 z, ⟨kX5_cause_67 z, ⟨kX5_cause_70 z, ⟨kX5_cause_71 z, ⟨kX5_cause_72 z, ⟨kX5_cause_73 z, trivial⟩⟩⟩⟩⟩⟩⟩⟩⟩⟩⟩⟩⟩⟩⟩⟩⟩⟩⟩⟩⟩⟩⟩⟩⟩⟩⟩⟩⟩⟩⟩⟩⟩) (hd_X5_cause z) rfl rfl rfl
theorem hd_X5_check (z : XKT) : XHd z Y_X5_check := xHd_none rfl (xhd0 rfl)
theorem kX5_check_0 (z : XKT) : XOi z xInf Y_X5_check 0 (.inl (i_iload 1 1)) := ok_iload_n dX5_check_0 rfl
theorem kX5_check_1 (z : XKT) : XOi z xInf Y_X5_check 1 (.inl (i_if (fun x => ¬ x = 0) 24 4)) := ok_if_ne dX5_check_1 rfl
theorem kX5_check_4 (z : XKT) : XOi z xInf Y_X5_check 4 (.inl (i_aload 0 5)) := ok_aload_n dX5_check_4 rfl
theorem kX5_check_5 (z : XKT) : XOi z xInf Y_X5_check 5 (.inl (i_geti [4] 52 8)) := ok_geti dX5_check_5 q2529 (List.forall_mem_cons.mpr ⟨⟨_, _, _, _, fd_52_4_0⟩, (fun _ h => absurd h List.not_mem_nil)⟩)
theorem kX5_check_8 (z : XKT) : XOi z xInf Y_X5_check 8 (.inl (i_if (fun x => ¬ x = 0) 24 11)) := ok_if_ne dX5_check_8 rfl
theorem kX5_check_11 (z : XKT) : XOi z xInf Y_X5_check 11 (.inl (i_aload 0 12)) := ok_aload_n dX5_check_11 rfl
theorem kX5_check_12 (z : XKT) : XOi z xInf Y_X5_check 12 (.inl (i_iload 2 13)) := ok_iload_n dX5_check_12 rfl
theorem kX5_check_13 (z : XKT) : XOi z xInf Y_X5_check 13 (.inl (i_puti z.1 [4] .int 52 16)) := ok_puti dX5_check_13 q2529 rfl (List.forall_mem_cons.mpr ⟨⟨_, _, _, _, tyX5, fd_52_4_0, ⟨tyX5_ok, nmX5, (Or.inl rfl)⟩, rfl⟩, (fun _ h => absurd h List.not_mem_nil)⟩)
theorem kX5_check_16 (z : XKT) : XOi z xInf Y_X5_check 16 (.inl (i_aload 0 17)) := ok_aload_n dX5_check_16 rfl
theorem kX5_check_17 (z : XKT) : XOi z xInf Y_X5_check 17 (.inl (i_aload 0 18)) := ok_aload_n dX5_check_17 rfl
theorem kX5_check_18 (z : XKT) : XOi z xInf Y_X5_check 18 (.inl (i_geti [4] 50 21)) := ok_geti dX5_check_18 q2527 (List.forall_mem_cons.mpr ⟨⟨_, _, _, _, fd_50_4_0⟩, (fun _ h => absurd h List.not_mem_nil)⟩)
theorem kX5_check_21 (z : XKT) : XOi z xInf Y_X5_check 21 (.inl (i_puti z.1 [4] .int 53 24)) := ok_puti dX5_check_21 q2530 rfl (List.forall_mem_cons.mpr ⟨⟨_, _, _, _, tyX5, fd_53_4_0, ⟨tyX5_ok, nmX5, (Or.inl rfl)⟩, rfl⟩, (fun _ h => absurd h List.not_mem_nil)⟩)
theorem kX5_check_24 (z : XKT) : XOi z xInf Y_X5_check 24 (.inr (.inr (.inl r_v))) := show XOkR Y_X5_check 24 (r_v) from okr_v (q := Y_X5_check) rfl dX5_check_24
theorem o_X5_check (z : XKT) : XMi z xInf Y_X5_check := XMi.mk9 (T := T_X5_check z) rfl (⟨kX5_check_0 z, ⟨kX5_check_1 z, ⟨kX5_check_4 z, ⟨kX5_check_5 z, ⟨kX5_check_8 z, ⟨kX5_check_11 z, ⟨kX5_check_12 z, ⟨kX5_check_13 z, ⟨kX5_check_16 z, ⟨kX5_check_17 z, ⟨kX5_check_18 z, ⟨kX5_check_21 z, ⟨kX5_check_24 z, trivial⟩⟩⟩⟩⟩⟩⟩⟩⟩⟩⟩⟩⟩) (hd_X5_check z) rfl rfl rfl
theorem hd_X5_claim (z : XKT) : XHd z Y_X5_claim := xHd_none rfl (xhd0 rfl)
theorem kX5_claim_0 (z : XKT) : XOi z xInf Y_X5_claim 0 (.inl (i_aload 0 1)) := ok_aload_n dX5_claim_0 rfl
