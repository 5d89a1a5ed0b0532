/-! EVERY INSTRUCTION IS THE MODEL'S; printed by tools/okgen.py -/
set_option maxRecDepth 100000
theorem hd_J0_init (z : XKT) : XHd z Y_J0_init := xHd_none rfl (xhd0 rfl)
theorem kJ0_init_0 (z : XKT) : XOi z xInf Y_J0_init 0 (.inl (i_aload 0 1)) := ok_aload_n dJ0_init_0 rfl
theorem kJ0_init_1 (z : XKT) : XOi z xInf Y_J0_init 1 (.inl (i_oinit 4)) := ok_oinit dJ0_init_1 q204 q179 q180
theorem kJ0_init_4 (z : XKT) : XOi z xInf Y_J0_init 4 (.inr (.inr (.inl r_v))) := show XOkR Y_J0_init 4 (r_v) from okr_v (q := Y_J0_init) rfl dJ0_init_4
theorem o_J0_init (z : XKT) : XMi z xInf Y_J0_init := XMi.mk9 (T := T_J0_init z) rfl (⟨kJ0_init_0 z, ⟨kJ0_init_1 z, ⟨kJ0_init_4 z, trivial⟩⟩⟩) (hd_J0_init z) rfl rfl (by decide +kernel)
theorem hd_J1_init (z : XKT) : XHd z Y_J1_init := xHd_none rfl (xhd0 rfl)
theorem kJ1_init_0 (z : XKT) : XOi z xInf Y_J1_init 0 (.inl (i_aload 0 1)) := ok_aload_n dJ1_init_0 rfl
theorem kJ1_init_1 (z : XKT) : XOi z xInf Y_J1_init 1 (.inr (.inl (4, g_spec 340 0))) := show XOkC z xInf Y_J1_init 1 4 (g_spec 340 0) from okc_I (q := Y_J1_init) (q1 := Y_J0_init) Z_J0_init rfl rfl rfl (by decide) dJ1_init_1 q201 q202 q127 q203 hy_369
theorem kJ1_init_4 (z : XKT) : XOi z xInf Y_J1_init 4 (.inl (i_aload 0 5)) := ok_aload_n dJ1_init_4 rfl
theorem kJ1_init_5 (z : XKT) : XOi z xInf Y_J1_init 5 (.inl (i_push (vI 0) 6)) := ok_iconst dJ1_init_5 rfl
theorem kJ1_init_6 (z : XKT) : XOi z xInf Y_J1_init 6 (.inl (i_puti z.1 [12, 13] .int 85 9)) := ok_puti dJ1_init_6 q529 rfl (List.forall_mem_cons.mpr ⟨⟨_, _, _, _, tyJ2, fd_85_12_0, ⟨tyJ2_ok, nmJ2, (Or.inl rfl)⟩, rfl⟩, (List.forall_mem_cons.mpr ⟨⟨_, _, _, _, tyJ20, fd_85_13_0, ⟨tyJ20_ok, nmJ20, (Or.inl rfl)⟩, rfl⟩, (fun _ h => absurd h List.not_mem_nil)⟩)⟩)
theorem kJ1_init_9 (z : XKT) : XOi z xInf Y_J1_init 9 (.inr (.inr (.inl r_v))) := show XOkR Y_J1_init 9 (r_v) from okr_v (q := Y_J1_init) rfl dJ1_init_9
theorem o_J1_init (z : XKT) : XMi z xInf Y_J1_init := XMi.mk9 (T := T_J1_init z) rfl (⟨kJ1_init_0 z, ⟨kJ1_init_1 z, ⟨kJ1_init_4 z, ⟨kJ1_init_5 z, ⟨kJ1_init_6 z, ⟨kJ1_init_9 z, trivial⟩⟩⟩⟩⟩⟩) (hd_J1_init z) rfl rfl (by decide +kernel)
theorem hd_J1_listIterator (z : XKT) : XHd z Y_J1_listIterator := xHd_none rfl (xhd0 rfl)
theorem kJ1_listIterator_0 (z : XKT) : XOi z xInf Y_J1_listIterator 0 (.inl (i_aload 0 1)) := ok_aload_n dJ1_listIterator_0 rfl
theorem kJ1_listIterator_1 (z : XKT) : XOi z xInf Y_J1_listIterator 1 (.inl (i_push (vI 0) 2)) := ok_iconst dJ1_listIterator_1 rfl
theorem kJ1_listIterator_2 (z : XKT) : XOi z xInf Y_J1_listIterator 2 (.inr (.inl (5, g_virt [(13, 424)] 1))) := show XOkC z xInf Y_J1_listIterator 2 5 (g_virt [(13, 424)] 1) from okc_V (q := Y_J1_listIterator) (List.forall_mem_cons.mpr ⟨(show XOkV z xInf Y_J1_listIterator 2 5 1 (13, 424) from okv_U (q := Y_J1_listIterator) (owner := "java/util/AbstractList") (x := ⟨"java/util/AbstractList", "listIterator", "(I)Ljava/util/ListIterator;"⟩) (q1 := Y_J20_listIterator) Z_J20_listIterator rfl (by decide) ⟨by decide, by decide, Or.inl ⟨_, _, (List.mem_of_getElem? (l := xCls) (i := 12) rfl)⟩⟩ dJ1_listIterator_2 q901 q903 (Or.inl q962) q926 q925 q150 q927 ⟨hy_370.1, hy_370.2.1⟩ (by decide +kernel)), (fun _ h => absurd h List.not_mem_nil)⟩)
theorem kJ1_listIterator_5 (z : XKT) : XOi z xInf Y_J1_listIterator 5 (.inr (.inr (.inl r_a))) := show XOkR Y_J1_listIterator 5 (r_a) from okr_a (q := Y_J1_listIterator) rfl (Or.inl ⟨_, rfl⟩) dJ1_listIterator_5
theorem o_J1_listIterator (z : XKT) : XMi z xInf Y_J1_listIterator := XMi.mk9 (T := T_J1_listIterator z) rfl (⟨kJ1_listIterator_0 z, ⟨kJ1_listIterator_1 z, ⟨kJ1_listIterator_2 z, ⟨kJ1_listIterator_5 z, trivial⟩⟩⟩⟩) (hd_J1_listIterator z) rfl rfl (by decide +kernel)
theorem hd_J2_add (z : XKT) : XHd z Y_J2_add := xHd_none rfl (xhd0 rfl)
theorem kJ2_add_0 (z : XKT) : XOi z xInf Y_J2_add 0 (.inl (i_aload 0 1)) := ok_aload_n dJ2_add_0 rfl
theorem kJ2_add_1 (z : XKT) : XOi z xInf Y_J2_add 1 (.inl (i_dup 2)) := ok_dup dJ2_add_1
theorem kJ2_add_2 (z : XKT) : XOi z xInf Y_J2_add 2 (.inl (i_geti [12] 85 5)) := ok_geti dJ2_add_2 q536 (List.forall_mem_cons.mpr ⟨⟨_, _, _, _, fd_85_12_1⟩, (fun _ h => absurd h List.not_mem_nil)⟩)
theorem kJ2_add_5 (z : XKT) : XOi z xInf Y_J2_add 5 (.inl (i_push (vI 1) 6)) := ok_iconst dJ2_add_5 rfl
theorem kJ2_add_6 (z : XKT) : XOi z xInf Y_J2_add 6 (.inl (i_bin (fun x y => x + y) 7)) := ok_iadd dJ2_add_6
theorem kJ2_add_7 (z : XKT) : XOi z xInf Y_J2_add 7 (.inl (i_puti z.1 [12] .int 85 10)) := ok_puti dJ2_add_7 q536 rfl (List.forall_mem_cons.mpr ⟨⟨_, _, _, _, tyJ2, fd_85_12_1, ⟨tyJ2_ok, nmJ2, (Or.inl rfl)⟩, rfl⟩, (fun _ h => absurd h List.not_mem_nil)⟩)
theorem kJ2_add_10 (z : XKT) : XOi z xInf Y_J2_add 10 (.inl (i_aload 0 11)) := ok_aload_n dJ2_add_10 rfl
theorem kJ2_add_11 (z : XKT) : XOi z xInf Y_J2_add 11 (.inl (i_aload 1 12)) := ok_aload_n dJ2_add_11 rfl
theorem kJ2_add_12 (z : XKT) : XOi z xInf Y_J2_add 12 (.inl (i_aload 0 13)) := ok_aload_n dJ2_add_12 rfl
theorem kJ2_add_13 (z : XKT) : XOi z xInf Y_J2_add 13 (.inl (i_getr [12] 86 16)) := ok_getr dJ2_add_13 q525 (List.forall_mem_cons.mpr ⟨⟨_, _, _, _, fd_86_12_0⟩, (fun _ h => absurd h List.not_mem_nil)⟩)
theorem kJ2_add_16 (z : XKT) : XOi z xInf Y_J2_add 16 (.inl (i_aload 0 17)) := ok_aload_n dJ2_add_16 rfl
theorem kJ2_add_17 (z : XKT) : XOi z xInf Y_J2_add 17 (.inl (i_geti [12] 87 20)) := ok_geti dJ2_add_17 q528 (List.forall_mem_cons.mpr ⟨⟨_, _, _, _, fd_87_12_0⟩, (fun _ h => absurd h List.not_mem_nil)⟩)
theorem kJ2_add_20 (z : XKT) : XOi z xInf Y_J2_add 20 (.inr (.inl (23, g_virt [(12, 344)] 3))) := show XOkC z xInf Y_J2_add 20 23 (g_virt [(12, 344)] 3) from okc_V (q := Y_J2_add) (List.forall_mem_cons.mpr ⟨(show XOkV z xInf Y_J2_add 20 23 3 (12, 344) from okv_V (q := Y_J2_add) (q1 := Y_J2_add_2) Z_J2_add_2 rfl (by decide) ⟨by decide, by decide, Or.inl ⟨_, _, (List.mem_of_getElem? (l := xCls) (i := 11) rfl)⟩⟩ dJ2_add_20 q693 q695 qs1 q129 q696 hy_371), (fun _ h => absurd h List.not_mem_nil)⟩)
theorem kJ2_add_23 (z : XKT) : XOi z xInf Y_J2_add 23 (.inl (i_push (vI 1) 24)) := ok_iconst dJ2_add_23 rfl
theorem kJ2_add_24 (z : XKT) : XOi z xInf Y_J2_add 24 (.inr (.inr (.inl (r_i .boolean)))) := show XOkR Y_J2_add 24 ((r_i .boolean)) from okr_i (q := Y_J2_add) (ty := .boolean) rfl rfl dJ2_add_24
theorem o_J2_add (z : XKT) : XMi z xInf Y_J2_add := XMi.mk9 (T := T_J2_add z) rfl (⟨kJ2_add_0 z, ⟨kJ2_add_1 z, ⟨kJ2_add_2 z, ⟨kJ2_add_5 z, ⟨kJ2_add_6 z, ⟨kJ2_add_7 z, ⟨kJ2_add_10 z, ⟨kJ2_add_11 z, ⟨kJ2_add_12 z, ⟨kJ2_add_13 z, ⟨kJ2_add_16 z, ⟨kJ2_add_17 z, ⟨kJ2_add_20 z, ⟨kJ2_add_23 z, ⟨kJ2_add_24 z, trivial⟩⟩⟩⟩⟩⟩⟩⟩⟩⟩⟩⟩⟩⟩⟩) (hd_J2_add z) rfl rfl (by decide +kernel)
theorem hd_J2_add_2 (z : XKT) : XHd z Y_J2_add_2 := xHd_none rfl (xhd0 rfl)
theorem kJ2_add_2_0 (z : XKT) : XOi z xInf Y_J2_add_2 0 (.inl (i_iload 3 1)) := ok_iload_n dJ2_add_2_0 rfl
theorem kJ2_add_2_1 (z : XKT) : XOi z xInf Y_J2_add_2 1 (.inl (i_aload 2 2)) := ok_aload_n dJ2_add_2_1 rfl
theorem kJ2_add_2_2 (z : XKT) : XOi z xInf Y_J2_add_2 2 (.inl (i_alen 3)) := ok_alen dJ2_add_2_2
theorem kJ2_add_2_3 (z : XKT) : XOi z xInf Y_J2_add_2 3 (.inl (i_icmp (fun x y => ¬ x = y) 11 6)) := ok_icmp_ne dJ2_add_2_3 rfl
theorem kJ2_add_2_6 (z : XKT) : XOi z xInf Y_J2_add_2 6 (.inl (i_aload 0 7)) := ok_aload_n dJ2_add_2_6 rfl
theorem kJ2_add_2_7 (z : XKT) : XOi z xInf Y_J2_add_2 7 (.inr (.inl (10, g_virt [(12, 347)] 0))) := show XOkC z xInf Y_J2_add_2 7 10 (g_virt [(12, 347)] 0) from okc_V (q := Y_J2_add_2) (List.forall_mem_cons.mpr ⟨(show XOkV z xInf Y_J2_add_2 7 10 0 (12, 347) from okv_V (q := Y_J2_add_2) (q1 := Y_J2_grow) Z_J2_grow rfl (by decide) ⟨by decide, by decide, Or.inl ⟨_, _, (List.mem_of_getElem? (l := xCls) (i := 11) rfl)⟩⟩ dJ2_add_2_7 q697 q699 qs2 q129 q700 hy_372), (fun _ h => absurd h List.not_mem_nil)⟩)
theorem kJ2_add_2_10 (z : XKT) : XOi z xInf Y_J2_add_2 10 (.inl (i_astore 2 11)) := ok_astore_n dJ2_add_2_10 rfl
theorem kJ2_add_2_11 (z : XKT) : XOi z xInf Y_J2_add_2 11 (.inl (i_aload 2 12)) := ok_aload_n dJ2_add_2_11 rfl
theorem kJ2_add_2_12 (z : XKT) : XOi z xInf Y_J2_add_2 12 (.inl (i_iload 3 13)) := ok_iload_n dJ2_add_2_12 rfl
theorem kJ2_add_2_13 (z : XKT) : XOi z xInf Y_J2_add_2 13 (.inl (i_aload 1 14)) := ok_aload_n dJ2_add_2_13 rfl
theorem kJ2_add_2_14 (z : XKT) : XOi z xInf Y_J2_add_2 14 (.inl (i_arst z.1 1003 [2, 3, 7, 8, 9] 15)) := ok_arst (E := "java/lang/Object") dJ2_add_2_14 (List.forall_mem_cons.mpr ⟨⟨by decide, by decide, (List.mem_of_getElem? (l := xArs) (i := 3) rfl), _, _, _, (List.mem_of_getElem? (l := xCls) (i := 1) rfl), (Or.inr q3159)⟩, (List.forall_mem_cons.mpr ⟨⟨by decide, by decide, (List.mem_of_getElem? (l := xArs) (i := 3) rfl), _, _, _, (List.mem_of_getElem? (l := xCls) (i := 2) rfl), (Or.inr q3163)⟩, (List.forall_mem_cons.mpr ⟨⟨by decide, by decide, (List.mem_of_getElem? (l := xArs) (i := 3) rfl), _, _, _, (List.mem_of_getElem? (l := xCls) (i := 6) rfl), (Or.inr q3183)⟩, (List.forall_mem_cons.mpr ⟨⟨by decide, by decide, (List.mem_of_getElem? (l := xArs) (i := 3) rfl), _, _, _, (List.mem_of_getElem? (l := xCls) (i := 7) rfl), (Or.inr q3182)⟩, (List.forall_mem_cons.mpr ⟨⟨by decide, by decide, (List.mem_of_getElem? (l := xArs) (i := 3) rfl), _, _, _, (List.mem_of_getElem? (l := xCls) (i := 8) rfl), (Or.inr q3184)⟩, (fun _ h => absurd h List.not_mem_nil)⟩)⟩)⟩)⟩)⟩) (List.mem_of_getElem? (l := xArs) (i := 3) rfl) (by decide)
theorem kJ2_add_2_15 (z : XKT) : XOi z xInf Y_J2_add_2 15 (.inl (i_aload 0 16)) := ok_aload_n dJ2_add_2_15 rfl
theorem kJ2_add_2_16 (z : XKT) : XOi z xInf Y_J2_add_2 16 (.inl (i_iload 3 17)) := ok_iload_n dJ2_add_2_16 rfl
theorem kJ2_add_2_17 (z : XKT) : XOi z xInf Y_J2_add_2 17 (.inl (i_push (vI 1) 18)) := ok_iconst dJ2_add_2_17 rfl
theorem kJ2_add_2_18 (z : XKT) : XOi z xInf Y_J2_add_2 18 (.inl (i_bin (fun x y => x + y) 19)) := ok_iadd dJ2_add_2_18
theorem kJ2_add_2_19 (z : XKT) : XOi z xInf Y_J2_add_2 19 (.inl (i_puti z.1 [12] .int 87 22)) := ok_puti dJ2_add_2_19 q528 rfl (List.forall_mem_cons.mpr ⟨⟨_, _, _, _, tyJ2, fd_87_12_0, ⟨tyJ2_ok, nmJ2, (Or.inl rfl)⟩, rfl⟩, (fun _ h => absurd h List.not_mem_nil)⟩)
theorem kJ2_add_2_22 (z : XKT) : XOi z xInf Y_J2_add_2 22 (.inr (.inr (.inl r_v))) := show XOkR Y_J2_add_2 22 (r_v) from okr_v (q := Y_J2_add_2) rfl dJ2_add_2_22
theorem o_J2_add_2 (z : XKT) : XMi z xInf Y_J2_add_2 := XMi.mk9 (T := T_J2_add_2 z) rfl (⟨kJ2_add_2_0 z, ⟨kJ2_add_2_1 z, ⟨kJ2_add_2_2 z, ⟨kJ2_add_2_3 z, ⟨kJ2_add_2_6 z, ⟨kJ2_add_2_7 z, ⟨kJ2_add_2_10 z, ⟨kJ2_add_2_11 z, ⟨kJ2_add_2_12 z, ⟨kJ2_add_2_13 z, ⟨kJ2_add_2_14 z, ⟨kJ2_add_2_15 z, ⟨kJ2_add_2_16 z, ⟨kJ2_add_2_17 z, ⟨kJ2_add_2_18 z, ⟨kJ2_add_2_19 z, ⟨kJ2_add_2_22 z, trivial⟩⟩⟩⟩⟩⟩⟩⟩⟩⟩⟩⟩⟩⟩⟩⟩⟩) (hd_J2_add_2 z) rfl rfl (by decide +kernel)
theorem hd_J2_elementData (z : XKT) : XHd z Y_J2_elementData := xHd_none rfl (xhd0 rfl)
theorem kJ2_elementData_0 (z : XKT) : XOi z xInf Y_J2_elementData 0 (.inl (i_aload 0 1)) := ok_aload_n dJ2_elementData_0 rfl
theorem kJ2_elementData_1 (z : XKT) : XOi z xInf Y_J2_elementData 1 (.inl (i_getr [12] 86 4)) := ok_getr dJ2_elementData_1 q525 (List.forall_mem_cons.mpr ⟨⟨_, _, _, _, fd_86_12_0⟩, (fun _ h => absurd h List.not_mem_nil)⟩)
theorem kJ2_elementData_4 (z : XKT) : XOi z xInf Y_J2_elementData 4 (.inl (i_iload 1 5)) := ok_iload_n dJ2_elementData_4 rfl
theorem kJ2_elementData_5 (z : XKT) : XOi z xInf Y_J2_elementData 5 (.inl (i_arld [1003, 1004, 1005, 1006, 1007] 6)) := ok_arld (by decide) dJ2_elementData_5
theorem kJ2_elementData_6 (z : XKT) : XOi z xInf Y_J2_elementData 6 (.inr (.inr (.inl r_a))) := show XOkR Y_J2_elementData 6 (r_a) from okr_a (q := Y_J2_elementData) rfl (Or.inl ⟨_, rfl⟩) dJ2_elementData_6
theorem o_J2_elementData (z : XKT) : XMi z xInf Y_J2_elementData := XMi.mk9 (T := T_J2_elementData z) rfl (⟨kJ2_elementData_0 z, ⟨kJ2_elementData_1 z, ⟨kJ2_elementData_4 z, ⟨kJ2_elementData_5 z, ⟨kJ2_elementData_6 z, trivial⟩⟩⟩⟩⟩) (hd_J2_elementData z) rfl rfl (by decide +kernel)
theorem hd_J2_get (z : XKT) : XHd z Y_J2_get := xHd_none rfl (xhd0 rfl)
theorem kJ2_get_0 (z : XKT) : XOi z xInf Y_J2_get 0 (.inl (i_iload 1 1)) := ok_iload_n dJ2_get_0 rfl
theorem kJ2_get_1 (z : XKT) : XOi z xInf Y_J2_get 1 (.inl (i_aload 0 2)) := ok_aload_n dJ2_get_1 rfl
theorem kJ2_get_2 (z : XKT) : XOi z xInf Y_J2_get 2 (.inl (i_geti [12] 87 5)) := ok_geti dJ2_get_2 q528 (List.forall_mem_cons.mpr ⟨⟨_, _, _, _, fd_87_12_0⟩, (fun _ h => absurd h List.not_mem_nil)⟩)
theorem kJ2_get_5 (z : XKT) : XOi z xInf Y_J2_get 5 (.inr (.inl (8, g_stat 453 2))) := show XOkC z xInf Y_J2_get 5 8 (g_stat 453 2) from okc_S (q := Y_J2_get) (q1 := Y_J28_checkIndex) Z_J28_checkIndex rfl (by decide) dJ2_get_5 q1050 q1051 q163 q1052 hy_373
theorem kJ2_get_8 (z : XKT) : XOi z xInf Y_J2_get 8 (.inl (i_pop 9)) := ok_pop dJ2_get_8
theorem kJ2_get_9 (z : XKT) : XOi z xInf Y_J2_get 9 (.inl (i_aload 0 10)) := ok_aload_n dJ2_get_9 rfl
theorem kJ2_get_10 (z : XKT) : XOi z xInf Y_J2_get 10 (.inl (i_iload 1 11)) := ok_iload_n dJ2_get_10 rfl
theorem kJ2_get_11 (z : XKT) : XOi z xInf Y_J2_get 11 (.inr (.inl (14, g_virt [(12, 345)] 1))) := show XOkC z xInf Y_J2_get 11 14 (g_virt [(12, 345)] 1) from okc_V (q := Y_J2_get) (List.forall_mem_cons.mpr ⟨(show XOkV z xInf Y_J2_get 11 14 1 (12, 345) from okv_V (q := Y_J2_get) (q1 := Y_J2_elementData) Z_J2_elementData rfl (by decide) ⟨by decide, by decide, Or.inl ⟨_, _, (List.mem_of_getElem? (l := xCls) (i := 11) rfl)⟩⟩ dJ2_get_11 q1056 q1057 q1058 q129 q1059 hy_374), (fun _ h => absurd h List.not_mem_nil)⟩)
theorem kJ2_get_14 (z : XKT) : XOi z xInf Y_J2_get 14 (.inr (.inr (.inl r_a))) := show XOkR Y_J2_get 14 (r_a) from okr_a (q := Y_J2_get) rfl (Or.inl ⟨_, rfl⟩) dJ2_get_14
theorem o_J2_get (z : XKT) : XMi z xInf Y_J2_get := XMi.mk9 (T := T_J2_get z) rfl (⟨kJ2_get_0 z, ⟨kJ2_get_1 z, ⟨kJ2_get_2 z, ⟨kJ2_get_5 z, ⟨kJ2_get_8 z, ⟨kJ2_get_9 z, ⟨kJ2_get_10 z, ⟨kJ2_get_11 z, ⟨kJ2_get_14 z, trivial⟩⟩⟩⟩⟩⟩⟩⟩⟩) (hd_J2_get z) rfl rfl (by decide +kernel)
theorem hd_J2_grow (z : XKT) : XHd z Y_J2_grow := xHd_none rfl (xhd0 rfl)
theorem kJ2_grow_0 (z : XKT) : XOi z xInf Y_J2_grow 0 (.inl (i_aload 0 1)) := ok_aload_n dJ2_grow_0 rfl
theorem kJ2_grow_1 (z : XKT) : XOi z xInf Y_J2_grow 1 (.inl (i_aload 0 2)) := ok_aload_n dJ2_grow_1 rfl
theorem kJ2_grow_2 (z : XKT) : XOi z xInf Y_J2_grow 2 (.inl (i_geti [12] 87 5)) := ok_geti dJ2_grow_2 q528 (List.forall_mem_cons.mpr ⟨⟨_, _, _, _, fd_87_12_0⟩, (fun _ h => absurd h List.not_mem_nil)⟩)
theorem kJ2_grow_5 (z : XKT) : XOi z xInf Y_J2_grow 5 (.inl (i_push (vI 1) 6)) := ok_iconst dJ2_grow_5 rfl
theorem kJ2_grow_6 (z : XKT) : XOi z xInf Y_J2_grow 6 (.inl (i_bin (fun x y => x + y) 7)) := ok_iadd dJ2_grow_6
theorem kJ2_grow_7 (z : XKT) : XOi z xInf Y_J2_grow 7 (.inr (.inl (10, g_virt [(12, 348)] 1))) := show XOkC z xInf Y_J2_grow 7 10 (g_virt [(12, 348)] 1) from okc_V (q := Y_J2_grow) (List.forall_mem_cons.mpr ⟨(show XOkV z xInf Y_J2_grow 7 10 1 (12, 348) from okv_V (q := Y_J2_grow) (q1 := Y_J2_grow_2) Z_J2_grow_2 rfl (by decide) ⟨by decide, by decide, Or.inl ⟨_, _, (List.mem_of_getElem? (l := xCls) (i := 11) rfl)⟩⟩ dJ2_grow_7 q701 q703 qs3 q129 q704 hy_375), (fun _ h => absurd h List.not_mem_nil)⟩)
theorem kJ2_grow_10 (z : XKT) : XOi z xInf Y_J2_grow 10 (.inr (.inr (.inl r_a))) := show XOkR Y_J2_grow 10 (r_a) from okr_a (q := Y_J2_grow) rfl (Or.inr ⟨_, rfl⟩) dJ2_grow_10
theorem o_J2_grow (z : XKT) : XMi z xInf Y_J2_grow := XMi.mk9 (T := T_J2_grow z) rfl (⟨kJ2_grow_0 z, ⟨kJ2_grow_1 z, ⟨kJ2_grow_2 z, ⟨kJ2_grow_5 z, ⟨kJ2_grow_6 z, ⟨kJ2_grow_7 z, ⟨kJ2_grow_10 z, trivial⟩⟩⟩⟩⟩⟩⟩) (hd_J2_grow z) rfl rfl (by decide +kernel)
theorem hd_J2_grow_2 (z : XKT) : XHd z Y_J2_grow_2 := xHd_none rfl (xhd0 rfl)
theorem kJ2_grow_2_0 (z : XKT) : XOi z xInf Y_J2_grow_2 0 (.inl (i_aload 0 1)) := ok_aload_n dJ2_grow_2_0 rfl
theorem kJ2_grow_2_1 (z : XKT) : XOi z xInf Y_J2_grow_2 1 (.inl (i_getr [12] 86 4)) := ok_getr dJ2_grow_2_1 q525 (List.forall_mem_cons.mpr ⟨⟨_, _, _, _, fd_86_12_0⟩, (fun _ h => absurd h List.not_mem_nil)⟩)
theorem kJ2_grow_2_4 (z : XKT) : XOi z xInf Y_J2_grow_2 4 (.inl (i_alen 5)) := ok_alen dJ2_grow_2_4
theorem kJ2_grow_2_5 (z : XKT) : XOi z xInf Y_J2_grow_2 5 (.inl (i_istore 2 6)) := ok_istore_n dJ2_grow_2_5 rfl
theorem kJ2_grow_2_6 (z : XKT) : XOi z xInf Y_J2_grow_2 6 (.inl (i_iload 2 7)) := ok_iload_n dJ2_grow_2_6 rfl
theorem kJ2_grow_2_7 (z : XKT) : XOi z xInf Y_J2_grow_2 7 (.inl (i_if (fun x => 0 < x) 20 10)) := ok_if_gt dJ2_grow_2_7 rfl
theorem kJ2_grow_2_10 (z : XKT) : XOi z xInf Y_J2_grow_2 10 (.inl (i_aload 0 11)) := ok_aload_n dJ2_grow_2_10 rfl
theorem kJ2_grow_2_11 (z : XKT) : XOi z xInf Y_J2_grow_2 11 (.inl (i_getr [12] 86 14)) := ok_getr dJ2_grow_2_11 q525 (List.forall_mem_cons.mpr ⟨⟨_, _, _, _, fd_86_12_0⟩, (fun _ h => absurd h List.not_mem_nil)⟩)
theorem kJ2_grow_2_14 (z : XKT) : XOi z xInf Y_J2_grow_2 14 (.inl (i_push (vR (some (z.2.1 14))) 17)) := ok_gets dJ2_grow_2_14 q705 (List.mem_of_getElem? (l := xSts) (i := 12) rfl)
theorem kJ2_grow_2_17 (z : XKT) : XOi z xInf Y_J2_grow_2 17 (.inl (i_acmpeq 45 20)) := ok_acmp_eq dJ2_grow_2_17 rfl
theorem kJ2_grow_2_20 (z : XKT) : XOi z xInf Y_J2_grow_2 20 (.inl (i_iload 2 21)) := ok_iload_n dJ2_grow_2_20 rfl
theorem kJ2_grow_2_21 (z : XKT) : XOi z xInf Y_J2_grow_2 21 (.inl (i_iload 1 22)) := ok_iload_n dJ2_grow_2_21 rfl
theorem kJ2_grow_2_22 (z : XKT) : XOi z xInf Y_J2_grow_2 22 (.inl (i_iload 2 23)) := ok_iload_n dJ2_grow_2_22 rfl
theorem kJ2_grow_2_23 (z : XKT) : XOi z xInf Y_J2_grow_2 23 (.inl (i_bin (fun x y => x - y) 24)) := ok_isub dJ2_grow_2_23
theorem kJ2_grow_2_24 (z : XKT) : XOi z xInf Y_J2_grow_2 24 (.inl (i_iload 2 25)) := ok_iload_n dJ2_grow_2_24 rfl
theorem kJ2_grow_2_25 (z : XKT) : XOi z xInf Y_J2_grow_2 25 (.inl (i_push (vI 1) 26)) := ok_iconst dJ2_grow_2_25 rfl
theorem kJ2_grow_2_26 (z : XKT) : XOi z xInf Y_J2_grow_2 26 (.inl (i_bin (fun x y => x >>> (y &&& 31)) 27)) := ok_ishr dJ2_grow_2_26
theorem kJ2_grow_2_27 (z : XKT) : XOi z xInf Y_J2_grow_2 27 (.inr (.inl (30, g_stat 385 3))) := show XOkC z xInf Y_J2_grow_2 27 30 (g_stat 385 3) from okc_S (q := Y_J2_grow_2) (q1 := Y_J11_newLength) Z_J11_newLength rfl (by decide) dJ2_grow_2_27 q707 q305 q138 q306 hy_376
theorem kJ2_grow_2_30 (z : XKT) : XOi z xInf Y_J2_grow_2 30 (.inl (i_istore 3 31)) := ok_istore_n dJ2_grow_2_30 rfl
theorem kJ2_grow_2_31 (z : XKT) : XOi z xInf Y_J2_grow_2 31 (.inl (i_aload 0 32)) := ok_aload_n dJ2_grow_2_31 rfl
theorem kJ2_grow_2_32 (z : XKT) : XOi z xInf Y_J2_grow_2 32 (.inl (i_aload 0 33)) := ok_aload_n dJ2_grow_2_32 rfl
theorem kJ2_grow_2_33 (z : XKT) : XOi z xInf Y_J2_grow_2 33 (.inl (i_getr [12] 86 36)) := ok_getr dJ2_grow_2_33 q525 (List.forall_mem_cons.mpr ⟨⟨_, _, _, _, fd_86_12_0⟩, (fun _ h => absurd h List.not_mem_nil)⟩)
theorem kJ2_grow_2_36 (z : XKT) : XOi z xInf Y_J2_grow_2 36 (.inl (i_iload 3 37)) := ok_iload_n dJ2_grow_2_36 rfl
theorem kJ2_grow_2_40 (z : XKT) : XOi z xInf Y_J2_grow_2 40 (.inl (i_dupx1 41)) := ok_dup_x1 dJ2_grow_2_40
theorem kJ2_grow_2_41 (z : XKT) : XOi z xInf Y_J2_grow_2 41 (.inl (i_putr z.1 [12] 86 44)) := ok_putr dJ2_grow_2_41 q525 (List.forall_mem_cons.mpr ⟨⟨_, _, _, _, tyJ2, fd_86_12_0, ⟨tyJ2_ok, nmJ2, (Or.inl rfl)⟩, (Or.inr ⟨_, rfl⟩)⟩, (fun _ h => absurd h List.not_mem_nil)⟩)
theorem kJ2_grow_2_44 (z : XKT) : XOi z xInf Y_J2_grow_2 44 (.inr (.inr (.inl r_a))) := show XOkR Y_J2_grow_2 44 (r_a) from okr_a (q := Y_J2_grow_2) rfl (Or.inr ⟨_, rfl⟩) dJ2_grow_2_44
theorem kJ2_grow_2_45 (z : XKT) : XOi z xInf Y_J2_grow_2 45 (.inl (i_aload 0 46)) := ok_aload_n dJ2_grow_2_45 rfl
theorem kJ2_grow_2_46 (z : XKT) : XOi z xInf Y_J2_grow_2 46 (.inl (i_push (vI 10) 48)) := ok_bipush dJ2_grow_2_46 rfl
theorem kJ2_grow_2_48 (z : XKT) : XOi z xInf Y_J2_grow_2 48 (.inl (i_iload 1 49)) := ok_iload_n dJ2_grow_2_48 rfl
theorem kJ2_grow_2_49 (z : XKT) : XOi z xInf Y_J2_grow_2 49 (.inr (.inl (52, g_stat 388 2))) := show XOkC z xInf Y_J2_grow_2 49 52 (g_stat 388 2) from okc_S (q := Y_J2_grow_2) (q1 := Y_J12_max) Z_J12_max rfl (by decide) dJ2_grow_2_49 q751 q308 q139 q309 hy_149
theorem kJ2_grow_2_52 (z : XKT) : XOi z xInf Y_J2_grow_2 52 (.inl (i_nar 1003 55)) := ok_nar dJ2_grow_2_52 q205 q206 (List.mem_of_getElem? (l := xArs) (i := 3) rfl) (by decide)
theorem kJ2_grow_2_55 (z : XKT) : XOi z xInf Y_J2_grow_2 55 (.inl (i_dupx1 56)) := ok_dup_x1 dJ2_grow_2_55
theorem kJ2_grow_2_56 (z : XKT) : XOi z xInf Y_J2_grow_2 56 (.inl (i_putr z.1 [12] 86 59)) := ok_putr dJ2_grow_2_56 q525 (List.forall_mem_cons.mpr ⟨⟨_, _, _, _, tyJ2, fd_86_12_0, ⟨tyJ2_ok, nmJ2, (Or.inl rfl)⟩, (Or.inr ⟨_, rfl⟩)⟩, (fun _ h => absurd h List.not_mem_nil)⟩)
theorem kJ2_grow_2_59 (z : XKT) : XOi z xInf Y_J2_grow_2 59 (.inr (.inr (.inl r_a))) := show XOkR Y_J2_grow_2 59 (r_a) from okr_a (q := Y_J2_grow_2) rfl (Or.inr ⟨_, rfl⟩) dJ2_grow_2_59
theorem o_J2_grow_2 (z : XKT) : XMi z xInf Y_J2_grow_2 := XMi.mk9 (T := T_J2_grow_2 z) rfl (⟨kJ2_grow_2_0 z, ⟨kJ2_grow_2_1 z, ⟨kJ2_grow_2_4 z, ⟨kJ2_grow_2_5 z, ⟨kJ2_grow_2_6 z, ⟨kJ2_grow_2_7 z, ⟨kJ2_grow_2_10 z, ⟨kJ2_grow_2_11 z, ⟨kJ2_grow_2_14 z, ⟨kJ2_grow_2_17 z, ⟨kJ2_grow_2_20 z, ⟨kJ2_grow_2_21 z, ⟨kJ2_grow_2_22 z, ⟨kJ2_grow_2_23 z, ⟨kJ2_grow_2_24 z, ⟨kJ2_grow_2_25 z, ⟨kJ2_grow_2_26 z, ⟨kJ2_grow_2_27 z, ⟨kJ2_grow_2_30 z, ⟨kJ2_grow_2_31 z, ⟨kJ2_grow_2_32 z, ⟨kJ2_grow_2_33 z, ⟨kJ2_grow_2_36 z, ⟨kJ2_grow_2_40 z, ⟨kJ2_grow_2_41 z, ⟨kJ2_grow_2_44 z, ⟨kJ2_grow_2_45 z, ⟨kJ2_grow_2_46 z, ⟨kJ2_grow_2_48 z, ⟨kJ2_grow_2_49 z, ⟨kJ2_grow_2_52 z, ⟨kJ2_grow_2_55 z, ⟨kJ2_grow_2_56 z, ⟨kJ2_grow_2_59 z, trivial⟩⟩⟩⟩⟩⟩⟩⟩⟩⟩⟩⟩⟩⟩⟩⟩⟩⟩⟩⟩⟩⟩⟩⟩⟩⟩⟩⟩⟩⟩⟩⟩⟩⟩) (hd_J2_grow_2 z) rfl rfl (by decide +kernel)
theorem hd_J2_init (z : XKT) : XHd z Y_J2_init := xHd_none rfl (xhd0 rfl)
theorem kJ2_init_0 (z : XKT) : XOi z xInf Y_J2_init 0 (.inl (i_aload 0 1)) := ok_aload_n dJ2_init_0 rfl
theorem kJ2_init_1 (z : XKT) : XOi z xInf Y_J2_init 1 (.inr (.inl (4, g_spec 341 0))) := show XOkC z xInf Y_J2_init 1 4 (g_spec 341 0) from okc_I (q := Y_J2_init) (q1 := Y_J1_init) Z_J1_init rfl rfl rfl (by decide) dJ2_init_1 q198 q199 q128 q200 hy_377
theorem kJ2_init_4 (z : XKT) : XOi z xInf Y_J2_init 4 (.inl (i_iload 1 5)) := ok_iload_n dJ2_init_4 rfl
theorem kJ2_init_5 (z : XKT) : XOi z xInf Y_J2_init 5 (.inl (i_if (fun x => x ≤ 0) 19 8)) := ok_if_le dJ2_init_5 rfl
theorem kJ2_init_8 (z : XKT) : XOi z xInf Y_J2_init 8 (.inl (i_aload 0 9)) := ok_aload_n dJ2_init_8 rfl
theorem kJ2_init_9 (z : XKT) : XOi z xInf Y_J2_init 9 (.inl (i_iload 1 10)) := ok_iload_n dJ2_init_9 rfl
theorem kJ2_init_10 (z : XKT) : XOi z xInf Y_J2_init 10 (.inl (i_nar 1003 13)) := ok_nar dJ2_init_10 q205 q206 (List.mem_of_getElem? (l := xArs) (i := 3) rfl) (by decide)
theorem kJ2_init_13 (z : XKT) : XOi z xInf Y_J2_init 13 (.inl (i_putr z.1 [12] 86 16)) := ok_putr dJ2_init_13 q525 (List.forall_mem_cons.mpr ⟨⟨_, _, _, _, tyJ2, fd_86_12_0, ⟨tyJ2_ok, nmJ2, (Or.inl rfl)⟩, (Or.inr ⟨_, rfl⟩)⟩, (fun _ h => absurd h List.not_mem_nil)⟩)
theorem kJ2_init_16 (z : XKT) : XOi z xInf Y_J2_init 16 (.inl (i_goto 60)) := ok_goto dJ2_init_16 rfl
theorem kJ2_init_19 (z : XKT) : XOi z xInf Y_J2_init 19 (.inl (i_iload 1 20)) := ok_iload_n dJ2_init_19 rfl
theorem kJ2_init_20 (z : XKT) : XOi z xInf Y_J2_init 20 (.inl (i_if (fun x => ¬ x = 0) 33 23)) := ok_if_ne dJ2_init_20 rfl
theorem kJ2_init_23 (z : XKT) : XOi z xInf Y_J2_init 23 (.inl (i_aload 0 24)) := ok_aload_n dJ2_init_23 rfl
theorem kJ2_init_24 (z : XKT) : XOi z xInf Y_J2_init 24 (.inl (i_push (vR (some (z.2.1 15))) 27)) := ok_gets dJ2_init_24 q207 (List.mem_of_getElem? (l := xSts) (i := 13) rfl)
theorem kJ2_init_27 (z : XKT) : XOi z xInf Y_J2_init 27 (.inl (i_putr z.1 [12] 86 30)) := ok_putr dJ2_init_27 q525 (List.forall_mem_cons.mpr ⟨⟨_, _, _, _, tyJ2, fd_86_12_0, ⟨tyJ2_ok, nmJ2, (Or.inl rfl)⟩, (Or.inr ⟨_, rfl⟩)⟩, (fun _ h => absurd h List.not_mem_nil)⟩)
theorem kJ2_init_30 (z : XKT) : XOi z xInf Y_J2_init 30 (.inl (i_goto 60)) := ok_goto dJ2_init_30 rfl
theorem kJ2_init_36 (z : XKT) : XOi z xInf Y_J2_init 36 (.inl (i_dup 37)) := ok_dup dJ2_init_36
theorem kJ2_init_37 (z : XKT) : XOi z xInf Y_J2_init 37 (.inl (i_new 19 4 40)) := ok_new dJ2_init_37 q250 q251 q135 (List.mem_of_getElem? (l := xCls) (i := 18) rfl) rfl in_J8 tyJ8_ok rfl (by decide) (by decide)
theorem kJ2_init_40 (z : XKT) : XOi z xInf Y_J2_init 40 (.inl (i_dup 41)) := ok_dup dJ2_init_40
theorem kJ2_init_41 (z : XKT) : XOi z xInf Y_J2_init 41 (.inr (.inl (44, g_spec 370 0))) := show XOkC z xInf Y_J2_init 41 44 (g_spec 370 0) from okc_I (q := Y_J2_init) (q1 := Y_J8_init) Z_J8_init rfl rfl rfl (by decide) dJ2_init_41 q252 q253 q135 q254 hy_179
theorem kJ2_init_44 (z : XKT) : XOi z xInf Y_J2_init 44 (.inl (i_push (vR (some (z.2.1 19))) 46)) := ok_ldcs dJ2_init_44 (List.mem_of_getElem? (l := xStr) (i := 30) rfl)
theorem kJ2_init_46 (z : XKT) : XOi z xInf Y_J2_init 46 (.inr (.inl (49, g_virt [(19, 367)] 1))) := show XOkC z xInf Y_J2_init 46 49 (g_virt [(19, 367)] 1) from okc_V (q := Y_J2_init) (List.forall_mem_cons.mpr ⟨(show XOkV z xInf Y_J2_init 46 49 1 (19, 367) from okv_V (q := Y_J2_init) (q1 := Y_J8_append) Z_J8_append rfl (by decide) ⟨by decide, by decide, Or.inl ⟨_, _, (List.mem_of_getElem? (l := xCls) (i := 18) rfl)⟩⟩ dJ2_init_46 q285 q286 q287 q135 q288 hy_378), (fun _ h => absurd h List.not_mem_nil)⟩)
theorem kJ2_init_49 (z : XKT) : XOi z xInf Y_J2_init 49 (.inl (i_iload 1 50)) := ok_iload_n dJ2_init_49 rfl
theorem kJ2_init_50 (z : XKT) : XOi z xInf Y_J2_init 50 (.inr (.inl (53, g_virt [(19, 368)] 1))) := show XOkC z xInf Y_J2_init 50 53 (g_virt [(19, 368)] 1) from okc_V (q := Y_J2_init) (List.forall_mem_cons.mpr ⟨(show XOkV z xInf Y_J2_init 50 53 1 (19, 368) from okv_V (q := Y_J2_init) (q1 := Y_J8_append_2) Z_J8_append_2 rfl (by decide) ⟨by decide, by decide, Or.inl ⟨_, _, (List.mem_of_getElem? (l := xCls) (i := 18) rfl)⟩⟩ dJ2_init_50 q405 q406 q407 q135 q408 hy_183), (fun _ h => absurd h List.not_mem_nil)⟩)
theorem kJ2_init_53 (z : XKT) : XOi z xInf Y_J2_init 53 (.inr (.inl (56, g_virt [(19, 373)] 0))) := show XOkC z xInf Y_J2_init 53 56 (g_virt [(19, 373)] 0) from okc_V (q := Y_J2_init) (List.forall_mem_cons.mpr ⟨(show XOkV z xInf Y_J2_init 53 56 0 (19, 373) from okv_V (q := Y_J2_init) (q1 := Y_J8_toString) Z_J8_toString rfl (by decide) ⟨by decide, by decide, Or.inl ⟨_, _, (List.mem_of_getElem? (l := xCls) (i := 18) rfl)⟩⟩ dJ2_init_53 q430 q431 q432 q135 q433 hy_184), (fun _ h => absurd h List.not_mem_nil)⟩)
theorem kJ2_init_60 (z : XKT) : XOi z xInf Y_J2_init 60 (.inr (.inr (.inl r_v))) := show XOkR Y_J2_init 60 (r_v) from okr_v (q := Y_J2_init) rfl dJ2_init_60
theorem o_J2_init (z : XKT) : XMi z xInf Y_J2_init := XMi.mk9 (T := T_J2_init z) rfl (⟨kJ2_init_0 z, ⟨kJ2_init_1 z, ⟨kJ2_init_4 z, ⟨kJ2_init_5 z, ⟨kJ2_init_8 z, ⟨kJ2_init_9 z, ⟨kJ2_init_10 z, ⟨kJ2_init_13 z, ⟨kJ2_init_16 z, ⟨kJ2_init_19 z, ⟨kJ2_init_20 z, ⟨kJ2_init_23 z, ⟨kJ2_init_24 z, ⟨kJ2_init_27 z, ⟨kJ2_init_30 z, ⟨kJ2_init_36 z, ⟨kJ2_init_37 z, ⟨kJ2_init_40 z, ⟨kJ2_init_41 z, ⟨kJ2_init_44 z, ⟨kJ2_init_46 z, ⟨kJ2_init_49 z, ⟨kJ2_init_50 z, ⟨kJ2_init_53 z, ⟨kJ2_init_60 z, trivial⟩⟩⟩⟩⟩⟩⟩⟩⟩⟩⟩⟩⟩⟩⟩⟩⟩⟩⟩⟩⟩⟩⟩⟩⟩) (hd_J2_init z) rfl rfl (by decide +kernel)
theorem hd_J2_init_2 (z : XKT) : XHd z Y_J2_init_2 := xHd_none rfl (xhd0 rfl)
theorem kJ2_init_2_0 (z : XKT) : XOi z xInf Y_J2_init_2 0 (.inl (i_aload 0 1)) := ok_aload_n dJ2_init_2_0 rfl
theorem kJ2_init_2_1 (z : XKT) : XOi z xInf Y_J2_init_2 1 (.inr (.inl (4, g_spec 341 0))) := show XOkC z xInf Y_J2_init_2 1 4 (g_spec 341 0) from okc_I (q := Y_J2_init_2) (q1 := Y_J1_init) Z_J1_init rfl rfl rfl (by decide) dJ2_init_2_1 q198 q199 q128 q200 hy_377
theorem kJ2_init_2_4 (z : XKT) : XOi z xInf Y_J2_init_2 4 (.inl (i_aload 0 5)) := ok_aload_n dJ2_init_2_4 rfl
theorem kJ2_init_2_5 (z : XKT) : XOi z xInf Y_J2_init_2 5 (.inl (i_push (vR (some (z.2.1 14))) 8)) := ok_gets dJ2_init_2_5 q705 (List.mem_of_getElem? (l := xSts) (i := 12) rfl)
theorem kJ2_init_2_8 (z : XKT) : XOi z xInf Y_J2_init_2 8 (.inl (i_putr z.1 [12] 86 11)) := ok_putr dJ2_init_2_8 q525 (List.forall_mem_cons.mpr ⟨⟨_, _, _, _, tyJ2, fd_86_12_0, ⟨tyJ2_ok, nmJ2, (Or.inl rfl)⟩, (Or.inr ⟨_, rfl⟩)⟩, (fun _ h => absurd h List.not_mem_nil)⟩)
theorem kJ2_init_2_11 (z : XKT) : XOi z xInf Y_J2_init_2 11 (.inr (.inr (.inl r_v))) := show XOkR Y_J2_init_2 11 (r_v) from okr_v (q := Y_J2_init_2) rfl dJ2_init_2_11
theorem o_J2_init_2 (z : XKT) : XMi z xInf Y_J2_init_2 := XMi.mk9 (T := T_J2_init_2 z) rfl (⟨kJ2_init_2_0 z, ⟨kJ2_init_2_1 z, ⟨kJ2_init_2_4 z, ⟨kJ2_init_2_5 z, ⟨kJ2_init_2_8 z, ⟨kJ2_init_2_11 z, trivial⟩⟩⟩⟩⟩⟩) (hd_J2_init_2 z) rfl rfl (by decide +kernel)
theorem hd_J2_iterator (z : XKT) : XHd z Y_J2_iterator := xHd_none rfl (xhd0 rfl)
theorem kJ2_iterator_0 (z : XKT) : XOi z xInf Y_J2_iterator 0 (.inl (i_new 16 4 3)) := ok_new dJ2_iterator_0 q869 q870 q157 (List.mem_of_getElem? (l := xCls) (i := 15) rfl) rfl in_J23 tyJ23_ok rfl (by decide) (by decide)
theorem kJ2_iterator_3 (z : XKT) : XOi z xInf Y_J2_iterator 3 (.inl (i_dup 4)) := ok_dup dJ2_iterator_3
theorem kJ2_iterator_4 (z : XKT) : XOi z xInf Y_J2_iterator 4 (.inl (i_aload 0 5)) := ok_aload_n dJ2_iterator_4 rfl
theorem kJ2_iterator_5 (z : XKT) : XOi z xInf Y_J2_iterator 5 (.inr (.inl (8, g_spec 447 1))) := show XOkC z xInf Y_J2_iterator 5 8 (g_spec 447 1) from okc_I (q := Y_J2_iterator) (q1 := Y_J23_init) Z_J23_init rfl rfl rfl (by decide) dJ2_iterator_5 q871 q872 q157 q873 hy_379
theorem kJ2_iterator_8 (z : XKT) : XOi z xInf Y_J2_iterator 8 (.inr (.inr (.inl r_a))) := show XOkR Y_J2_iterator 8 (r_a) from okr_a (q := Y_J2_iterator) rfl (Or.inl ⟨_, rfl⟩) dJ2_iterator_8
theorem o_J2_iterator (z : XKT) : XMi z xInf Y_J2_iterator := XMi.mk9 (T := T_J2_iterator z) rfl (⟨kJ2_iterator_0 z, ⟨kJ2_iterator_3 z, ⟨kJ2_iterator_4 z, ⟨kJ2_iterator_5 z, ⟨kJ2_iterator_8 z, trivial⟩⟩⟩⟩⟩) (hd_J2_iterator z) rfl rfl (by decide +kernel)
theorem hd_J2_size (z : XKT) : XHd z Y_J2_size := xHd_none rfl (xhd0 rfl)
theorem kJ2_size_0 (z : XKT) : XOi z xInf Y_J2_size 0 (.inl (i_aload 0 1)) := ok_aload_n dJ2_size_0 rfl
theorem kJ2_size_1 (z : XKT) : XOi z xInf Y_J2_size 1 (.inl (i_geti [12] 87 4)) := ok_geti dJ2_size_1 q528 (List.forall_mem_cons.mpr ⟨⟨_, _, _, _, fd_87_12_0⟩, (fun _ h => absurd h List.not_mem_nil)⟩)
theorem kJ2_size_4 (z : XKT) : XOi z xInf Y_J2_size 4 (.inr (.inr (.inl (r_i .int)))) := show XOkR Y_J2_size 4 ((r_i .int)) from okr_i (q := Y_J2_size) (ty := .int) rfl rfl dJ2_size_4
theorem o_J2_size (z : XKT) : XMi z xInf Y_J2_size := XMi.mk9 (T := T_J2_size z) rfl (⟨kJ2_size_0 z, ⟨kJ2_size_1 z, ⟨kJ2_size_4 z, trivial⟩⟩⟩) (hd_J2_size z) rfl rfl (by decide +kernel)
theorem hd_J3_init_4 (z : XKT) : XHd z Y_J3_init_4 := xHd_none rfl (xhd0 rfl)
theorem kJ3_init_4_0 (z : XKT) : XOi z xInf Y_J3_init_4 0 (.inl (i_aload 0 1)) := ok_aload_n dJ3_init_4_0 rfl
theorem kJ3_init_4_1 (z : XKT) : XOi z xInf Y_J3_init_4 1 (.inl (i_oinit 4)) := ok_oinit dJ3_init_4_1 q234 q179 q180
theorem kJ3_init_4_4 (z : XKT) : XOi z xInf Y_J3_init_4 4 (.inl (i_aload 0 5)) := ok_aload_n dJ3_init_4_4 rfl
theorem kJ3_init_4_5 (z : XKT) : XOi z xInf Y_J3_init_4 5 (.inl (i_aload 0 6)) := ok_aload_n dJ3_init_4_5 rfl
theorem kJ3_init_4_6 (z : XKT) : XOi z xInf Y_J3_init_4 6 (.inl (i_putr z.1 [6] 68 9)) := ok_putr dJ3_init_4_6 q487 (List.forall_mem_cons.mpr ⟨⟨_, _, _, _, tyX7, fd_68_6_0, ⟨tyX7_ok, nmX7, (Or.inl rfl)⟩, (Or.inl ⟨_, rfl⟩)⟩, (fun _ h => absurd h List.not_mem_nil)⟩)
theorem kJ3_init_4_9 (z : XKT) : XOi z xInf Y_J3_init_4 9 (.inl (i_aload 0 10)) := ok_aload_n dJ3_init_4_9 rfl
theorem kJ3_init_4_10 (z : XKT) : XOi z xInf Y_J3_init_4 10 (.inl (i_push (vR (z.2.2.1 13)) 13)) := ok_getsU dJ3_init_4_10 q235 (List.mem_of_getElem? (l := xStn) (i := 1) rfl)
theorem kJ3_init_4_13 (z : XKT) : XOi z xInf Y_J3_init_4 13 (.inl (i_putr z.1 [6] 69 16)) := ok_putr dJ3_init_4_13 q488 (List.forall_mem_cons.mpr ⟨⟨_, _, _, _, tyX7, fd_69_6_0, ⟨tyX7_ok, nmX7, (Or.inl rfl)⟩, (Or.inr ⟨_, rfl⟩)⟩, (fun _ h => absurd h List.not_mem_nil)⟩)
theorem kJ3_init_4_16 (z : XKT) : XOi z xInf Y_J3_init_4 16 (.inl (i_aload 0 17)) := ok_aload_n dJ3_init_4_16 rfl
theorem kJ3_init_4_17 (z : XKT) : XOi z xInf Y_J3_init_4 17 (.inl (i_push (vR (z.2.2.1 12)) 20)) := ok_getsU dJ3_init_4_17 q237 (List.mem_of_getElem? (l := xStn) (i := 0) rfl)
theorem kJ3_init_4_20 (z : XKT) : XOi z xInf Y_J3_init_4 20 (.inl (i_putr z.1 [6] 70 23)) := ok_putr dJ3_init_4_20 q489 (List.forall_mem_cons.mpr ⟨⟨_, _, _, _, tyX7, fd_70_6_0, ⟨tyX7_ok, nmX7, (Or.inl rfl)⟩, (Or.inl ⟨_, rfl⟩)⟩, (fun _ h => absurd h List.not_mem_nil)⟩)
theorem kJ3_init_4_23 (z : XKT) : XOi z xInf Y_J3_init_4 23 (.inl (i_iload 4 25)) := ok_iload dJ3_init_4_23
theorem kJ3_init_4_25 (z : XKT) : XOi z xInf Y_J3_init_4 25 (.inl (i_if (fun x => x = 0) 36 28)) := ok_if_eq dJ3_init_4_25 rfl
theorem kJ3_init_4_28 (z : XKT) : XOi z xInf Y_J3_init_4 28 (.inl (i_aload 0 29)) := ok_aload_n dJ3_init_4_28 rfl
theorem kJ3_init_4_32 (z : XKT) : XOi z xInf Y_J3_init_4 32 (.inl (i_pop 33)) := ok_pop dJ3_init_4_32
theorem kJ3_init_4_33 (z : XKT) : XOi z xInf Y_J3_init_4 33 (.inl (i_goto 41)) := ok_goto dJ3_init_4_33 rfl
theorem kJ3_init_4_36 (z : XKT) : XOi z xInf Y_J3_init_4 36 (.inl (i_aload 0 37)) := ok_aload_n dJ3_init_4_36 rfl
theorem kJ3_init_4_37 (z : XKT) : XOi z xInf Y_J3_init_4 37 (.inl (i_push (vR none) 38)) := ok_null dJ3_init_4_37
theorem kJ3_init_4_38 (z : XKT) : XOi z xInf Y_J3_init_4 38 (.inl (i_putr z.1 [6] 69 41)) := ok_putr dJ3_init_4_38 q488 (List.forall_mem_cons.mpr ⟨⟨_, _, _, _, tyX7, fd_69_6_0, ⟨tyX7_ok, nmX7, (Or.inl rfl)⟩, (Or.inr ⟨_, rfl⟩)⟩, (fun _ h => absurd h List.not_mem_nil)⟩)
theorem kJ3_init_4_41 (z : XKT) : XOi z xInf Y_J3_init_4 41 (.inl (i_aload 0 42)) := ok_aload_n dJ3_init_4_41 rfl
theorem kJ3_init_4_42 (z : XKT) : XOi z xInf Y_J3_init_4 42 (.inl (i_aload 1 43)) := ok_aload_n dJ3_init_4_42 rfl
theorem kJ3_init_4_43 (z : XKT) : XOi z xInf Y_J3_init_4 43 (.inl (i_putr z.1 [6] 71 46)) := ok_putr dJ3_init_4_43 q486 (List.forall_mem_cons.mpr ⟨⟨_, _, _, _, tyX7, fd_71_6_0, ⟨tyX7_ok, nmX7, (Or.inl rfl)⟩, (Or.inl ⟨_, rfl⟩)⟩, (fun _ h => absurd h List.not_mem_nil)⟩)
theorem kJ3_init_4_46 (z : XKT) : XOi z xInf Y_J3_init_4 46 (.inl (i_aload 0 47)) := ok_aload_n dJ3_init_4_46 rfl
theorem kJ3_init_4_47 (z : XKT) : XOi z xInf Y_J3_init_4 47 (.inl (i_aload 2 48)) := ok_aload_n dJ3_init_4_47 rfl
theorem kJ3_init_4_48 (z : XKT) : XOi z xInf Y_J3_init_4 48 (.inl (i_putr z.1 [6] 68 51)) := ok_putr dJ3_init_4_48 q487 (List.forall_mem_cons.mpr ⟨⟨_, _, _, _, tyX7, fd_68_6_0, ⟨tyX7_ok, nmX7, (Or.inl rfl)⟩, (Or.inl ⟨_, rfl⟩)⟩, (fun _ h => absurd h List.not_mem_nil)⟩)
theorem kJ3_init_4_51 (z : XKT) : XOi z xInf Y_J3_init_4 51 (.inl (i_iload 3 52)) := ok_iload_n dJ3_init_4_51 rfl
theorem kJ3_init_4_52 (z : XKT) : XOi z xInf Y_J3_init_4 52 (.inl (i_if (fun x => ¬ x = 0) 60 55)) := ok_if_ne dJ3_init_4_52 rfl
theorem kJ3_init_4_55 (z : XKT) : XOi z xInf Y_J3_init_4 55 (.inl (i_aload 0 56)) := ok_aload_n dJ3_init_4_55 rfl
theorem kJ3_init_4_56 (z : XKT) : XOi z xInf Y_J3_init_4 56 (.inl (i_push (vR none) 57)) := ok_null dJ3_init_4_56
theorem kJ3_init_4_57 (z : XKT) : XOi z xInf Y_J3_init_4 57 (.inl (i_putr z.1 [6] 70 60)) := ok_putr dJ3_init_4_57 q489 (List.forall_mem_cons.mpr ⟨⟨_, _, _, _, tyX7, fd_70_6_0, ⟨tyX7_ok, nmX7, (Or.inl rfl)⟩, (Or.inl ⟨_, rfl⟩)⟩, (fun _ h => absurd h List.not_mem_nil)⟩)
theorem kJ3_init_4_60 (z : XKT) : XOi z xInf Y_J3_init_4 60 (.inr (.inr (.inl r_v))) := show XOkR Y_J3_init_4 60 (r_v) from okr_v (q := Y_J3_init_4) rfl dJ3_init_4_60
theorem o_J3_init_4 (z : XKT) : XMi z xInf Y_J3_init_4 := XMi.mk9 (T := T_J3_init_4 z) rfl (⟨kJ3_init_4_0 z, ⟨kJ3_init_4_1 z, ⟨kJ3_init_4_4 z, ⟨kJ3_init_4_5 z, ⟨kJ3_init_4_6 z, ⟨kJ3_init_4_9 z, ⟨kJ3_init_4_10 z, ⟨kJ3_init_4_13 z, ⟨kJ3_init_4_16 z, ⟨kJ3_init_4_17 z, ⟨kJ3_init_4_20 z, ⟨kJ3_init_4_23 z, ⟨kJ3_init_4_25 z, ⟨kJ3_init_4_28 z, ⟨kJ3_init_4_32 z, ⟨kJ3_init_4_33 z, ⟨kJ3_init_4_36 z, ⟨kJ3_init_4_37 z, ⟨kJ3_init_4_38 z, ⟨kJ3_init_4_41 z, ⟨kJ3_init_4_42 z, ⟨kJ3_init_4_43 z, ⟨kJ3_init_4_46 z, ⟨kJ3_init_4_47 z, ⟨kJ3_init_4_48 z, ⟨kJ3_init_4_51 z, ⟨kJ3_init_4_52 z, ⟨kJ3_init_4_55 z, ⟨kJ3_init_4_56 z, ⟨kJ3_init_4_57 z, ⟨kJ3_init_4_60 z, trivial⟩⟩⟩⟩⟩⟩⟩⟩⟩⟩⟩⟩⟩⟩⟩⟩⟩⟩⟩⟩⟩⟩⟩⟩⟩⟩⟩⟩⟩⟩⟩) (hd_J3_init_4 z) rfl rfl (by decide +kernel)
theorem hd_J4_init_4 (z : XKT) : XHd z Y_J4_init_4 := xHd_none rfl (xhd0 rfl)
theorem kJ4_init_4_0 (z : XKT) : XOi z xInf Y_J4_init_4 0 (.inl (i_aload 0 1)) := ok_aload_n dJ4_init_4_0 rfl
theorem kJ4_init_4_1 (z : XKT) : XOi z xInf Y_J4_init_4 1 (.inl (i_aload 1 2)) := ok_aload_n dJ4_init_4_1 rfl
theorem kJ4_init_4_2 (z : XKT) : XOi z xInf Y_J4_init_4 2 (.inl (i_aload 2 3)) := ok_aload_n dJ4_init_4_2 rfl
theorem kJ4_init_4_3 (z : XKT) : XOi z xInf Y_J4_init_4 3 (.inl (i_iload 3 4)) := ok_iload_n dJ4_init_4_3 rfl
theorem kJ4_init_4_4 (z : XKT) : XOi z xInf Y_J4_init_4 4 (.inl (i_iload 4 6)) := ok_iload dJ4_init_4_4
theorem kJ4_init_4_6 (z : XKT) : XOi z xInf Y_J4_init_4 6 (.inr (.inl (9, g_spec 353 4))) := show XOkC z xInf Y_J4_init_4 6 9 (g_spec 353 4) from okc_I (q := Y_J4_init_4) (q1 := Y_J3_init_4) Z_J3_init_4 rfl rfl rfl (by decide) dJ4_init_4_6 q1900 q1901 q130 q1902 hy_380
theorem kJ4_init_4_9 (z : XKT) : XOi z xInf Y_J4_init_4 9 (.inr (.inr (.inl r_v))) := show XOkR Y_J4_init_4 9 (r_v) from okr_v (q := Y_J4_init_4) rfl dJ4_init_4_9
theorem o_J4_init_4 (z : XKT) : XMi z xInf Y_J4_init_4 := XMi.mk9 (T := T_J4_init_4 z) rfl (⟨kJ4_init_4_0 z, ⟨kJ4_init_4_1 z, ⟨kJ4_init_4_2 z, ⟨kJ4_init_4_3 z, ⟨kJ4_init_4_4 z, ⟨kJ4_init_4_6 z, ⟨kJ4_init_4_9 z, trivial⟩⟩⟩⟩⟩⟩⟩) (hd_J4_init_4 z) rfl rfl (by decide +kernel)
theorem hd_J7_append (z : XKT) : XHd z Y_J7_append := xHd_none rfl (xhd0 rfl)
theorem kJ7_append_0 (z : XKT) : XOi z xInf Y_J7_append 0 (.inl (i_aload 1 1)) := ok_aload_n dJ7_append_0 rfl
theorem kJ7_append_1 (z : XKT) : XOi z xInf Y_J7_append 1 (.inl (i_ifnull 4 9)) := ok_ifnonnull dJ7_append_1 rfl
theorem kJ7_append_4 (z : XKT) : XOi z xInf Y_J7_append 4 (.inl (i_aload 0 5)) := ok_aload_n dJ7_append_4 rfl
theorem kJ7_append_8 (z : XKT) : XOi z xInf Y_J7_append 8 (.inr (.inr (.inl r_a))) := show XOkR Y_J7_append 8 (r_a) from okr_a (q := Y_J7_append) rfl (Or.inl ⟨_, rfl⟩) dJ7_append_8
theorem kJ7_append_9 (z : XKT) : XOi z xInf Y_J7_append 9 (.inl (i_aload 1 10)) := ok_aload_n dJ7_append_9 rfl
theorem kJ7_append_10 (z : XKT) : XOi z xInf Y_J7_append 10 (.inr (.inl (13, g_virt [(20, 383)] 0))) := show XOkC z xInf Y_J7_append 10 13 (g_virt [(20, 383)] 0) from okc_V (q := Y_J7_append) (List.forall_mem_cons.mpr ⟨(show XOkV z xInf Y_J7_append 10 13 0 (20, 383) from okv_V (q := Y_J7_append) (q1 := Y_J9_length) Z_J9_length rfl (by decide) ⟨by decide, by decide, Or.inl ⟨_, _, (List.mem_of_getElem? (l := xCls) (i := 19) rfl)⟩⟩ dJ7_append_10 q362 q363 q364 q136 q365 hy_185), (fun _ h => absurd h List.not_mem_nil)⟩)
theorem kJ7_append_13 (z : XKT) : XOi z xInf Y_J7_append 13 (.inl (i_istore 2 14)) := ok_istore_n dJ7_append_13 rfl
theorem kJ7_append_14 (z : XKT) : XOi z xInf Y_J7_append 14 (.inl (i_aload 0 15)) := ok_aload_n dJ7_append_14 rfl
theorem kJ7_append_15 (z : XKT) : XOi z xInf Y_J7_append 15 (.inl (i_aload 0 16)) := ok_aload_n dJ7_append_15 rfl
theorem kJ7_append_16 (z : XKT) : XOi z xInf Y_J7_append 16 (.inl (i_geti [19] 112 19)) := ok_geti dJ7_append_16 q272 (List.forall_mem_cons.mpr ⟨⟨_, _, _, _, fd_112_19_0⟩, (fun _ h => absurd h List.not_mem_nil)⟩)
theorem kJ7_append_19 (z : XKT) : XOi z xInf Y_J7_append 19 (.inl (i_iload 2 20)) := ok_iload_n dJ7_append_19 rfl
theorem kJ7_append_20 (z : XKT) : XOi z xInf Y_J7_append 20 (.inl (i_bin (fun x y => x + y) 21)) := ok_iadd dJ7_append_20
theorem kJ7_append_21 (z : XKT) : XOi z xInf Y_J7_append 21 (.inr (.inl (24, g_virt [(19, 358)] 1))) := show XOkC z xInf Y_J7_append 21 24 (g_virt [(19, 358)] 1) from okc_V (q := Y_J7_append) (List.forall_mem_cons.mpr ⟨(show XOkV z xInf Y_J7_append 21 24 1 (19, 358) from okv_P (q := Y_J7_append) (q1 := Y_J7_ensureCapacityInternal) Z_J7_ensureCapacityInternal rfl (by decide) ⟨by decide, by decide, Or.inl ⟨_, _, (List.mem_of_getElem? (l := xCls) (i := 18) rfl)⟩⟩ dJ7_append_21 q296 q298 q297 q334 rfl q134 q299 hy_381), (fun _ h => absurd h List.not_mem_nil)⟩)
theorem kJ7_append_24 (z : XKT) : XOi z xInf Y_J7_append 24 (.inl (i_aload 0 25)) := ok_aload_n dJ7_append_24 rfl
theorem kJ7_append_25 (z : XKT) : XOi z xInf Y_J7_append 25 (.inl (i_aload 0 26)) := ok_aload_n dJ7_append_25 rfl
theorem kJ7_append_26 (z : XKT) : XOi z xInf Y_J7_append 26 (.inl (i_geti [19] 112 29)) := ok_geti dJ7_append_26 q272 (List.forall_mem_cons.mpr ⟨⟨_, _, _, _, fd_112_19_0⟩, (fun _ h => absurd h List.not_mem_nil)⟩)
theorem kJ7_append_29 (z : XKT) : XOi z xInf Y_J7_append 29 (.inl (i_aload 1 30)) := ok_aload_n dJ7_append_29 rfl
theorem kJ7_append_30 (z : XKT) : XOi z xInf Y_J7_append 30 (.inr (.inl (33, g_virt [(19, 365)] 2))) := show XOkC z xInf Y_J7_append 30 33 (g_virt [(19, 365)] 2) from okc_V (q := Y_J7_append) (List.forall_mem_cons.mpr ⟨(show XOkV z xInf Y_J7_append 30 33 2 (19, 365) from okv_P (q := Y_J7_append) (q1 := Y_J7_putStringAt) Z_J7_putStringAt rfl (by decide) ⟨by decide, by decide, Or.inl ⟨_, _, (List.mem_of_getElem? (l := xCls) (i := 18) rfl)⟩⟩ dJ7_append_30 q371 q373 q372 q334 rfl q134 q374 hy_382), (fun _ h => absurd h List.not_mem_nil)⟩)
theorem kJ7_append_33 (z : XKT) : XOi z xInf Y_J7_append 33 (.inl (i_aload 0 34)) := ok_aload_n dJ7_append_33 rfl
theorem kJ7_append_34 (z : XKT) : XOi z xInf Y_J7_append 34 (.inl (i_dup 35)) := ok_dup dJ7_append_34
theorem kJ7_append_35 (z : XKT) : XOi z xInf Y_J7_append 35 (.inl (i_geti [19] 112 38)) := ok_geti dJ7_append_35 q272 (List.forall_mem_cons.mpr ⟨⟨_, _, _, _, fd_112_19_0⟩, (fun _ h => absurd h List.not_mem_nil)⟩)
theorem kJ7_append_38 (z : XKT) : XOi z xInf Y_J7_append 38 (.inl (i_iload 2 39)) := ok_iload_n dJ7_append_38 rfl
theorem kJ7_append_39 (z : XKT) : XOi z xInf Y_J7_append 39 (.inl (i_bin (fun x y => x + y) 40)) := ok_iadd dJ7_append_39
theorem kJ7_append_40 (z : XKT) : XOi z xInf Y_J7_append 40 (.inl (i_puti z.1 [19] .int 112 43)) := ok_puti dJ7_append_40 q272 rfl (List.forall_mem_cons.mpr ⟨⟨_, _, _, _, tyJ8, fd_112_19_0, ⟨tyJ8_ok, nmJ8, (Or.inl rfl)⟩, rfl⟩, (fun _ h => absurd h List.not_mem_nil)⟩)
theorem kJ7_append_43 (z : XKT) : XOi z xInf Y_J7_append 43 (.inl (i_aload 0 44)) := ok_aload_n dJ7_append_43 rfl
theorem kJ7_append_44 (z : XKT) : XOi z xInf Y_J7_append 44 (.inr (.inr (.inl r_a))) := show XOkR Y_J7_append 44 (r_a) from okr_a (q := Y_J7_append) rfl (Or.inl ⟨_, rfl⟩) dJ7_append_44
theorem o_J7_append (z : XKT) : XMi z xInf Y_J7_append := XMi.mk9 (T := T_J7_append z) rfl (⟨kJ7_append_0 z, ⟨kJ7_append_1 z, ⟨kJ7_append_4 z, ⟨kJ7_append_8 z, ⟨kJ7_append_9 z, ⟨kJ7_append_10 z, ⟨kJ7_append_13 z, ⟨kJ7_append_14 z, ⟨kJ7_append_15 z, ⟨kJ7_append_16 z, ⟨kJ7_append_19 z, ⟨kJ7_append_20 z, ⟨kJ7_append_21 z, ⟨kJ7_append_24 z, ⟨kJ7_append_25 z, ⟨kJ7_append_26 z, ⟨kJ7_append_29 z, ⟨kJ7_append_30 z, ⟨kJ7_append_33 z, ⟨kJ7_append_34 z, ⟨kJ7_append_35 z, ⟨kJ7_append_38 z, ⟨kJ7_append_39 z, ⟨kJ7_append_40 z, ⟨kJ7_append_43 z, ⟨kJ7_append_44 z, trivial⟩⟩⟩⟩⟩⟩⟩⟩⟩⟩⟩⟩⟩⟩⟩⟩⟩⟩⟩⟩⟩⟩⟩⟩⟩⟩) (hd_J7_append z) rfl rfl (by decide +kernel)
theorem hd_J7_append_2 (z : XKT) : XHd z Y_J7_append_2 := xHd_none rfl (xhd0 rfl)
theorem kJ7_append_2_0 (z : XKT) : XOi z xInf Y_J7_append_2 0 (.inl (i_aload 0 1)) := ok_aload_n dJ7_append_2_0 rfl
theorem kJ7_append_2_1 (z : XKT) : XOi z xInf Y_J7_append_2 1 (.inl (i_geti [19] 112 4)) := ok_geti dJ7_append_2_1 q272 (List.forall_mem_cons.mpr ⟨⟨_, _, _, _, fd_112_19_0⟩, (fun _ h => absurd h List.not_mem_nil)⟩)
theorem kJ7_append_2_4 (z : XKT) : XOi z xInf Y_J7_append_2 4 (.inl (i_istore 2 5)) := ok_istore_n dJ7_append_2_4 rfl
theorem kJ7_append_2_5 (z : XKT) : XOi z xInf Y_J7_append_2 5 (.inl (i_iload 2 6)) := ok_iload_n dJ7_append_2_5 rfl
theorem kJ7_append_2_6 (z : XKT) : XOi z xInf Y_J7_append_2 6 (.inl (i_iload 1 7)) := ok_iload_n dJ7_append_2_6 rfl
theorem kJ7_append_2_7 (z : XKT) : XOi z xInf Y_J7_append_2 7 (.inr (.inl (10, g_stat 407 1))) := show XOkC z xInf Y_J7_append_2 7 10 (g_stat 407 1) from okc_S (q := Y_J7_append_2) (q1 := Y_J17_stringSize) Z_J17_stringSize rfl (by decide) dJ7_append_2_7 q412 q413 q145 q414 hy_383
theorem kJ7_append_2_10 (z : XKT) : XOi z xInf Y_J7_append_2 10 (.inl (i_bin (fun x y => x + y) 11)) := ok_iadd dJ7_append_2_10
theorem kJ7_append_2_11 (z : XKT) : XOi z xInf Y_J7_append_2 11 (.inl (i_istore 3 12)) := ok_istore_n dJ7_append_2_11 rfl
theorem kJ7_append_2_12 (z : XKT) : XOi z xInf Y_J7_append_2 12 (.inl (i_aload 0 13)) := ok_aload_n dJ7_append_2_12 rfl
theorem kJ7_append_2_13 (z : XKT) : XOi z xInf Y_J7_append_2 13 (.inl (i_iload 3 14)) := ok_iload_n dJ7_append_2_13 rfl
theorem kJ7_append_2_14 (z : XKT) : XOi z xInf Y_J7_append_2 14 (.inr (.inl (17, g_virt [(19, 358)] 1))) := show XOkC z xInf Y_J7_append_2 14 17 (g_virt [(19, 358)] 1) from okc_V (q := Y_J7_append_2) (List.forall_mem_cons.mpr ⟨(show XOkV z xInf Y_J7_append_2 14 17 1 (19, 358) from okv_P (q := Y_J7_append_2) (q1 := Y_J7_ensureCapacityInternal) Z_J7_ensureCapacityInternal rfl (by decide) ⟨by decide, by decide, Or.inl ⟨_, _, (List.mem_of_getElem? (l := xCls) (i := 18) rfl)⟩⟩ dJ7_append_2_14 q296 q298 q297 q334 rfl q134 q299 hy_381), (fun _ h => absurd h List.not_mem_nil)⟩)
theorem kJ7_append_2_17 (z : XKT) : XOi z xInf Y_J7_append_2 17 (.inl (i_aload 0 18)) := ok_aload_n dJ7_append_2_17 rfl
theorem kJ7_append_2_18 (z : XKT) : XOi z xInf Y_J7_append_2 18 (.inr (.inl (21, g_virt [(19, 362)] 0))) := show XOkC z xInf Y_J7_append_2 18 21 (g_virt [(19, 362)] 0) from okc_V (q := Y_J7_append_2) (List.forall_mem_cons.mpr ⟨(show XOkV z xInf Y_J7_append_2 18 21 0 (19, 362) from okv_V (q := Y_J7_append_2) (q1 := Y_J7_isLatin1) Z_J7_isLatin1 rfl (by decide) ⟨by decide, by decide, Or.inl ⟨_, _, (List.mem_of_getElem? (l := xCls) (i := 18) rfl)⟩⟩ dJ7_append_2_18 q331 q332 q334 q134 q335 hy_384), (fun _ h => absurd h List.not_mem_nil)⟩)
theorem kJ7_append_2_21 (z : XKT) : XOi z xInf Y_J7_append_2 21 (.inl (i_if (fun x => x = 0) 37 24)) := ok_if_eq dJ7_append_2_21 rfl
theorem kJ7_append_2_24 (z : XKT) : XOi z xInf Y_J7_append_2 24 (.inl (i_iload 1 25)) := ok_iload_n dJ7_append_2_24 rfl
theorem kJ7_append_2_25 (z : XKT) : XOi z xInf Y_J7_append_2 25 (.inl (i_iload 3 26)) := ok_iload_n dJ7_append_2_25 rfl
theorem kJ7_append_2_26 (z : XKT) : XOi z xInf Y_J7_append_2 26 (.inl (i_aload 0 27)) := ok_aload_n dJ7_append_2_26 rfl
theorem kJ7_append_2_27 (z : XKT) : XOi z xInf Y_J7_append_2 27 (.inl (i_getr [19] 109 30)) := ok_getr dJ7_append_2_27 q268 (List.forall_mem_cons.mpr ⟨⟨_, _, _, _, fd_109_19_0⟩, (fun _ h => absurd h List.not_mem_nil)⟩)
theorem kJ7_append_2_30 (z : XKT) : XOi z xInf Y_J7_append_2 30 (.inr (.inl (33, g_stat 403 3))) := show XOkC z xInf Y_J7_append_2 30 33 (g_stat 403 3) from okc_S (q := Y_J7_append_2) (q1 := Y_J17_getChars) Z_J17_getChars rfl (by decide) dJ7_append_2_30 q415 q416 q145 q417 hy_385
theorem kJ7_append_2_33 (z : XKT) : XOi z xInf Y_J7_append_2 33 (.inl (i_pop 34)) := ok_pop dJ7_append_2_33
theorem kJ7_append_2_34 (z : XKT) : XOi z xInf Y_J7_append_2 34 (.inl (i_goto 48)) := ok_goto dJ7_append_2_34 rfl
theorem kJ7_append_2_37 (z : XKT) : XOi z xInf Y_J7_append_2 37 (.inl (i_iload 1 38)) := ok_iload_n dJ7_append_2_37 rfl
theorem kJ7_append_2_38 (z : XKT) : XOi z xInf Y_J7_append_2 38 (.inl (i_iload 2 39)) := ok_iload_n dJ7_append_2_38 rfl
theorem kJ7_append_2_39 (z : XKT) : XOi z xInf Y_J7_append_2 39 (.inl (i_iload 3 40)) := ok_iload_n dJ7_append_2_39 rfl
theorem kJ7_append_2_40 (z : XKT) : XOi z xInf Y_J7_append_2 40 (.inl (i_aload 0 41)) := ok_aload_n dJ7_append_2_40 rfl
theorem kJ7_append_2_41 (z : XKT) : XOi z xInf Y_J7_append_2 41 (.inl (i_getr [19] 109 44)) := ok_getr dJ7_append_2_41 q268 (List.forall_mem_cons.mpr ⟨⟨_, _, _, _, fd_109_19_0⟩, (fun _ h => absurd h List.not_mem_nil)⟩)
theorem kJ7_append_2_47 (z : XKT) : XOi z xInf Y_J7_append_2 47 (.inl (i_pop 48)) := ok_pop dJ7_append_2_47
theorem kJ7_append_2_48 (z : XKT) : XOi z xInf Y_J7_append_2 48 (.inl (i_aload 0 49)) := ok_aload_n dJ7_append_2_48 rfl
theorem kJ7_append_2_49 (z : XKT) : XOi z xInf Y_J7_append_2 49 (.inl (i_iload 3 50)) := ok_iload_n dJ7_append_2_49 rfl
theorem kJ7_append_2_50 (z : XKT) : XOi z xInf Y_J7_append_2 50 (.inl (i_puti z.1 [19] .int 112 53)) := ok_puti dJ7_append_2_50 q272 rfl (List.forall_mem_cons.mpr ⟨⟨_, _, _, _, tyJ8, fd_112_19_0, ⟨tyJ8_ok, nmJ8, (Or.inl rfl)⟩, rfl⟩, (fun _ h => absurd h List.not_mem_nil)⟩)
theorem kJ7_append_2_53 (z : XKT) : XOi z xInf Y_J7_append_2 53 (.inl (i_aload 0 54)) := ok_aload_n dJ7_append_2_53 rfl
theorem kJ7_append_2_54 (z : XKT) : XOi z xInf Y_J7_append_2 54 (.inr (.inr (.inl r_a))) := show XOkR Y_J7_append_2 54 (r_a) from okr_a (q := Y_J7_append_2) rfl (Or.inl ⟨_, rfl⟩) dJ7_append_2_54
theorem o_J7_append_2 (z : XKT) : XMi z xInf Y_J7_append_2 := XMi.mk9 (T := T_J7_append_2 z) rfl (⟨kJ7_append_2_0 z, ⟨kJ7_append_2_1 z, ⟨kJ7_append_2_4 z, ⟨kJ7_append_2_5 z, ⟨kJ7_append_2_6 z, ⟨kJ7_append_2_7 z, ⟨kJ7_append_2_10 z, ⟨kJ7_append_2_11 z, ⟨kJ7_append_2_12 z, ⟨kJ7_append_2_13 z, ⟨kJ7_append_2_14 z, ⟨kJ7_append_2_17 z, ⟨kJ7_append_2_18 z, ⟨kJ7_append_2_21 z, ⟨kJ7_append_2_24 z, ⟨kJ7_append_2_25 z, ⟨kJ7_append_2_26 z, ⟨kJ7_append_2_27 z, ⟨kJ7_append_2_30 z, ⟨kJ7_append_2_33 z, ⟨kJ7_append_2_34 z, ⟨kJ7_append_2_37 z, ⟨kJ7_append_2_38 z, ⟨kJ7_append_2_39 z, ⟨kJ7_append_2_40 z, ⟨kJ7_append_2_41 z, ⟨kJ7_append_2_47 z, ⟨kJ7_append_2_48 z, ⟨kJ7_append_2_49 z, ⟨kJ7_append_2_50 z, ⟨kJ7_append_2_53 z, ⟨kJ7_append_2_54 z, trivial⟩⟩⟩⟩⟩⟩⟩⟩⟩⟩⟩⟩⟩⟩⟩⟩⟩⟩⟩⟩⟩⟩⟩⟩⟩⟩⟩⟩⟩⟩⟩⟩) (hd_J7_append_2 z) rfl rfl (by decide +kernel)
theorem hd_J7_append_3 (z : XKT) : XHd z Y_J7_append_3 := xHd_none rfl (xhd0 rfl)
theorem kJ7_append_3_0 (z : XKT) : XOi z xInf Y_J7_append_3 0 (.inl (i_aload 0 1)) := ok_aload_n dJ7_append_3_0 rfl
theorem kJ7_append_3_1 (z : XKT) : XOi z xInf Y_J7_append_3 1 (.inl (i_aload 0 2)) := ok_aload_n dJ7_append_3_1 rfl
theorem kJ7_append_3_2 (z : XKT) : XOi z xInf Y_J7_append_3 2 (.inl (i_geti [19] 112 5)) := ok_geti dJ7_append_3_2 q272 (List.forall_mem_cons.mpr ⟨⟨_, _, _, _, fd_112_19_0⟩, (fun _ h => absurd h List.not_mem_nil)⟩)
theorem kJ7_append_3_5 (z : XKT) : XOi z xInf Y_J7_append_3 5 (.inl (i_push (vI 1) 6)) := ok_iconst dJ7_append_3_5 rfl
theorem kJ7_append_3_6 (z : XKT) : XOi z xInf Y_J7_append_3 6 (.inl (i_bin (fun x y => x + y) 7)) := ok_iadd dJ7_append_3_6
theorem kJ7_append_3_7 (z : XKT) : XOi z xInf Y_J7_append_3 7 (.inr (.inl (10, g_virt [(19, 358)] 1))) := show XOkC z xInf Y_J7_append_3 7 10 (g_virt [(19, 358)] 1) from okc_V (q := Y_J7_append_3) (List.forall_mem_cons.mpr ⟨(show XOkV z xInf Y_J7_append_3 7 10 1 (19, 358) from okv_P (q := Y_J7_append_3) (q1 := Y_J7_ensureCapacityInternal) Z_J7_ensureCapacityInternal rfl (by decide) ⟨by decide, by decide, Or.inl ⟨_, _, (List.mem_of_getElem? (l := xCls) (i := 18) rfl)⟩⟩ dJ7_append_3_7 q296 q298 q297 q334 rfl q134 q299 hy_381), (fun _ h => absurd h List.not_mem_nil)⟩)
theorem kJ7_append_3_10 (z : XKT) : XOi z xInf Y_J7_append_3 10 (.inl (i_aload 0 11)) := ok_aload_n dJ7_append_3_10 rfl
theorem kJ7_append_3_11 (z : XKT) : XOi z xInf Y_J7_append_3 11 (.inr (.inl (14, g_virt [(19, 362)] 0))) := show XOkC z xInf Y_J7_append_3 11 14 (g_virt [(19, 362)] 0) from okc_V (q := Y_J7_append_3) (List.forall_mem_cons.mpr ⟨(show XOkV z xInf Y_J7_append_3 11 14 0 (19, 362) from okv_V (q := Y_J7_append_3) (q1 := Y_J7_isLatin1) Z_J7_isLatin1 rfl (by decide) ⟨by decide, by decide, Or.inl ⟨_, _, (List.mem_of_getElem? (l := xCls) (i := 18) rfl)⟩⟩ dJ7_append_3_11 q331 q332 q334 q134 q335 hy_384), (fun _ h => absurd h List.not_mem_nil)⟩)
theorem kJ7_append_3_14 (z : XKT) : XOi z xInf Y_J7_append_3 14 (.inl (i_if (fun x => x = 0) 45 17)) := ok_if_eq dJ7_append_3_14 rfl
theorem kJ7_append_3_17 (z : XKT) : XOi z xInf Y_J7_append_3 17 (.inl (i_iload 1 18)) := ok_iload_n dJ7_append_3_17 rfl
theorem kJ7_append_3_18 (z : XKT) : XOi z xInf Y_J7_append_3 18 (.inr (.inl (21, g_stat 396 1))) := show XOkC z xInf Y_J7_append_3 18 21 (g_stat 396 1) from okc_S (q := Y_J7_append_3) (q1 := Y_J15_canEncode) Z_J15_canEncode rfl (by decide) dJ7_append_3_18 q1819 q1820 q143 q1821 hy_386
theorem kJ7_append_3_21 (z : XKT) : XOi z xInf Y_J7_append_3 21 (.inl (i_if (fun x => x = 0) 45 24)) := ok_if_eq dJ7_append_3_21 rfl
theorem kJ7_append_3_24 (z : XKT) : XOi z xInf Y_J7_append_3 24 (.inl (i_aload 0 25)) := ok_aload_n dJ7_append_3_24 rfl
theorem kJ7_append_3_25 (z : XKT) : XOi z xInf Y_J7_append_3 25 (.inl (i_getr [19] 109 28)) := ok_getr dJ7_append_3_25 q268 (List.forall_mem_cons.mpr ⟨⟨_, _, _, _, fd_109_19_0⟩, (fun _ h => absurd h List.not_mem_nil)⟩)
theorem kJ7_append_3_28 (z : XKT) : XOi z xInf Y_J7_append_3 28 (.inl (i_aload 0 29)) := ok_aload_n dJ7_append_3_28 rfl
theorem kJ7_append_3_29 (z : XKT) : XOi z xInf Y_J7_append_3 29 (.inl (i_dup 30)) := ok_dup dJ7_append_3_29
theorem kJ7_append_3_30 (z : XKT) : XOi z xInf Y_J7_append_3 30 (.inl (i_geti [19] 112 33)) := ok_geti dJ7_append_3_30 q272 (List.forall_mem_cons.mpr ⟨⟨_, _, _, _, fd_112_19_0⟩, (fun _ h => absurd h List.not_mem_nil)⟩)
theorem kJ7_append_3_33 (z : XKT) : XOi z xInf Y_J7_append_3 33 (.inl (i_dupx1 34)) := ok_dup_x1 dJ7_append_3_33
theorem kJ7_append_3_34 (z : XKT) : XOi z xInf Y_J7_append_3 34 (.inl (i_push (vI 1) 35)) := ok_iconst dJ7_append_3_34 rfl
theorem kJ7_append_3_35 (z : XKT) : XOi z xInf Y_J7_append_3 35 (.inl (i_bin (fun x y => x + y) 36)) := ok_iadd dJ7_append_3_35
theorem kJ7_append_3_36 (z : XKT) : XOi z xInf Y_J7_append_3 36 (.inl (i_puti z.1 [19] .int 112 39)) := ok_puti dJ7_append_3_36 q272 rfl (List.forall_mem_cons.mpr ⟨⟨_, _, _, _, tyJ8, fd_112_19_0, ⟨tyJ8_ok, nmJ8, (Or.inl rfl)⟩, rfl⟩, (fun _ h => absurd h List.not_mem_nil)⟩)
theorem kJ7_append_3_39 (z : XKT) : XOi z xInf Y_J7_append_3 39 (.inl (i_iload 1 40)) := ok_iload_n dJ7_append_3_39 rfl
theorem kJ7_append_3_40 (z : XKT) : XOi z xInf Y_J7_append_3 40 (.inl (i_un (fun x => x.toInt8.toInt32) 41)) := ok_i2b dJ7_append_3_40
theorem kJ7_append_3_41 (z : XKT) : XOi z xInf Y_J7_append_3 41 (.inl (i_ast z.1 1001 (fun x => x.toInt8.toInt32) 42)) := ok_bast dJ7_append_3_41
theorem kJ7_append_3_42 (z : XKT) : XOi z xInf Y_J7_append_3 42 (.inl (i_goto 75)) := ok_goto dJ7_append_3_42 rfl
theorem kJ7_append_3_45 (z : XKT) : XOi z xInf Y_J7_append_3 45 (.inl (i_aload 0 46)) := ok_aload_n dJ7_append_3_45 rfl
theorem kJ7_append_3_46 (z : XKT) : XOi z xInf Y_J7_append_3 46 (.inr (.inl (49, g_virt [(19, 362)] 0))) := show XOkC z xInf Y_J7_append_3 46 49 (g_virt [(19, 362)] 0) from okc_V (q := Y_J7_append_3) (List.forall_mem_cons.mpr ⟨(show XOkV z xInf Y_J7_append_3 46 49 0 (19, 362) from okv_V (q := Y_J7_append_3) (q1 := Y_J7_isLatin1) Z_J7_isLatin1 rfl (by decide) ⟨by decide, by decide, Or.inl ⟨_, _, (List.mem_of_getElem? (l := xCls) (i := 18) rfl)⟩⟩ dJ7_append_3_46 q331 q332 q334 q134 q335 hy_384), (fun _ h => absurd h List.not_mem_nil)⟩)
theorem kJ7_append_3_49 (z : XKT) : XOi z xInf Y_J7_append_3 49 (.inl (i_if (fun x => x = 0) 56 52)) := ok_if_eq dJ7_append_3_49 rfl
theorem kJ7_append_3_52 (z : XKT) : XOi z xInf Y_J7_append_3 52 (.inl (i_aload 0 53)) := ok_aload_n dJ7_append_3_52 rfl
theorem kJ7_append_3_56 (z : XKT) : XOi z xInf Y_J7_append_3 56 (.inl (i_aload 0 57)) := ok_aload_n dJ7_append_3_56 rfl
theorem kJ7_append_3_57 (z : XKT) : XOi z xInf Y_J7_append_3 57 (.inl (i_getr [19] 109 60)) := ok_getr dJ7_append_3_57 q268 (List.forall_mem_cons.mpr ⟨⟨_, _, _, _, fd_109_19_0⟩, (fun _ h => absurd h List.not_mem_nil)⟩)
theorem kJ7_append_3_60 (z : XKT) : XOi z xInf Y_J7_append_3 60 (.inl (i_aload 0 61)) := ok_aload_n dJ7_append_3_60 rfl
theorem kJ7_append_3_61 (z : XKT) : XOi z xInf Y_J7_append_3 61 (.inl (i_dup 62)) := ok_dup dJ7_append_3_61
theorem kJ7_append_3_62 (z : XKT) : XOi z xInf Y_J7_append_3 62 (.inl (i_geti [19] 112 65)) := ok_geti dJ7_append_3_62 q272 (List.forall_mem_cons.mpr ⟨⟨_, _, _, _, fd_112_19_0⟩, (fun _ h => absurd h List.not_mem_nil)⟩)
theorem kJ7_append_3_65 (z : XKT) : XOi z xInf Y_J7_append_3 65 (.inl (i_dupx1 66)) := ok_dup_x1 dJ7_append_3_65
theorem kJ7_append_3_66 (z : XKT) : XOi z xInf Y_J7_append_3 66 (.inl (i_push (vI 1) 67)) := ok_iconst dJ7_append_3_66 rfl
theorem kJ7_append_3_67 (z : XKT) : XOi z xInf Y_J7_append_3 67 (.inl (i_bin (fun x y => x + y) 68)) := ok_iadd dJ7_append_3_67
theorem kJ7_append_3_68 (z : XKT) : XOi z xInf Y_J7_append_3 68 (.inl (i_puti z.1 [19] .int 112 71)) := ok_puti dJ7_append_3_68 q272 rfl (List.forall_mem_cons.mpr ⟨⟨_, _, _, _, tyJ8, fd_112_19_0, ⟨tyJ8_ok, nmJ8, (Or.inl rfl)⟩, rfl⟩, (fun _ h => absurd h List.not_mem_nil)⟩)
theorem kJ7_append_3_71 (z : XKT) : XOi z xInf Y_J7_append_3 71 (.inl (i_iload 1 72)) := ok_iload_n dJ7_append_3_71 rfl
theorem kJ7_append_3_75 (z : XKT) : XOi z xInf Y_J7_append_3 75 (.inl (i_aload 0 76)) := ok_aload_n dJ7_append_3_75 rfl
theorem kJ7_append_3_76 (z : XKT) : XOi z xInf Y_J7_append_3 76 (.inr (.inr (.inl r_a))) := show XOkR Y_J7_append_3 76 (r_a) from okr_a (q := Y_J7_append_3) rfl (Or.inl ⟨_, rfl⟩) dJ7_append_3_76
theorem o_J7_append_3 (z : XKT) : XMi z xInf Y_J7_append_3 := XMi.mk9 (T := T_J7_append_3 z) rfl (⟨kJ7_append_3_0 z, ⟨kJ7_append_3_1 z, ⟨kJ7_append_3_2 z, ⟨kJ7_append_3_5 z, ⟨kJ7_append_3_6 z, ⟨kJ7_append_3_7 z, ⟨kJ7_append_3_10 z, ⟨kJ7_append_3_11 z, ⟨kJ7_append_3_14 z, ⟨kJ7_append_3_17 z, ⟨kJ7_append_3_18 z, ⟨kJ7_append_3_21 z, ⟨kJ7_append_3_24 z, ⟨kJ7_append_3_25 z, ⟨kJ7_append_3_28 z, ⟨kJ7_append_3_29 z, ⟨kJ7_append_3_30 z, ⟨kJ7_append_3_33 z, ⟨kJ7_append_3_34 z, ⟨kJ7_append_3_35 z, ⟨kJ7_append_3_36 z, ⟨kJ7_append_3_39 z, ⟨kJ7_append_3_40 z, ⟨kJ7_append_3_41 z, ⟨kJ7_append_3_42 z, ⟨kJ7_append_3_45 z, ⟨kJ7_append_3_46 z, ⟨kJ7_append_3_49 z, ⟨kJ7_append_3_52 z, ⟨kJ7_append_3_56 z, ⟨kJ7_append_3_57 z, ⟨kJ7_append_3_60 z, ⟨kJ7_append_3_61 z, ⟨kJ7_append_3_62 z, ⟨kJ7_append_3_65 z, ⟨kJ7_append_3_66 z, ⟨kJ7_append_3_67 z, ⟨kJ7_append_3_68 z, ⟨kJ7_append_3_71 z, ⟨kJ7_append_3_75 z, ⟨kJ7_append_3_76 z, trivial⟩⟩⟩⟩⟩⟩⟩⟩⟩⟩⟩⟩⟩⟩⟩⟩⟩⟩⟩⟩⟩⟩⟩⟩⟩⟩⟩⟩⟩⟩⟩⟩⟩⟩⟩⟩⟩⟩⟩⟩⟩) (hd_J7_append_3 z) rfl rfl (by decide +kernel)
theorem hd_J7_ensureCapacityInternal (z : XKT) : XHd z Y_J7_ensureCapacityInternal := xHd_none rfl (xhd0 rfl)
theorem kJ7_ensureCapacityInternal_0 (z : XKT) : XOi z xInf Y_J7_ensureCapacityInternal 0 (.inl (i_aload 0 1)) := ok_aload_n dJ7_ensureCapacityInternal_0 rfl
theorem kJ7_ensureCapacityInternal_1 (z : XKT) : XOi z xInf Y_J7_ensureCapacityInternal 1 (.inl (i_getr [19] 109 4)) := ok_getr dJ7_ensureCapacityInternal_1 q268 (List.forall_mem_cons.mpr ⟨⟨_, _, _, _, fd_109_19_0⟩, (fun _ h => absurd h List.not_mem_nil)⟩)
theorem kJ7_ensureCapacityInternal_4 (z : XKT) : XOi z xInf Y_J7_ensureCapacityInternal 4 (.inl (i_alen 5)) := ok_alen dJ7_ensureCapacityInternal_4
theorem kJ7_ensureCapacityInternal_5 (z : XKT) : XOi z xInf Y_J7_ensureCapacityInternal 5 (.inl (i_aload 0 6)) := ok_aload_n dJ7_ensureCapacityInternal_5 rfl
theorem kJ7_ensureCapacityInternal_6 (z : XKT) : XOi z xInf Y_J7_ensureCapacityInternal 6 (.inl (i_geti [19] 110 9)) := ok_geti dJ7_ensureCapacityInternal_6 q269 (List.forall_mem_cons.mpr ⟨⟨_, _, _, _, fd_110_19_0⟩, (fun _ h => absurd h List.not_mem_nil)⟩)
theorem kJ7_ensureCapacityInternal_9 (z : XKT) : XOi z xInf Y_J7_ensureCapacityInternal 9 (.inl (i_bin (fun x y => x >>> (y &&& 31)) 10)) := ok_ishr dJ7_ensureCapacityInternal_9
theorem kJ7_ensureCapacityInternal_10 (z : XKT) : XOi z xInf Y_J7_ensureCapacityInternal 10 (.inl (i_istore 2 11)) := ok_istore_n dJ7_ensureCapacityInternal_10 rfl
theorem kJ7_ensureCapacityInternal_11 (z : XKT) : XOi z xInf Y_J7_ensureCapacityInternal 11 (.inl (i_iload 1 12)) := ok_iload_n dJ7_ensureCapacityInternal_11 rfl
theorem kJ7_ensureCapacityInternal_12 (z : XKT) : XOi z xInf Y_J7_ensureCapacityInternal 12 (.inl (i_iload 2 13)) := ok_iload_n dJ7_ensureCapacityInternal_12 rfl
theorem kJ7_ensureCapacityInternal_13 (z : XKT) : XOi z xInf Y_J7_ensureCapacityInternal 13 (.inl (i_bin (fun x y => x - y) 14)) := ok_isub dJ7_ensureCapacityInternal_13
theorem kJ7_ensureCapacityInternal_14 (z : XKT) : XOi z xInf Y_J7_ensureCapacityInternal 14 (.inl (i_if (fun x => x ≤ 0) 38 17)) := ok_if_le dJ7_ensureCapacityInternal_14 rfl
theorem kJ7_ensureCapacityInternal_17 (z : XKT) : XOi z xInf Y_J7_ensureCapacityInternal 17 (.inl (i_aload 0 18)) := ok_aload_n dJ7_ensureCapacityInternal_17 rfl
theorem kJ7_ensureCapacityInternal_18 (z : XKT) : XOi z xInf Y_J7_ensureCapacityInternal 18 (.inl (i_aload 0 19)) := ok_aload_n dJ7_ensureCapacityInternal_18 rfl
theorem kJ7_ensureCapacityInternal_19 (z : XKT) : XOi z xInf Y_J7_ensureCapacityInternal 19 (.inl (i_getr [19] 109 22)) := ok_getr dJ7_ensureCapacityInternal_19 q268 (List.forall_mem_cons.mpr ⟨⟨_, _, _, _, fd_109_19_0⟩, (fun _ h => absurd h List.not_mem_nil)⟩)
theorem kJ7_ensureCapacityInternal_22 (z : XKT) : XOi z xInf Y_J7_ensureCapacityInternal 22 (.inl (i_aload 0 23)) := ok_aload_n dJ7_ensureCapacityInternal_22 rfl
theorem kJ7_ensureCapacityInternal_23 (z : XKT) : XOi z xInf Y_J7_ensureCapacityInternal 23 (.inl (i_iload 1 24)) := ok_iload_n dJ7_ensureCapacityInternal_23 rfl
theorem kJ7_ensureCapacityInternal_24 (z : XKT) : XOi z xInf Y_J7_ensureCapacityInternal 24 (.inr (.inl (27, g_virt [(19, 364)] 1))) := show XOkC z xInf Y_J7_ensureCapacityInternal 24 27 (g_virt [(19, 364)] 1) from okc_V (q := Y_J7_ensureCapacityInternal) (List.forall_mem_cons.mpr ⟨(show XOkV z xInf Y_J7_ensureCapacityInternal 24 27 1 (19, 364) from okv_P (q := Y_J7_ensureCapacityInternal) (q1 := Y_J7_newCapacity) Z_J7_newCapacity rfl (by decide) ⟨by decide, by decide, Or.inl ⟨_, _, (List.mem_of_getElem? (l := xCls) (i := 18) rfl)⟩⟩ dJ7_ensureCapacityInternal_24 q300 q302 q301 q334 rfl q134 q303 hy_387), (fun _ h => absurd h List.not_mem_nil)⟩)
theorem kJ7_ensureCapacityInternal_27 (z : XKT) : XOi z xInf Y_J7_ensureCapacityInternal 27 (.inl (i_aload 0 28)) := ok_aload_n dJ7_ensureCapacityInternal_27 rfl
theorem kJ7_ensureCapacityInternal_28 (z : XKT) : XOi z xInf Y_J7_ensureCapacityInternal 28 (.inl (i_geti [19] 110 31)) := ok_geti dJ7_ensureCapacityInternal_28 q269 (List.forall_mem_cons.mpr ⟨⟨_, _, _, _, fd_110_19_0⟩, (fun _ h => absurd h List.not_mem_nil)⟩)
theorem kJ7_ensureCapacityInternal_31 (z : XKT) : XOi z xInf Y_J7_ensureCapacityInternal 31 (.inl (i_bin (fun x y => x <<< (y &&& 31)) 32)) := ok_ishl dJ7_ensureCapacityInternal_31
theorem kJ7_ensureCapacityInternal_32 (z : XKT) : XOi z xInf Y_J7_ensureCapacityInternal 32 (.inr (.inl (35, g_stat 390 2))) := show XOkC z xInf Y_J7_ensureCapacityInternal 32 35 (g_stat 390 2) from okc_S (q := Y_J7_ensureCapacityInternal) (q1 := Y_J13_copyOf) Z_J13_copyOf rfl (by decide) dJ7_ensureCapacityInternal_32 q315 q316 q140 q317 hy_388
theorem kJ7_ensureCapacityInternal_35 (z : XKT) : XOi z xInf Y_J7_ensureCapacityInternal 35 (.inl (i_putr z.1 [19] 109 38)) := ok_putr dJ7_ensureCapacityInternal_35 q268 (List.forall_mem_cons.mpr ⟨⟨_, _, _, _, tyJ8, fd_109_19_0, ⟨tyJ8_ok, nmJ8, (Or.inl rfl)⟩, (Or.inr ⟨_, rfl⟩)⟩, (fun _ h => absurd h List.not_mem_nil)⟩)
theorem kJ7_ensureCapacityInternal_38 (z : XKT) : XOi z xInf Y_J7_ensureCapacityInternal 38 (.inr (.inr (.inl r_v))) := show XOkR Y_J7_ensureCapacityInternal 38 (r_v) from okr_v (q := Y_J7_ensureCapacityInternal) rfl dJ7_ensureCapacityInternal_38
theorem o_J7_ensureCapacityInternal (z : XKT) : XMi z xInf Y_J7_ensureCapacityInternal := XMi.mk9 (T := T_J7_ensureCapacityInternal z) rfl (⟨kJ7_ensureCapacityInternal_0 z, ⟨kJ7_ensureCapacityInternal_1 z, ⟨kJ7_ensureCapacityInternal_4 z, ⟨kJ7_ensureCapacityInternal_5 z, ⟨kJ7_ensureCapacityInternal_6 z, ⟨kJ7_ensureCapacityInternal_9 z, ⟨kJ7_ensureCapacityInternal_10 z, ⟨kJ7_ensureCapacityInternal_11 z, ⟨kJ7_ensureCapacityInternal_12 z, ⟨kJ7_ensureCapacityInternal_13 z, ⟨kJ7_ensureCapacityInternal_14 z, ⟨kJ7_ensureCapacityInternal_17 z, ⟨kJ7_ensureCapacityInternal_18 z, ⟨kJ7_ensureCapacityInternal_19 z, ⟨kJ7_ensureCapacityInternal_22 z, ⟨kJ7_ensureCapacityInternal_23 z, ⟨kJ7_ensureCapacityInternal_24 z, ⟨kJ7_ensureCapacityInternal_27 z, ⟨kJ7_ensureCapacityInternal_28 z, ⟨kJ7_ensureCapacityInternal_31 z, ⟨kJ7_ensureCapacityInternal_32 z, ⟨kJ7_ensureCapacityInternal_35 z, ⟨kJ7_ensureCapacityInternal_38 z, trivial⟩⟩⟩⟩⟩⟩⟩⟩⟩⟩⟩⟩⟩⟩⟩⟩⟩⟩⟩⟩⟩⟩⟩) (hd_J7_ensureCapacityInternal z) rfl rfl (by decide +kernel)
theorem hd_J7_getValue (z : XKT) : XHd z Y_J7_getValue := xHd_none rfl (xhd0 rfl)
theorem kJ7_getValue_0 (z : XKT) : XOi z xInf Y_J7_getValue 0 (.inl (i_aload 0 1)) := ok_aload_n dJ7_getValue_0 rfl
theorem kJ7_getValue_1 (z : XKT) : XOi z xInf Y_J7_getValue 1 (.inl (i_getr [19] 109 4)) := ok_getr dJ7_getValue_1 q268 (List.forall_mem_cons.mpr ⟨⟨_, _, _, _, fd_109_19_0⟩, (fun _ h => absurd h List.not_mem_nil)⟩)
theorem kJ7_getValue_4 (z : XKT) : XOi z xInf Y_J7_getValue 4 (.inr (.inr (.inl r_a))) := show XOkR Y_J7_getValue 4 (r_a) from okr_a (q := Y_J7_getValue) rfl (Or.inr ⟨_, rfl⟩) dJ7_getValue_4
theorem o_J7_getValue (z : XKT) : XMi z xInf Y_J7_getValue := XMi.mk9 (T := T_J7_getValue z) rfl (⟨kJ7_getValue_0 z, ⟨kJ7_getValue_1 z, ⟨kJ7_getValue_4 z, trivial⟩⟩⟩) (hd_J7_getValue z) rfl rfl (by decide +kernel)
theorem hd_J7_inflateIfNeededFor (z : XKT) : XHd z Y_J7_inflateIfNeededFor := xHd_none rfl (xhd0 rfl)
theorem kJ7_inflateIfNeededFor_0 (z : XKT) : XOi z xInf Y_J7_inflateIfNeededFor 0 (.inl (i_push (vI 1) 3)) := ok_getsI dJ7_inflateIfNeededFor_0 q259 (List.mem_of_getElem? (l := xSti) (i := 1) rfl)
theorem kJ7_inflateIfNeededFor_3 (z : XKT) : XOi z xInf Y_J7_inflateIfNeededFor 3 (.inl (i_if (fun x => x = 0) 21 6)) := ok_if_eq dJ7_inflateIfNeededFor_3 rfl
theorem kJ7_inflateIfNeededFor_6 (z : XKT) : XOi z xInf Y_J7_inflateIfNeededFor 6 (.inl (i_aload 0 7)) := ok_aload_n dJ7_inflateIfNeededFor_6 rfl
theorem kJ7_inflateIfNeededFor_7 (z : XKT) : XOi z xInf Y_J7_inflateIfNeededFor 7 (.inl (i_geti [19] 110 10)) := ok_geti dJ7_inflateIfNeededFor_7 q269 (List.forall_mem_cons.mpr ⟨⟨_, _, _, _, fd_110_19_0⟩, (fun _ h => absurd h List.not_mem_nil)⟩)
theorem kJ7_inflateIfNeededFor_10 (z : XKT) : XOi z xInf Y_J7_inflateIfNeededFor 10 (.inl (i_aload 1 11)) := ok_aload_n dJ7_inflateIfNeededFor_10 rfl
theorem kJ7_inflateIfNeededFor_11 (z : XKT) : XOi z xInf Y_J7_inflateIfNeededFor 11 (.inr (.inl (14, g_virt [(20, 376)] 0))) := show XOkC z xInf Y_J7_inflateIfNeededFor 11 14 (g_virt [(20, 376)] 0) from okc_V (q := Y_J7_inflateIfNeededFor) (List.forall_mem_cons.mpr ⟨(show XOkV z xInf Y_J7_inflateIfNeededFor 11 14 0 (20, 376) from okv_V (q := Y_J7_inflateIfNeededFor) (q1 := Y_J9_coder) Z_J9_coder rfl (by decide) ⟨by decide, by decide, Or.inl ⟨_, _, (List.mem_of_getElem? (l := xCls) (i := 19) rfl)⟩⟩ dJ7_inflateIfNeededFor_11 q379 q367 q368 q136 q369 hy_389), (fun _ h => absurd h List.not_mem_nil)⟩)
theorem kJ7_inflateIfNeededFor_14 (z : XKT) : XOi z xInf Y_J7_inflateIfNeededFor 14 (.inl (i_icmp (fun x y => x = y) 21 17)) := ok_icmp_eq dJ7_inflateIfNeededFor_14 rfl
theorem kJ7_inflateIfNeededFor_17 (z : XKT) : XOi z xInf Y_J7_inflateIfNeededFor 17 (.inl (i_aload 0 18)) := ok_aload_n dJ7_inflateIfNeededFor_17 rfl
theorem kJ7_inflateIfNeededFor_21 (z : XKT) : XOi z xInf Y_J7_inflateIfNeededFor 21 (.inr (.inr (.inl r_v))) := show XOkR Y_J7_inflateIfNeededFor 21 (r_v) from okr_v (q := Y_J7_inflateIfNeededFor) rfl dJ7_inflateIfNeededFor_21
theorem o_J7_inflateIfNeededFor (z : XKT) : XMi z xInf Y_J7_inflateIfNeededFor := XMi.mk9 (T := T_J7_inflateIfNeededFor z) rfl (⟨kJ7_inflateIfNeededFor_0 z, ⟨kJ7_inflateIfNeededFor_3 z, ⟨kJ7_inflateIfNeededFor_6 z, ⟨kJ7_inflateIfNeededFor_7 z, ⟨kJ7_inflateIfNeededFor_10 z, ⟨kJ7_inflateIfNeededFor_11 z, ⟨kJ7_inflateIfNeededFor_14 z, ⟨kJ7_inflateIfNeededFor_17 z, ⟨kJ7_inflateIfNeededFor_21 z, trivial⟩⟩⟩⟩⟩⟩⟩⟩⟩) (hd_J7_inflateIfNeededFor z) rfl rfl (by decide +kernel)
theorem hd_J7_init (z : XKT) : XHd z Y_J7_init := xHd_none rfl (xhd0 rfl)
theorem kJ7_init_0 (z : XKT) : XOi z xInf Y_J7_init 0 (.inl (i_aload 0 1)) := ok_aload_n dJ7_init_0 rfl
theorem kJ7_init_1 (z : XKT) : XOi z xInf Y_J7_init 1 (.inl (i_oinit 4)) := ok_oinit dJ7_init_1 q258 q179 q180
theorem kJ7_init_4 (z : XKT) : XOi z xInf Y_J7_init 4 (.inl (i_push (vI 1) 7)) := ok_getsI dJ7_init_4 q259 (List.mem_of_getElem? (l := xSti) (i := 1) rfl)
theorem kJ7_init_7 (z : XKT) : XOi z xInf Y_J7_init 7 (.inl (i_if (fun x => x = 0) 25 10)) := ok_if_eq dJ7_init_7 rfl
theorem kJ7_init_10 (z : XKT) : XOi z xInf Y_J7_init 10 (.inl (i_aload 0 11)) := ok_aload_n dJ7_init_10 rfl
theorem kJ7_init_11 (z : XKT) : XOi z xInf Y_J7_init 11 (.inl (i_iload 1 12)) := ok_iload_n dJ7_init_11 rfl
theorem kJ7_init_12 (z : XKT) : XOi z xInf Y_J7_init 12 (.inl (i_nai 1001 14)) := ok_nai (ty := .byte) dJ7_init_12 q282 rfl (List.mem_of_getElem? (l := xArs) (i := 1) rfl) (Or.inr rfl) (by decide) (by decide) (by decide)
theorem kJ7_init_14 (z : XKT) : XOi z xInf Y_J7_init 14 (.inl (i_putr z.1 [19] 109 17)) := ok_putr dJ7_init_14 q268 (List.forall_mem_cons.mpr ⟨⟨_, _, _, _, tyJ8, fd_109_19_0, ⟨tyJ8_ok, nmJ8, (Or.inl rfl)⟩, (Or.inr ⟨_, rfl⟩)⟩, (fun _ h => absurd h List.not_mem_nil)⟩)
theorem kJ7_init_17 (z : XKT) : XOi z xInf Y_J7_init 17 (.inl (i_aload 0 18)) := ok_aload_n dJ7_init_17 rfl
theorem kJ7_init_18 (z : XKT) : XOi z xInf Y_J7_init 18 (.inl (i_push (vI 0) 19)) := ok_iconst dJ7_init_18 rfl
theorem kJ7_init_19 (z : XKT) : XOi z xInf Y_J7_init 19 (.inl (i_puti z.1 [19] .byte 110 22)) := ok_puti dJ7_init_19 q269 rfl (List.forall_mem_cons.mpr ⟨⟨_, _, _, _, tyJ8, fd_110_19_0, ⟨tyJ8_ok, nmJ8, (Or.inl rfl)⟩, rfl⟩, (fun _ h => absurd h List.not_mem_nil)⟩)
theorem kJ7_init_22 (z : XKT) : XOi z xInf Y_J7_init 22 (.inl (i_goto 38)) := ok_goto dJ7_init_22 rfl
theorem kJ7_init_25 (z : XKT) : XOi z xInf Y_J7_init 25 (.inl (i_aload 0 26)) := ok_aload_n dJ7_init_25 rfl
theorem kJ7_init_26 (z : XKT) : XOi z xInf Y_J7_init 26 (.inl (i_iload 1 27)) := ok_iload_n dJ7_init_26 rfl
theorem kJ7_init_30 (z : XKT) : XOi z xInf Y_J7_init 30 (.inl (i_putr z.1 [19] 109 33)) := ok_putr dJ7_init_30 q268 (List.forall_mem_cons.mpr ⟨⟨_, _, _, _, tyJ8, fd_109_19_0, ⟨tyJ8_ok, nmJ8, (Or.inl rfl)⟩, (Or.inr ⟨_, rfl⟩)⟩, (fun _ h => absurd h List.not_mem_nil)⟩)
theorem kJ7_init_33 (z : XKT) : XOi z xInf Y_J7_init 33 (.inl (i_aload 0 34)) := ok_aload_n dJ7_init_33 rfl
theorem kJ7_init_34 (z : XKT) : XOi z xInf Y_J7_init 34 (.inl (i_push (vI 1) 35)) := ok_iconst dJ7_init_34 rfl
theorem kJ7_init_35 (z : XKT) : XOi z xInf Y_J7_init 35 (.inl (i_puti z.1 [19] .byte 110 38)) := ok_puti dJ7_init_35 q269 rfl (List.forall_mem_cons.mpr ⟨⟨_, _, _, _, tyJ8, fd_110_19_0, ⟨tyJ8_ok, nmJ8, (Or.inl rfl)⟩, rfl⟩, (fun _ h => absurd h List.not_mem_nil)⟩)
theorem kJ7_init_38 (z : XKT) : XOi z xInf Y_J7_init 38 (.inr (.inr (.inl r_v))) := show XOkR Y_J7_init 38 (r_v) from okr_v (q := Y_J7_init) rfl dJ7_init_38
theorem o_J7_init (z : XKT) : XMi z xInf Y_J7_init := XMi.mk9 (T := T_J7_init z) rfl (⟨kJ7_init_0 z, ⟨kJ7_init_1 z, ⟨kJ7_init_4 z, ⟨kJ7_init_7 z, ⟨kJ7_init_10 z, ⟨kJ7_init_11 z, ⟨kJ7_init_12 z, ⟨kJ7_init_14 z, ⟨kJ7_init_17 z, ⟨kJ7_init_18 z, ⟨kJ7_init_19 z, ⟨kJ7_init_22 z, ⟨kJ7_init_25 z, ⟨kJ7_init_26 z, ⟨kJ7_init_30 z, ⟨kJ7_init_33 z, ⟨kJ7_init_34 z, ⟨kJ7_init_35 z, ⟨kJ7_init_38 z, trivial⟩⟩⟩⟩⟩⟩⟩⟩⟩⟩⟩⟩⟩⟩⟩⟩⟩⟩⟩) (hd_J7_init z) rfl rfl (by decide +kernel)
theorem hd_J7_isLatin1 (z : XKT) : XHd z Y_J7_isLatin1 := xHd_none rfl (xhd0 rfl)
theorem kJ7_isLatin1_0 (z : XKT) : XOi z xInf Y_J7_isLatin1 0 (.inl (i_push (vI 1) 3)) := ok_getsI dJ7_isLatin1_0 q259 (List.mem_of_getElem? (l := xSti) (i := 1) rfl)
theorem kJ7_isLatin1_3 (z : XKT) : XOi z xInf Y_J7_isLatin1 3 (.inl (i_if (fun x => x = 0) 17 6)) := ok_if_eq dJ7_isLatin1_3 rfl
theorem kJ7_isLatin1_6 (z : XKT) : XOi z xInf Y_J7_isLatin1 6 (.inl (i_aload 0 7)) := ok_aload_n dJ7_isLatin1_6 rfl
theorem kJ7_isLatin1_7 (z : XKT) : XOi z xInf Y_J7_isLatin1 7 (.inl (i_geti [19] 110 10)) := ok_geti dJ7_isLatin1_7 q269 (List.forall_mem_cons.mpr ⟨⟨_, _, _, _, fd_110_19_0⟩, (fun _ h => absurd h List.not_mem_nil)⟩)
theorem kJ7_isLatin1_10 (z : XKT) : XOi z xInf Y_J7_isLatin1 10 (.inl (i_if (fun x => ¬ x = 0) 17 13)) := ok_if_ne dJ7_isLatin1_10 rfl
theorem kJ7_isLatin1_13 (z : XKT) : XOi z xInf Y_J7_isLatin1 13 (.inl (i_push (vI 1) 14)) := ok_iconst dJ7_isLatin1_13 rfl
theorem kJ7_isLatin1_14 (z : XKT) : XOi z xInf Y_J7_isLatin1 14 (.inl (i_goto 18)) := ok_goto dJ7_isLatin1_14 rfl
theorem kJ7_isLatin1_17 (z : XKT) : XOi z xInf Y_J7_isLatin1 17 (.inl (i_push (vI 0) 18)) := ok_iconst dJ7_isLatin1_17 rfl
theorem kJ7_isLatin1_18 (z : XKT) : XOi z xInf Y_J7_isLatin1 18 (.inr (.inr (.inl (r_i .boolean)))) := show XOkR Y_J7_isLatin1 18 ((r_i .boolean)) from okr_i (q := Y_J7_isLatin1) (ty := .boolean) rfl rfl dJ7_isLatin1_18
theorem o_J7_isLatin1 (z : XKT) : XMi z xInf Y_J7_isLatin1 := XMi.mk9 (T := T_J7_isLatin1 z) rfl (⟨kJ7_isLatin1_0 z, ⟨kJ7_isLatin1_3 z, ⟨kJ7_isLatin1_6 z, ⟨kJ7_isLatin1_7 z, ⟨kJ7_isLatin1_10 z, ⟨kJ7_isLatin1_13 z, ⟨kJ7_isLatin1_14 z, ⟨kJ7_isLatin1_17 z, ⟨kJ7_isLatin1_18 z, trivial⟩⟩⟩⟩⟩⟩⟩⟩⟩) (hd_J7_isLatin1 z) rfl rfl (by decide +kernel)
theorem hd_J7_length (z : XKT) : XHd z Y_J7_length := xHd_none rfl (xhd0 rfl)
theorem kJ7_length_0 (z : XKT) : XOi z xInf Y_J7_length 0 (.inl (i_aload 0 1)) := ok_aload_n dJ7_length_0 rfl
theorem kJ7_length_1 (z : XKT) : XOi z xInf Y_J7_length 1 (.inl (i_geti [19] 112 4)) := ok_geti dJ7_length_1 q272 (List.forall_mem_cons.mpr ⟨⟨_, _, _, _, fd_112_19_0⟩, (fun _ h => absurd h List.not_mem_nil)⟩)
theorem kJ7_length_4 (z : XKT) : XOi z xInf Y_J7_length 4 (.inr (.inr (.inl (r_i .int)))) := show XOkR Y_J7_length 4 ((r_i .int)) from okr_i (q := Y_J7_length) (ty := .int) rfl rfl dJ7_length_4
theorem o_J7_length (z : XKT) : XMi z xInf Y_J7_length := XMi.mk9 (T := T_J7_length z) rfl (⟨kJ7_length_0 z, ⟨kJ7_length_1 z, ⟨kJ7_length_4 z, trivial⟩⟩⟩) (hd_J7_length z) rfl rfl (by decide +kernel)
theorem hd_J7_newCapacity (z : XKT) : XHd z Y_J7_newCapacity := xHd_none rfl (xhd0 rfl)
theorem kJ7_newCapacity_0 (z : XKT) : XOi z xInf Y_J7_newCapacity 0 (.inl (i_aload 0 1)) := ok_aload_n dJ7_newCapacity_0 rfl
theorem kJ7_newCapacity_1 (z : XKT) : XOi z xInf Y_J7_newCapacity 1 (.inl (i_getr [19] 109 4)) := ok_getr dJ7_newCapacity_1 q268 (List.forall_mem_cons.mpr ⟨⟨_, _, _, _, fd_109_19_0⟩, (fun _ h => absurd h List.not_mem_nil)⟩)
theorem kJ7_newCapacity_4 (z : XKT) : XOi z xInf Y_J7_newCapacity 4 (.inl (i_alen 5)) := ok_alen dJ7_newCapacity_4
theorem kJ7_newCapacity_5 (z : XKT) : XOi z xInf Y_J7_newCapacity 5 (.inl (i_istore 2 6)) := ok_istore_n dJ7_newCapacity_5 rfl
theorem kJ7_newCapacity_6 (z : XKT) : XOi z xInf Y_J7_newCapacity 6 (.inl (i_iload 1 7)) := ok_iload_n dJ7_newCapacity_6 rfl
theorem kJ7_newCapacity_7 (z : XKT) : XOi z xInf Y_J7_newCapacity 7 (.inl (i_aload 0 8)) := ok_aload_n dJ7_newCapacity_7 rfl
theorem kJ7_newCapacity_8 (z : XKT) : XOi z xInf Y_J7_newCapacity 8 (.inl (i_geti [19] 110 11)) := ok_geti dJ7_newCapacity_8 q269 (List.forall_mem_cons.mpr ⟨⟨_, _, _, _, fd_110_19_0⟩, (fun _ h => absurd h List.not_mem_nil)⟩)
theorem kJ7_newCapacity_11 (z : XKT) : XOi z xInf Y_J7_newCapacity 11 (.inl (i_bin (fun x y => x <<< (y &&& 31)) 12)) := ok_ishl dJ7_newCapacity_11
theorem kJ7_newCapacity_12 (z : XKT) : XOi z xInf Y_J7_newCapacity 12 (.inl (i_istore 3 13)) := ok_istore_n dJ7_newCapacity_12 rfl
theorem kJ7_newCapacity_13 (z : XKT) : XOi z xInf Y_J7_newCapacity 13 (.inl (i_iload 3 14)) := ok_iload_n dJ7_newCapacity_13 rfl
theorem kJ7_newCapacity_14 (z : XKT) : XOi z xInf Y_J7_newCapacity 14 (.inl (i_iload 2 15)) := ok_iload_n dJ7_newCapacity_14 rfl
theorem kJ7_newCapacity_15 (z : XKT) : XOi z xInf Y_J7_newCapacity 15 (.inl (i_bin (fun x y => x - y) 16)) := ok_isub dJ7_newCapacity_15
theorem kJ7_newCapacity_16 (z : XKT) : XOi z xInf Y_J7_newCapacity 16 (.inl (i_istore 4 18)) := ok_istore dJ7_newCapacity_16
theorem kJ7_newCapacity_18 (z : XKT) : XOi z xInf Y_J7_newCapacity 18 (.inl (i_iload 2 19)) := ok_iload_n dJ7_newCapacity_18 rfl
theorem kJ7_newCapacity_19 (z : XKT) : XOi z xInf Y_J7_newCapacity 19 (.inl (i_iload 4 21)) := ok_iload dJ7_newCapacity_19
theorem kJ7_newCapacity_21 (z : XKT) : XOi z xInf Y_J7_newCapacity 21 (.inl (i_iload 2 22)) := ok_iload_n dJ7_newCapacity_21 rfl
theorem kJ7_newCapacity_22 (z : XKT) : XOi z xInf Y_J7_newCapacity 22 (.inl (i_push (vI 2) 23)) := ok_iconst dJ7_newCapacity_22 rfl
theorem kJ7_newCapacity_23 (z : XKT) : XOi z xInf Y_J7_newCapacity 23 (.inl (i_aload 0 24)) := ok_aload_n dJ7_newCapacity_23 rfl
theorem kJ7_newCapacity_24 (z : XKT) : XOi z xInf Y_J7_newCapacity 24 (.inl (i_geti [19] 110 27)) := ok_geti dJ7_newCapacity_24 q269 (List.forall_mem_cons.mpr ⟨⟨_, _, _, _, fd_110_19_0⟩, (fun _ h => absurd h List.not_mem_nil)⟩)
theorem kJ7_newCapacity_27 (z : XKT) : XOi z xInf Y_J7_newCapacity 27 (.inl (i_bin (fun x y => x <<< (y &&& 31)) 28)) := ok_ishl dJ7_newCapacity_27
theorem kJ7_newCapacity_28 (z : XKT) : XOi z xInf Y_J7_newCapacity 28 (.inl (i_bin (fun x y => x + y) 29)) := ok_iadd dJ7_newCapacity_28
theorem kJ7_newCapacity_29 (z : XKT) : XOi z xInf Y_J7_newCapacity 29 (.inr (.inl (32, g_stat 385 3))) := show XOkC z xInf Y_J7_newCapacity 29 32 (g_stat 385 3) from okc_S (q := Y_J7_newCapacity) (q1 := Y_J11_newLength) Z_J11_newLength rfl (by decide) dJ7_newCapacity_29 q304 q305 q138 q306 hy_376
theorem kJ7_newCapacity_32 (z : XKT) : XOi z xInf Y_J7_newCapacity 32 (.inl (i_istore 5 34)) := ok_istore dJ7_newCapacity_32
theorem kJ7_newCapacity_34 (z : XKT) : XOi z xInf Y_J7_newCapacity 34 (.inl (i_iload 5 36)) := ok_iload dJ7_newCapacity_34
theorem kJ7_newCapacity_36 (z : XKT) : XOi z xInf Y_J7_newCapacity 36 (.inl (i_push (vI (2147483647)) 38)) := ok_ldc dJ7_newCapacity_36 q314
theorem kJ7_newCapacity_38 (z : XKT) : XOi z xInf Y_J7_newCapacity 38 (.inl (i_icmp (fun x y => ¬ x = y) 51 41)) := ok_icmp_ne dJ7_newCapacity_38 rfl
theorem kJ7_newCapacity_44 (z : XKT) : XOi z xInf Y_J7_newCapacity 44 (.inl (i_dup 45)) := ok_dup dJ7_newCapacity_44
theorem kJ7_newCapacity_51 (z : XKT) : XOi z xInf Y_J7_newCapacity 51 (.inl (i_iload 5 53)) := ok_iload dJ7_newCapacity_51
theorem kJ7_newCapacity_53 (z : XKT) : XOi z xInf Y_J7_newCapacity 53 (.inl (i_aload 0 54)) := ok_aload_n dJ7_newCapacity_53 rfl
theorem kJ7_newCapacity_54 (z : XKT) : XOi z xInf Y_J7_newCapacity 54 (.inl (i_geti [19] 110 57)) := ok_geti dJ7_newCapacity_54 q269 (List.forall_mem_cons.mpr ⟨⟨_, _, _, _, fd_110_19_0⟩, (fun _ h => absurd h List.not_mem_nil)⟩)
theorem kJ7_newCapacity_57 (z : XKT) : XOi z xInf Y_J7_newCapacity 57 (.inl (i_bin (fun x y => x >>> (y &&& 31)) 58)) := ok_ishr dJ7_newCapacity_57
theorem kJ7_newCapacity_58 (z : XKT) : XOi z xInf Y_J7_newCapacity 58 (.inr (.inr (.inl (r_i .int)))) := show XOkR Y_J7_newCapacity 58 ((r_i .int)) from okr_i (q := Y_J7_newCapacity) (ty := .int) rfl rfl dJ7_newCapacity_58
theorem o_J7_newCapacity (z : XKT) : XMi z xInf Y_J7_newCapacity := XMi.mk9 (T := T_J7_newCapacity z) rfl (⟨kJ7_newCapacity_0 z, ⟨kJ7_newCapacity_1 z, ⟨kJ7_newCapacity_4 z, ⟨kJ7_newCapacity_5 z, ⟨kJ7_newCapacity_6 z, ⟨kJ7_newCapacity_7 z, ⟨kJ7_newCapacity_8 z, ⟨kJ7_newCapacity_11 z, ⟨kJ7_newCapacity_12 z, ⟨kJ7_newCapacity_13 z, ⟨kJ7_newCapacity_14 z, ⟨kJ7_newCapacity_15 z, ⟨kJ7_newCapacity_16 z, ⟨kJ7_newCapacity_18 z, ⟨kJ7_newCapacity_19 z, ⟨kJ7_newCapacity_21 z, ⟨kJ7_newCapacity_22 z, ⟨kJ7_newCapacity_23 z, ⟨kJ7_newCapacity_24 z, ⟨kJ7_newCapacity_27 z, ⟨kJ7_newCapacity_28 z, ⟨kJ7_newCapacity_29 z, ⟨kJ7_newCapacity_32 z, ⟨kJ7_newCapacity_34 z, ⟨kJ7_newCapacity_36 z, ⟨kJ7_newCapacity_38 z, ⟨kJ7_newCapacity_44 z, ⟨kJ7_newCapacity_51 z, ⟨kJ7_newCapacity_53 z, ⟨kJ7_newCapacity_54 z, ⟨kJ7_newCapacity_57 z, ⟨kJ7_newCapacity_58 z, trivial⟩⟩⟩⟩⟩⟩⟩⟩⟩⟩⟩⟩⟩⟩⟩⟩⟩⟩⟩⟩⟩⟩⟩⟩⟩⟩⟩⟩⟩⟩⟩⟩) (hd_J7_newCapacity z) rfl rfl (by decide +kernel)
theorem hd_J7_putStringAt (z : XKT) : XHd z Y_J7_putStringAt := xHd_none rfl (xhd0 rfl)
theorem kJ7_putStringAt_0 (z : XKT) : XOi z xInf Y_J7_putStringAt 0 (.inl (i_aload 0 1)) := ok_aload_n dJ7_putStringAt_0 rfl
theorem kJ7_putStringAt_1 (z : XKT) : XOi z xInf Y_J7_putStringAt 1 (.inl (i_aload 2 2)) := ok_aload_n dJ7_putStringAt_1 rfl
theorem kJ7_putStringAt_2 (z : XKT) : XOi z xInf Y_J7_putStringAt 2 (.inr (.inl (5, g_virt [(19, 360)] 1))) := show XOkC z xInf Y_J7_putStringAt 2 5 (g_virt [(19, 360)] 1) from okc_V (q := Y_J7_putStringAt) (List.forall_mem_cons.mpr ⟨(show XOkV z xInf Y_J7_putStringAt 2 5 1 (19, 360) from okv_P (q := Y_J7_putStringAt) (q1 := Y_J7_inflateIfNeededFor) Z_J7_inflateIfNeededFor rfl (by decide) ⟨by decide, by decide, Or.inl ⟨_, _, (List.mem_of_getElem? (l := xCls) (i := 18) rfl)⟩⟩ dJ7_putStringAt_2 q375 q377 q376 q334 rfl q134 q378 hy_390), (fun _ h => absurd h List.not_mem_nil)⟩)
theorem kJ7_putStringAt_5 (z : XKT) : XOi z xInf Y_J7_putStringAt 5 (.inl (i_aload 2 6)) := ok_aload_n dJ7_putStringAt_5 rfl
theorem kJ7_putStringAt_6 (z : XKT) : XOi z xInf Y_J7_putStringAt 6 (.inl (i_aload 0 7)) := ok_aload_n dJ7_putStringAt_6 rfl
theorem kJ7_putStringAt_7 (z : XKT) : XOi z xInf Y_J7_putStringAt 7 (.inl (i_getr [19] 109 10)) := ok_getr dJ7_putStringAt_7 q268 (List.forall_mem_cons.mpr ⟨⟨_, _, _, _, fd_109_19_0⟩, (fun _ h => absurd h List.not_mem_nil)⟩)
theorem kJ7_putStringAt_10 (z : XKT) : XOi z xInf Y_J7_putStringAt 10 (.inl (i_iload 1 11)) := ok_iload_n dJ7_putStringAt_10 rfl
theorem kJ7_putStringAt_11 (z : XKT) : XOi z xInf Y_J7_putStringAt 11 (.inl (i_aload 0 12)) := ok_aload_n dJ7_putStringAt_11 rfl
theorem kJ7_putStringAt_12 (z : XKT) : XOi z xInf Y_J7_putStringAt 12 (.inl (i_geti [19] 110 15)) := ok_geti dJ7_putStringAt_12 q269 (List.forall_mem_cons.mpr ⟨⟨_, _, _, _, fd_110_19_0⟩, (fun _ h => absurd h List.not_mem_nil)⟩)
theorem kJ7_putStringAt_15 (z : XKT) : XOi z xInf Y_J7_putStringAt 15 (.inr (.inl (18, g_virt [(20, 378)] 3))) := show XOkC z xInf Y_J7_putStringAt 15 18 (g_virt [(20, 378)] 3) from okc_V (q := Y_J7_putStringAt) (List.forall_mem_cons.mpr ⟨(show XOkV z xInf Y_J7_putStringAt 15 18 3 (20, 378) from okv_V (q := Y_J7_putStringAt) (q1 := Y_J9_getBytes) Z_J9_getBytes rfl (by decide) ⟨by decide, by decide, Or.inl ⟨_, _, (List.mem_of_getElem? (l := xCls) (i := 19) rfl)⟩⟩ dJ7_putStringAt_15 q399 q400 q401 q136 q402 hy_391), (fun _ h => absurd h List.not_mem_nil)⟩)
theorem kJ7_putStringAt_18 (z : XKT) : XOi z xInf Y_J7_putStringAt 18 (.inr (.inr (.inl r_v))) := show XOkR Y_J7_putStringAt 18 (r_v) from okr_v (q := Y_J7_putStringAt) rfl dJ7_putStringAt_18
theorem o_J7_putStringAt (z : XKT) : XMi z xInf Y_J7_putStringAt := XMi.mk9 (T := T_J7_putStringAt z) rfl (⟨kJ7_putStringAt_0 z, ⟨kJ7_putStringAt_1 z, ⟨kJ7_putStringAt_2 z, ⟨kJ7_putStringAt_5 z, ⟨kJ7_putStringAt_6 z, ⟨kJ7_putStringAt_7 z, ⟨kJ7_putStringAt_10 z, ⟨kJ7_putStringAt_11 z, ⟨kJ7_putStringAt_12 z, ⟨kJ7_putStringAt_15 z, ⟨kJ7_putStringAt_18 z, trivial⟩⟩⟩⟩⟩⟩⟩⟩⟩⟩⟩) (hd_J7_putStringAt z) rfl rfl (by decide +kernel)
theorem hd_J7_setLength (z : XKT) : XHd z Y_J7_setLength := xHd_none rfl (xhd0 rfl)
theorem kJ7_setLength_0 (z : XKT) : XOi z xInf Y_J7_setLength 0 (.inl (i_iload 1 1)) := ok_iload_n dJ7_setLength_0 rfl
theorem kJ7_setLength_1 (z : XKT) : XOi z xInf Y_J7_setLength 1 (.inl (i_if (fun x => 0 ≤ x) 13 4)) := ok_if_ge dJ7_setLength_1 rfl
theorem kJ7_setLength_7 (z : XKT) : XOi z xInf Y_J7_setLength 7 (.inl (i_dup 8)) := ok_dup dJ7_setLength_7
theorem kJ7_setLength_8 (z : XKT) : XOi z xInf Y_J7_setLength 8 (.inl (i_iload 1 9)) := ok_iload_n dJ7_setLength_8 rfl
theorem kJ7_setLength_13 (z : XKT) : XOi z xInf Y_J7_setLength 13 (.inl (i_aload 0 14)) := ok_aload_n dJ7_setLength_13 rfl
theorem kJ7_setLength_14 (z : XKT) : XOi z xInf Y_J7_setLength 14 (.inl (i_iload 1 15)) := ok_iload_n dJ7_setLength_14 rfl
theorem kJ7_setLength_15 (z : XKT) : XOi z xInf Y_J7_setLength 15 (.inr (.inl (18, g_virt [(19, 358)] 1))) := show XOkC z xInf Y_J7_setLength 15 18 (g_virt [(19, 358)] 1) from okc_V (q := Y_J7_setLength) (List.forall_mem_cons.mpr ⟨(show XOkV z xInf Y_J7_setLength 15 18 1 (19, 358) from okv_P (q := Y_J7_setLength) (q1 := Y_J7_ensureCapacityInternal) Z_J7_ensureCapacityInternal rfl (by decide) ⟨by decide, by decide, Or.inl ⟨_, _, (List.mem_of_getElem? (l := xCls) (i := 18) rfl)⟩⟩ dJ7_setLength_15 q296 q298 q297 q334 rfl q134 q299 hy_381), (fun _ h => absurd h List.not_mem_nil)⟩)
theorem kJ7_setLength_18 (z : XKT) : XOi z xInf Y_J7_setLength 18 (.inl (i_aload 0 19)) := ok_aload_n dJ7_setLength_18 rfl
theorem kJ7_setLength_19 (z : XKT) : XOi z xInf Y_J7_setLength 19 (.inl (i_geti [19] 112 22)) := ok_geti dJ7_setLength_19 q272 (List.forall_mem_cons.mpr ⟨⟨_, _, _, _, fd_112_19_0⟩, (fun _ h => absurd h List.not_mem_nil)⟩)
theorem kJ7_setLength_22 (z : XKT) : XOi z xInf Y_J7_setLength 22 (.inl (i_iload 1 23)) := ok_iload_n dJ7_setLength_22 rfl
theorem kJ7_setLength_23 (z : XKT) : XOi z xInf Y_J7_setLength 23 (.inl (i_icmp (fun x y => y ≤ x) 63 26)) := ok_icmp_ge dJ7_setLength_23 rfl
theorem kJ7_setLength_26 (z : XKT) : XOi z xInf Y_J7_setLength 26 (.inl (i_aload 0 27)) := ok_aload_n dJ7_setLength_26 rfl
theorem kJ7_setLength_27 (z : XKT) : XOi z xInf Y_J7_setLength 27 (.inr (.inl (30, g_virt [(19, 362)] 0))) := show XOkC z xInf Y_J7_setLength 27 30 (g_virt [(19, 362)] 0) from okc_V (q := Y_J7_setLength) (List.forall_mem_cons.mpr ⟨(show XOkV z xInf Y_J7_setLength 27 30 0 (19, 362) from okv_V (q := Y_J7_setLength) (q1 := Y_J7_isLatin1) Z_J7_isLatin1 rfl (by decide) ⟨by decide, by decide, Or.inl ⟨_, _, (List.mem_of_getElem? (l := xCls) (i := 18) rfl)⟩⟩ dJ7_setLength_27 q331 q332 q334 q134 q335 hy_384), (fun _ h => absurd h List.not_mem_nil)⟩)
theorem kJ7_setLength_30 (z : XKT) : XOi z xInf Y_J7_setLength 30 (.inl (i_if (fun x => x = 0) 48 33)) := ok_if_eq dJ7_setLength_30 rfl
theorem kJ7_setLength_33 (z : XKT) : XOi z xInf Y_J7_setLength 33 (.inl (i_aload 0 34)) := ok_aload_n dJ7_setLength_33 rfl
theorem kJ7_setLength_34 (z : XKT) : XOi z xInf Y_J7_setLength 34 (.inl (i_getr [19] 109 37)) := ok_getr dJ7_setLength_34 q268 (List.forall_mem_cons.mpr ⟨⟨_, _, _, _, fd_109_19_0⟩, (fun _ h => absurd h List.not_mem_nil)⟩)
theorem kJ7_setLength_37 (z : XKT) : XOi z xInf Y_J7_setLength 37 (.inl (i_aload 0 38)) := ok_aload_n dJ7_setLength_37 rfl
theorem kJ7_setLength_38 (z : XKT) : XOi z xInf Y_J7_setLength 38 (.inl (i_geti [19] 112 41)) := ok_geti dJ7_setLength_38 q272 (List.forall_mem_cons.mpr ⟨⟨_, _, _, _, fd_112_19_0⟩, (fun _ h => absurd h List.not_mem_nil)⟩)
theorem kJ7_setLength_41 (z : XKT) : XOi z xInf Y_J7_setLength 41 (.inl (i_iload 1 42)) := ok_iload_n dJ7_setLength_41 rfl
theorem kJ7_setLength_42 (z : XKT) : XOi z xInf Y_J7_setLength 42 (.inr (.inl (45, g_stat 399 3))) := show XOkC z xInf Y_J7_setLength 42 45 (g_stat 399 3) from okc_S (q := Y_J7_setLength) (q1 := Y_J15_fillNull) Z_J15_fillNull rfl (by decide) dJ7_setLength_42 q1791 q1792 q143 q1793 hy_392
theorem kJ7_setLength_45 (z : XKT) : XOi z xInf Y_J7_setLength 45 (.inl (i_goto 76)) := ok_goto dJ7_setLength_45 rfl
theorem kJ7_setLength_48 (z : XKT) : XOi z xInf Y_J7_setLength 48 (.inl (i_aload 0 49)) := ok_aload_n dJ7_setLength_48 rfl
theorem kJ7_setLength_49 (z : XKT) : XOi z xInf Y_J7_setLength 49 (.inl (i_getr [19] 109 52)) := ok_getr dJ7_setLength_49 q268 (List.forall_mem_cons.mpr ⟨⟨_, _, _, _, fd_109_19_0⟩, (fun _ h => absurd h List.not_mem_nil)⟩)
theorem kJ7_setLength_52 (z : XKT) : XOi z xInf Y_J7_setLength 52 (.inl (i_aload 0 53)) := ok_aload_n dJ7_setLength_52 rfl
theorem kJ7_setLength_53 (z : XKT) : XOi z xInf Y_J7_setLength 53 (.inl (i_geti [19] 112 56)) := ok_geti dJ7_setLength_53 q272 (List.forall_mem_cons.mpr ⟨⟨_, _, _, _, fd_112_19_0⟩, (fun _ h => absurd h List.not_mem_nil)⟩)
theorem kJ7_setLength_56 (z : XKT) : XOi z xInf Y_J7_setLength 56 (.inl (i_iload 1 57)) := ok_iload_n dJ7_setLength_56 rfl
theorem kJ7_setLength_60 (z : XKT) : XOi z xInf Y_J7_setLength 60 (.inl (i_goto 76)) := ok_goto dJ7_setLength_60 rfl
theorem kJ7_setLength_63 (z : XKT) : XOi z xInf Y_J7_setLength 63 (.inl (i_aload 0 64)) := ok_aload_n dJ7_setLength_63 rfl
theorem kJ7_setLength_64 (z : XKT) : XOi z xInf Y_J7_setLength 64 (.inl (i_geti [19] 112 67)) := ok_geti dJ7_setLength_64 q272 (List.forall_mem_cons.mpr ⟨⟨_, _, _, _, fd_112_19_0⟩, (fun _ h => absurd h List.not_mem_nil)⟩)
theorem kJ7_setLength_67 (z : XKT) : XOi z xInf Y_J7_setLength 67 (.inl (i_iload 1 68)) := ok_iload_n dJ7_setLength_67 rfl
theorem kJ7_setLength_68 (z : XKT) : XOi z xInf Y_J7_setLength 68 (.inl (i_icmp (fun x y => x ≤ y) 76 71)) := ok_icmp_le dJ7_setLength_68 rfl
theorem kJ7_setLength_71 (z : XKT) : XOi z xInf Y_J7_setLength 71 (.inl (i_aload 0 72)) := ok_aload_n dJ7_setLength_71 rfl
theorem kJ7_setLength_72 (z : XKT) : XOi z xInf Y_J7_setLength 72 (.inl (i_push (vI 1) 73)) := ok_iconst dJ7_setLength_72 rfl
theorem kJ7_setLength_73 (z : XKT) : XOi z xInf Y_J7_setLength 73 (.inl (i_puti z.1 [19] .boolean 111 76)) := ok_puti dJ7_setLength_73 q270 rfl (List.forall_mem_cons.mpr ⟨⟨_, _, _, _, tyJ8, fd_111_19_0, ⟨tyJ8_ok, nmJ8, (Or.inl rfl)⟩, rfl⟩, (fun _ h => absurd h List.not_mem_nil)⟩)
theorem kJ7_setLength_76 (z : XKT) : XOi z xInf Y_J7_setLength 76 (.inl (i_aload 0 77)) := ok_aload_n dJ7_setLength_76 rfl
theorem kJ7_setLength_77 (z : XKT) : XOi z xInf Y_J7_setLength 77 (.inl (i_iload 1 78)) := ok_iload_n dJ7_setLength_77 rfl
theorem kJ7_setLength_78 (z : XKT) : XOi z xInf Y_J7_setLength 78 (.inl (i_puti z.1 [19] .int 112 81)) := ok_puti dJ7_setLength_78 q272 rfl (List.forall_mem_cons.mpr ⟨⟨_, _, _, _, tyJ8, fd_112_19_0, ⟨tyJ8_ok, nmJ8, (Or.inl rfl)⟩, rfl⟩, (fun _ h => absurd h List.not_mem_nil)⟩)
theorem kJ7_setLength_81 (z : XKT) : XOi z xInf Y_J7_setLength 81 (.inr (.inr (.inl r_v))) := show XOkR Y_J7_setLength 81 (r_v) from okr_v (q := Y_J7_setLength) rfl dJ7_setLength_81
theorem o_J7_setLength (z : XKT) : XMi z xInf Y_J7_setLength := XMi.mk9 (T := T_J7_setLength z) rfl (⟨kJ7_setLength_0 z, ⟨kJ7_setLength_1 z, ⟨kJ7_setLength_7 z, ⟨kJ7_setLength_8 z, ⟨kJ7_setLength_13 z, ⟨kJ7_setLength_14 z, ⟨kJ7_setLength_15 z, ⟨kJ7_setLength_18 z, ⟨kJ7_setLength_19 z, ⟨kJ7_setLength_22 z, ⟨kJ7_setLength_23 z, ⟨kJ7_setLength_26 z, ⟨kJ7_setLength_27 z, ⟨kJ7_setLength_30 z, ⟨kJ7_setLength_33 z, ⟨kJ7_setLength_34 z, ⟨kJ7_setLength_37 z, ⟨kJ7_setLength_38 z, ⟨kJ7_setLength_41 z, ⟨kJ7_setLength_42 z, ⟨kJ7_setLength_45 z, ⟨kJ7_setLength_48 z, ⟨kJ7_setLength_49 z, ⟨kJ7_setLength_52 z, ⟨kJ7_setLength_53 z, ⟨kJ7_setLength_56 z, ⟨kJ7_setLength_60 z, ⟨kJ7_setLength_63 z, ⟨kJ7_setLength_64 z, ⟨kJ7_setLength_67 z, ⟨kJ7_setLength_68 z, ⟨kJ7_setLength_71 z, ⟨kJ7_setLength_72 z, ⟨kJ7_setLength_73 z, ⟨kJ7_setLength_76 z, ⟨kJ7_setLength_77 z, ⟨kJ7_setLength_78 z, ⟨kJ7_setLength_81 z, trivial⟩⟩⟩⟩⟩⟩⟩⟩⟩⟩⟩⟩⟩⟩⟩⟩⟩⟩⟩⟩⟩⟩⟩⟩⟩⟩⟩⟩⟩⟩⟩⟩⟩⟩⟩⟩⟩⟩) (hd_J7_setLength z) rfl rfl (by decide +kernel)
theorem hd_J8_append (z : XKT) : XHd z Y_J8_append := xHd_none rfl (xhd0 rfl)
theorem kJ8_append_0 (z : XKT) : XOi z xInf Y_J8_append 0 (.inl (i_aload 0 1)) := ok_aload_n dJ8_append_0 rfl
theorem kJ8_append_1 (z : XKT) : XOi z xInf Y_J8_append 1 (.inl (i_aload 1 2)) := ok_aload_n dJ8_append_1 rfl
theorem kJ8_append_2 (z : XKT) : XOi z xInf Y_J8_append 2 (.inr (.inl (5, g_virt [(19, 355)] 1))) := show XOkC z xInf Y_J8_append 2 5 (g_virt [(19, 355)] 1) from okc_V (q := Y_J8_append) (List.forall_mem_cons.mpr ⟨(show XOkV z xInf Y_J8_append 2 5 1 (19, 355) from okv_SU (q := Y_J8_append) (q1 := Y_J7_append) Z_J7_append rfl (by decide) (by decide) (by decide) (List.mem_of_getElem? (l := xCls) (i := 18) rfl) dJ8_append_2 q289 q3140 q281 q290 q134 q291 (by decide) hy_393), (fun _ h => absurd h List.not_mem_nil)⟩)
theorem kJ8_append_5 (z : XKT) : XOi z xInf Y_J8_append 5 (.inl (i_pop 6)) := ok_pop dJ8_append_5
theorem kJ8_append_6 (z : XKT) : XOi z xInf Y_J8_append 6 (.inl (i_aload 0 7)) := ok_aload_n dJ8_append_6 rfl
theorem kJ8_append_7 (z : XKT) : XOi z xInf Y_J8_append 7 (.inr (.inr (.inl r_a))) := show XOkR Y_J8_append 7 (r_a) from okr_a (q := Y_J8_append) rfl (Or.inl ⟨_, rfl⟩) dJ8_append_7
theorem o_J8_append (z : XKT) : XMi z xInf Y_J8_append := XMi.mk9 (T := T_J8_append z) rfl (⟨kJ8_append_0 z, ⟨kJ8_append_1 z, ⟨kJ8_append_2 z, ⟨kJ8_append_5 z, ⟨kJ8_append_6 z, ⟨kJ8_append_7 z, trivial⟩⟩⟩⟩⟩⟩) (hd_J8_append z) rfl rfl (by decide +kernel)
theorem hd_J8_append_2 (z : XKT) : XHd z Y_J8_append_2 := xHd_none rfl (xhd0 rfl)
theorem kJ8_append_2_0 (z : XKT) : XOi z xInf Y_J8_append_2 0 (.inl (i_aload 0 1)) := ok_aload_n dJ8_append_2_0 rfl
theorem kJ8_append_2_1 (z : XKT) : XOi z xInf Y_J8_append_2 1 (.inl (i_iload 1 2)) := ok_iload_n dJ8_append_2_1 rfl
theorem kJ8_append_2_2 (z : XKT) : XOi z xInf Y_J8_append_2 2 (.inr (.inl (5, g_virt [(19, 356)] 1))) := show XOkC z xInf Y_J8_append_2 2 5 (g_virt [(19, 356)] 1) from okc_V (q := Y_J8_append_2) (List.forall_mem_cons.mpr ⟨(show XOkV z xInf Y_J8_append_2 2 5 1 (19, 356) from okv_SU (q := Y_J8_append_2) (q1 := Y_J7_append_2) Z_J7_append_2 rfl (by decide) (by decide) (by decide) (List.mem_of_getElem? (l := xCls) (i := 18) rfl) dJ8_append_2_2 q409 q3147 q281 q410 q134 q411 (by decide) hy_394), (fun _ h => absurd h List.not_mem_nil)⟩)
theorem kJ8_append_2_5 (z : XKT) : XOi z xInf Y_J8_append_2 5 (.inl (i_pop 6)) := ok_pop dJ8_append_2_5
theorem kJ8_append_2_6 (z : XKT) : XOi z xInf Y_J8_append_2 6 (.inl (i_aload 0 7)) := ok_aload_n dJ8_append_2_6 rfl
theorem kJ8_append_2_7 (z : XKT) : XOi z xInf Y_J8_append_2 7 (.inr (.inr (.inl r_a))) := show XOkR Y_J8_append_2 7 (r_a) from okr_a (q := Y_J8_append_2) rfl (Or.inl ⟨_, rfl⟩) dJ8_append_2_7
theorem o_J8_append_2 (z : XKT) : XMi z xInf Y_J8_append_2 := XMi.mk9 (T := T_J8_append_2 z) rfl (⟨kJ8_append_2_0 z, ⟨kJ8_append_2_1 z, ⟨kJ8_append_2_2 z, ⟨kJ8_append_2_5 z, ⟨kJ8_append_2_6 z, ⟨kJ8_append_2_7 z, trivial⟩⟩⟩⟩⟩⟩) (hd_J8_append_2 z) rfl rfl (by decide +kernel)
theorem hd_J8_append_3 (z : XKT) : XHd z Y_J8_append_3 := xHd_none rfl (xhd0 rfl)
theorem kJ8_append_3_0 (z : XKT) : XOi z xInf Y_J8_append_3 0 (.inl (i_aload 0 1)) := ok_aload_n dJ8_append_3_0 rfl
theorem kJ8_append_3_1 (z : XKT) : XOi z xInf Y_J8_append_3 1 (.inl (i_iload 1 2)) := ok_iload_n dJ8_append_3_1 rfl
theorem kJ8_append_3_2 (z : XKT) : XOi z xInf Y_J8_append_3 2 (.inr (.inl (5, g_virt [(19, 357)] 1))) := show XOkC z xInf Y_J8_append_3 2 5 (g_virt [(19, 357)] 1) from okc_V (q := Y_J8_append_3) (List.forall_mem_cons.mpr ⟨(show XOkV z xInf Y_J8_append_3 2 5 1 (19, 357) from okv_SU (q := Y_J8_append_3) (q1 := Y_J7_append_3) Z_J7_append_3 rfl (by decide) (by decide) (by decide) (List.mem_of_getElem? (l := xCls) (i := 18) rfl) dJ8_append_3_2 q1816 q3152 q281 q1817 q134 q1818 (by decide) hy_395), (fun _ h => absurd h List.not_mem_nil)⟩)
theorem kJ8_append_3_5 (z : XKT) : XOi z xInf Y_J8_append_3 5 (.inl (i_pop 6)) := ok_pop dJ8_append_3_5
theorem kJ8_append_3_6 (z : XKT) : XOi z xInf Y_J8_append_3 6 (.inl (i_aload 0 7)) := ok_aload_n dJ8_append_3_6 rfl
theorem kJ8_append_3_7 (z : XKT) : XOi z xInf Y_J8_append_3 7 (.inr (.inr (.inl r_a))) := show XOkR Y_J8_append_3 7 (r_a) from okr_a (q := Y_J8_append_3) rfl (Or.inl ⟨_, rfl⟩) dJ8_append_3_7
theorem o_J8_append_3 (z : XKT) : XMi z xInf Y_J8_append_3 := XMi.mk9 (T := T_J8_append_3 z) rfl (⟨kJ8_append_3_0 z, ⟨kJ8_append_3_1 z, ⟨kJ8_append_3_2 z, ⟨kJ8_append_3_5 z, ⟨kJ8_append_3_6 z, ⟨kJ8_append_3_7 z, trivial⟩⟩⟩⟩⟩⟩) (hd_J8_append_3 z) rfl rfl (by decide +kernel)
theorem hd_J8_init (z : XKT) : XHd z Y_J8_init := xHd_none rfl (xhd0 rfl)
theorem kJ8_init_0 (z : XKT) : XOi z xInf Y_J8_init 0 (.inl (i_aload 0 1)) := ok_aload_n dJ8_init_0 rfl
theorem kJ8_init_1 (z : XKT) : XOi z xInf Y_J8_init 1 (.inl (i_push (vI 16) 3)) := ok_bipush dJ8_init_1 rfl
theorem kJ8_init_3 (z : XKT) : XOi z xInf Y_J8_init 3 (.inr (.inl (6, g_spec 361 1))) := show XOkC z xInf Y_J8_init 3 6 (g_spec 361 1) from okc_I (q := Y_J8_init) (q1 := Y_J7_init) Z_J7_init rfl rfl rfl (by decide) dJ8_init_3 q255 q256 q134 q257 hy_396
theorem kJ8_init_6 (z : XKT) : XOi z xInf Y_J8_init 6 (.inr (.inr (.inl r_v))) := show XOkR Y_J8_init 6 (r_v) from okr_v (q := Y_J8_init) rfl dJ8_init_6
theorem o_J8_init (z : XKT) : XMi z xInf Y_J8_init := XMi.mk9 (T := T_J8_init z) rfl (⟨kJ8_init_0 z, ⟨kJ8_init_1 z, ⟨kJ8_init_3 z, ⟨kJ8_init_6 z, trivial⟩⟩⟩⟩) (hd_J8_init z) rfl rfl (by decide +kernel)
theorem hd_J8_length (z : XKT) : XHd z Y_J8_length := xHd_none rfl (xhd0 rfl)
theorem kJ8_length_0 (z : XKT) : XOi z xInf Y_J8_length 0 (.inl (i_aload 0 1)) := ok_aload_n dJ8_length_0 rfl
theorem kJ8_length_1 (z : XKT) : XOi z xInf Y_J8_length 1 (.inr (.inl (4, g_virt [(19, 363)] 0))) := show XOkC z xInf Y_J8_length 1 4 (g_virt [(19, 363)] 0) from okc_V (q := Y_J8_length) (List.forall_mem_cons.mpr ⟨(show XOkV z xInf Y_J8_length 1 4 0 (19, 363) from okv_SU (q := Y_J8_length) (q1 := Y_J7_length) Z_J7_length rfl (by decide) (by decide) (by decide) (List.mem_of_getElem? (l := xCls) (i := 18) rfl) dJ8_length_1 q454 q450 q281 q449 q134 q455 (by decide) hy_397), (fun _ h => absurd h List.not_mem_nil)⟩)
theorem kJ8_length_4 (z : XKT) : XOi z xInf Y_J8_length 4 (.inr (.inr (.inl (r_i .int)))) := show XOkR Y_J8_length 4 ((r_i .int)) from okr_i (q := Y_J8_length) (ty := .int) rfl rfl dJ8_length_4
theorem o_J8_length (z : XKT) : XMi z xInf Y_J8_length := XMi.mk9 (T := T_J8_length z) rfl (⟨kJ8_length_0 z, ⟨kJ8_length_1 z, ⟨kJ8_length_4 z, trivial⟩⟩⟩) (hd_J8_length z) rfl rfl (by decide +kernel)
theorem hd_J8_setLength (z : XKT) : XHd z Y_J8_setLength := xHd_none rfl (xhd0 rfl)
theorem kJ8_setLength_0 (z : XKT) : XOi z xInf Y_J8_setLength 0 (.inl (i_aload 0 1)) := ok_aload_n dJ8_setLength_0 rfl
theorem kJ8_setLength_1 (z : XKT) : XOi z xInf Y_J8_setLength 1 (.inl (i_iload 1 2)) := ok_iload_n dJ8_setLength_1 rfl
theorem kJ8_setLength_2 (z : XKT) : XOi z xInf Y_J8_setLength 2 (.inr (.inl (5, g_virt [(19, 366)] 1))) := show XOkC z xInf Y_J8_setLength 2 5 (g_virt [(19, 366)] 1) from okc_V (q := Y_J8_setLength) (List.forall_mem_cons.mpr ⟨(show XOkV z xInf Y_J8_setLength 2 5 1 (19, 366) from okv_SU (q := Y_J8_setLength) (q1 := Y_J7_setLength) Z_J7_setLength rfl (by decide) (by decide) (by decide) (List.mem_of_getElem? (l := xCls) (i := 18) rfl) dJ8_setLength_2 q1788 q3151 q281 q1789 q134 q1790 (by decide) hy_398), (fun _ h => absurd h List.not_mem_nil)⟩)
theorem kJ8_setLength_5 (z : XKT) : XOi z xInf Y_J8_setLength 5 (.inr (.inr (.inl r_v))) := show XOkR Y_J8_setLength 5 (r_v) from okr_v (q := Y_J8_setLength) rfl dJ8_setLength_5
theorem o_J8_setLength (z : XKT) : XMi z xInf Y_J8_setLength := XMi.mk9 (T := T_J8_setLength z) rfl (⟨kJ8_setLength_0 z, ⟨kJ8_setLength_1 z, ⟨kJ8_setLength_2 z, ⟨kJ8_setLength_5 z, trivial⟩⟩⟩⟩) (hd_J8_setLength z) rfl rfl (by decide +kernel)
theorem hd_J8_toString (z : XKT) : XHd z Y_J8_toString := xHd_none rfl (xhd0 rfl)
theorem kJ8_toString_0 (z : XKT) : XOi z xInf Y_J8_toString 0 (.inl (i_new 20 4 3)) := ok_new dJ8_toString_0 q434 q435 q136 (List.mem_of_getElem? (l := xCls) (i := 19) rfl) rfl in_J9 tyJ9_ok rfl (by decide) (by decide)
theorem kJ8_toString_3 (z : XKT) : XOi z xInf Y_J8_toString 3 (.inl (i_dup 4)) := ok_dup dJ8_toString_3
theorem kJ8_toString_4 (z : XKT) : XOi z xInf Y_J8_toString 4 (.inl (i_aload 0 5)) := ok_aload_n dJ8_toString_4 rfl
theorem kJ8_toString_5 (z : XKT) : XOi z xInf Y_J8_toString 5 (.inr (.inl (8, g_spec 380 1))) := show XOkC z xInf Y_J8_toString 5 8 (g_spec 380 1) from okc_I (q := Y_J8_toString) (q1 := Y_J9_init) Z_J9_init rfl rfl rfl (by decide) dJ8_toString_5 q436 q437 q136 q438 hy_399
theorem kJ8_toString_8 (z : XKT) : XOi z xInf Y_J8_toString 8 (.inr (.inr (.inl r_a))) := show XOkR Y_J8_toString 8 (r_a) from okr_a (q := Y_J8_toString) rfl (Or.inl ⟨_, rfl⟩) dJ8_toString_8
theorem o_J8_toString (z : XKT) : XMi z xInf Y_J8_toString := XMi.mk9 (T := T_J8_toString z) rfl (⟨kJ8_toString_0 z, ⟨kJ8_toString_3 z, ⟨kJ8_toString_4 z, ⟨kJ8_toString_5 z, ⟨kJ8_toString_8 z, trivial⟩⟩⟩⟩⟩) (hd_J8_toString z) rfl rfl (by decide +kernel)
theorem hd_J9_charAt (z : XKT) : XHd z Y_J9_charAt := xHd_none rfl (xhd0 rfl)
theorem kJ9_charAt_0 (z : XKT) : XOi z xInf Y_J9_charAt 0 (.inl (i_aload 0 1)) := ok_aload_n dJ9_charAt_0 rfl
theorem kJ9_charAt_1 (z : XKT) : XOi z xInf Y_J9_charAt 1 (.inr (.inl (4, g_virt [(20, 382)] 0))) := show XOkC z xInf Y_J9_charAt 1 4 (g_virt [(20, 382)] 0) from okc_V (q := Y_J9_charAt) (List.forall_mem_cons.mpr ⟨(show XOkV z xInf Y_J9_charAt 1 4 0 (20, 382) from okv_V (q := Y_J9_charAt) (q1 := Y_J9_isLatin1) Z_J9_isLatin1 rfl (by decide) ⟨by decide, by decide, Or.inl ⟨_, _, (List.mem_of_getElem? (l := xCls) (i := 19) rfl)⟩⟩ dJ9_charAt_1 q1691 q1692 q1693 q136 q1694 hy_400), (fun _ h => absurd h List.not_mem_nil)⟩)
theorem kJ9_charAt_4 (z : XKT) : XOi z xInf Y_J9_charAt 4 (.inl (i_if (fun x => x = 0) 16 7)) := ok_if_eq dJ9_charAt_4 rfl
theorem kJ9_charAt_7 (z : XKT) : XOi z xInf Y_J9_charAt 7 (.inl (i_aload 0 8)) := ok_aload_n dJ9_charAt_7 rfl
theorem kJ9_charAt_8 (z : XKT) : XOi z xInf Y_J9_charAt 8 (.inl (i_getr [20] 113 11)) := ok_getr dJ9_charAt_8 q511 (List.forall_mem_cons.mpr ⟨⟨_, _, _, _, fd_113_20_0⟩, (fun _ h => absurd h List.not_mem_nil)⟩)
theorem kJ9_charAt_11 (z : XKT) : XOi z xInf Y_J9_charAt 11 (.inl (i_iload 1 12)) := ok_iload_n dJ9_charAt_11 rfl
theorem kJ9_charAt_12 (z : XKT) : XOi z xInf Y_J9_charAt 12 (.inr (.inl (15, g_stat 397 2))) := show XOkC z xInf Y_J9_charAt 12 15 (g_stat 397 2) from okc_S (q := Y_J9_charAt) (q1 := Y_J15_charAt) Z_J15_charAt rfl (by decide) dJ9_charAt_12 q1695 q1696 q143 q1697 hy_401
theorem kJ9_charAt_15 (z : XKT) : XOi z xInf Y_J9_charAt 15 (.inr (.inr (.inl (r_i .char)))) := show XOkR Y_J9_charAt 15 ((r_i .char)) from okr_i (q := Y_J9_charAt) (ty := .char) rfl rfl dJ9_charAt_15
theorem kJ9_charAt_16 (z : XKT) : XOi z xInf Y_J9_charAt 16 (.inl (i_aload 0 17)) := ok_aload_n dJ9_charAt_16 rfl
theorem kJ9_charAt_17 (z : XKT) : XOi z xInf Y_J9_charAt 17 (.inl (i_getr [20] 113 20)) := ok_getr dJ9_charAt_17 q511 (List.forall_mem_cons.mpr ⟨⟨_, _, _, _, fd_113_20_0⟩, (fun _ h => absurd h List.not_mem_nil)⟩)
theorem kJ9_charAt_20 (z : XKT) : XOi z xInf Y_J9_charAt 20 (.inl (i_iload 1 21)) := ok_iload_n dJ9_charAt_20 rfl
theorem kJ9_charAt_24 (z : XKT) : XOi z xInf Y_J9_charAt 24 (.inr (.inr (.inl (r_i .char)))) := show XOkR Y_J9_charAt 24 ((r_i .char)) from okr_i (q := Y_J9_charAt) (ty := .char) rfl rfl dJ9_charAt_24
theorem o_J9_charAt (z : XKT) : XMi z xInf Y_J9_charAt := XMi.mk9 (T := T_J9_charAt z) rfl (⟨kJ9_charAt_0 z, ⟨kJ9_charAt_1 z, ⟨kJ9_charAt_4 z, ⟨kJ9_charAt_7 z, ⟨kJ9_charAt_8 z, ⟨kJ9_charAt_11 z, ⟨kJ9_charAt_12 z, ⟨kJ9_charAt_15 z, ⟨kJ9_charAt_16 z, ⟨kJ9_charAt_17 z, ⟨kJ9_charAt_20 z, ⟨kJ9_charAt_24 z, trivial⟩⟩⟩⟩⟩⟩⟩⟩⟩⟩⟩⟩) (hd_J9_charAt z) rfl rfl (by decide +kernel)
theorem hd_J9_checkIndex (z : XKT) : XHd z Y_J9_checkIndex := xHd_none rfl (xhd0 rfl)
theorem kJ9_checkIndex_0 (z : XKT) : XOi z xInf Y_J9_checkIndex 0 (.inl (i_iload 0 1)) := ok_iload_n dJ9_checkIndex_0 rfl
theorem kJ9_checkIndex_1 (z : XKT) : XOi z xInf Y_J9_checkIndex 1 (.inl (i_iload 1 2)) := ok_iload_n dJ9_checkIndex_1 rfl
theorem kJ9_checkIndex_2 (z : XKT) : XOi z xInf Y_J9_checkIndex 2 (.inl (i_push (vR (z.2.2.1 16)) 5)) := ok_getsU dJ9_checkIndex_2 q348 (List.mem_of_getElem? (l := xStn) (i := 2) rfl)
theorem kJ9_checkIndex_5 (z : XKT) : XOi z xInf Y_J9_checkIndex 5 (.inr (.inl (8, g_stat 395 3))) := show XOkC z xInf Y_J9_checkIndex 5 8 (g_stat 395 3) from okc_S (q := Y_J9_checkIndex) (q1 := Y_J14_checkIndex) Z_J14_checkIndex rfl (by decide) dJ9_checkIndex_5 q1701 q1054 q142 q1055 hy_402
theorem kJ9_checkIndex_8 (z : XKT) : XOi z xInf Y_J9_checkIndex 8 (.inl (i_pop 9)) := ok_pop dJ9_checkIndex_8
theorem kJ9_checkIndex_9 (z : XKT) : XOi z xInf Y_J9_checkIndex 9 (.inr (.inr (.inl r_v))) := show XOkR Y_J9_checkIndex 9 (r_v) from okr_v (q := Y_J9_checkIndex) rfl dJ9_checkIndex_9
theorem o_J9_checkIndex (z : XKT) : XMi z xInf Y_J9_checkIndex := XMi.mk9 (T := T_J9_checkIndex z) rfl (⟨kJ9_checkIndex_0 z, ⟨kJ9_checkIndex_1 z, ⟨kJ9_checkIndex_2 z, ⟨kJ9_checkIndex_5 z, ⟨kJ9_checkIndex_8 z, ⟨kJ9_checkIndex_9 z, trivial⟩⟩⟩⟩⟩⟩) (hd_J9_checkIndex z) rfl rfl (by decide +kernel)
theorem hd_J9_coder (z : XKT) : XHd z Y_J9_coder := xHd_none rfl (xhd0 rfl)
theorem kJ9_coder_0 (z : XKT) : XOi z xInf Y_J9_coder 0 (.inl (i_push (vI 1) 3)) := ok_getsI dJ9_coder_0 q370 (List.mem_of_getElem? (l := xSti) (i := 1) rfl)
theorem kJ9_coder_3 (z : XKT) : XOi z xInf Y_J9_coder 3 (.inl (i_if (fun x => x = 0) 13 6)) := ok_if_eq dJ9_coder_3 rfl
theorem kJ9_coder_6 (z : XKT) : XOi z xInf Y_J9_coder 6 (.inl (i_aload 0 7)) := ok_aload_n dJ9_coder_6 rfl
theorem kJ9_coder_7 (z : XKT) : XOi z xInf Y_J9_coder 7 (.inl (i_geti [20] 114 10)) := ok_geti dJ9_coder_7 q512 (List.forall_mem_cons.mpr ⟨⟨_, _, _, _, fd_114_20_0⟩, (fun _ h => absurd h List.not_mem_nil)⟩)
theorem kJ9_coder_10 (z : XKT) : XOi z xInf Y_J9_coder 10 (.inl (i_goto 14)) := ok_goto dJ9_coder_10 rfl
theorem kJ9_coder_13 (z : XKT) : XOi z xInf Y_J9_coder 13 (.inl (i_push (vI 1) 14)) := ok_iconst dJ9_coder_13 rfl
theorem kJ9_coder_14 (z : XKT) : XOi z xInf Y_J9_coder 14 (.inr (.inr (.inl (r_i .byte)))) := show XOkR Y_J9_coder 14 ((r_i .byte)) from okr_i (q := Y_J9_coder) (ty := .byte) rfl rfl dJ9_coder_14
theorem o_J9_coder (z : XKT) : XMi z xInf Y_J9_coder := XMi.mk9 (T := T_J9_coder z) rfl (⟨kJ9_coder_0 z, ⟨kJ9_coder_3 z, ⟨kJ9_coder_6 z, ⟨kJ9_coder_7 z, ⟨kJ9_coder_10 z, ⟨kJ9_coder_13 z, ⟨kJ9_coder_14 z, trivial⟩⟩⟩⟩⟩⟩⟩) (hd_J9_coder z) rfl rfl (by decide +kernel)
theorem hd_J9_equals (z : XKT) : XHd z Y_J9_equals := xHd_none rfl (xhd0 rfl)
theorem kJ9_equals_0 (z : XKT) : XOi z xInf Y_J9_equals 0 (.inl (i_aload 0 1)) := ok_aload_n dJ9_equals_0 rfl
theorem kJ9_equals_1 (z : XKT) : XOi z xInf Y_J9_equals 1 (.inl (i_aload 1 2)) := ok_aload_n dJ9_equals_1 rfl
theorem kJ9_equals_2 (z : XKT) : XOi z xInf Y_J9_equals 2 (.inl (i_acmpne 7 5)) := ok_acmp_ne dJ9_equals_2 rfl
theorem kJ9_equals_5 (z : XKT) : XOi z xInf Y_J9_equals 5 (.inl (i_push (vI 1) 6)) := ok_iconst dJ9_equals_5 rfl
theorem kJ9_equals_6 (z : XKT) : XOi z xInf Y_J9_equals 6 (.inr (.inr (.inl (r_i .boolean)))) := show XOkR Y_J9_equals 6 ((r_i .boolean)) from okr_i (q := Y_J9_equals) (ty := .boolean) rfl rfl dJ9_equals_6
theorem kJ9_equals_7 (z : XKT) : XOi z xInf Y_J9_equals 7 (.inl (i_aload 1 8)) := ok_aload_n dJ9_equals_7 rfl
theorem kJ9_equals_8 (z : XKT) : XOi z xInf Y_J9_equals 8 (.inl (i_inst [20] [] 11)) := ok_inst dJ9_equals_8 q1402 (List.forall_mem_cons.mpr ⟨⟨by decide, by decide, _, _, _, (List.mem_of_getElem? (l := xCls) (i := 19) rfl), (Or.inl rfl)⟩, (fun _ h => absurd h List.not_mem_nil)⟩) (fun _ h => absurd h List.not_mem_nil)
theorem kJ9_equals_11 (z : XKT) : XOi z xInf Y_J9_equals 11 (.inl (i_if (fun x => x = 0) 54 14)) := ok_if_eq dJ9_equals_11 rfl
theorem kJ9_equals_14 (z : XKT) : XOi z xInf Y_J9_equals 14 (.inl (i_aload 1 15)) := ok_aload_n dJ9_equals_14 rfl
theorem kJ9_equals_15 (z : XKT) : XOi z xInf Y_J9_equals 15 (.inl (i_cast [20] 18)) := ok_cast dJ9_equals_15 q1402 (List.forall_mem_cons.mpr ⟨⟨by decide, by decide, _, _, _, (List.mem_of_getElem? (l := xCls) (i := 19) rfl), (Or.inl rfl)⟩, (fun _ h => absurd h List.not_mem_nil)⟩)
theorem kJ9_equals_18 (z : XKT) : XOi z xInf Y_J9_equals 18 (.inl (i_astore 2 19)) := ok_astore_n dJ9_equals_18 rfl
theorem kJ9_equals_19 (z : XKT) : XOi z xInf Y_J9_equals 19 (.inl (i_push (vI 1) 22)) := ok_getsI dJ9_equals_19 q370 (List.mem_of_getElem? (l := xSti) (i := 1) rfl)
theorem kJ9_equals_22 (z : XKT) : XOi z xInf Y_J9_equals 22 (.inl (i_if (fun x => x = 0) 36 25)) := ok_if_eq dJ9_equals_22 rfl
theorem kJ9_equals_25 (z : XKT) : XOi z xInf Y_J9_equals 25 (.inl (i_aload 0 26)) := ok_aload_n dJ9_equals_25 rfl
theorem kJ9_equals_26 (z : XKT) : XOi z xInf Y_J9_equals 26 (.inl (i_geti [20] 114 29)) := ok_geti dJ9_equals_26 q512 (List.forall_mem_cons.mpr ⟨⟨_, _, _, _, fd_114_20_0⟩, (fun _ h => absurd h List.not_mem_nil)⟩)
theorem kJ9_equals_29 (z : XKT) : XOi z xInf Y_J9_equals 29 (.inl (i_aload 2 30)) := ok_aload_n dJ9_equals_29 rfl
theorem kJ9_equals_30 (z : XKT) : XOi z xInf Y_J9_equals 30 (.inl (i_geti [20] 114 33)) := ok_geti dJ9_equals_30 q512 (List.forall_mem_cons.mpr ⟨⟨_, _, _, _, fd_114_20_0⟩, (fun _ h => absurd h List.not_mem_nil)⟩)
theorem kJ9_equals_33 (z : XKT) : XOi z xInf Y_J9_equals 33 (.inl (i_icmp (fun x y => ¬ x = y) 54 36)) := ok_icmp_ne dJ9_equals_33 rfl
theorem kJ9_equals_36 (z : XKT) : XOi z xInf Y_J9_equals 36 (.inl (i_aload 0 37)) := ok_aload_n dJ9_equals_36 rfl
theorem kJ9_equals_37 (z : XKT) : XOi z xInf Y_J9_equals 37 (.inl (i_getr [20] 113 40)) := ok_getr dJ9_equals_37 q511 (List.forall_mem_cons.mpr ⟨⟨_, _, _, _, fd_113_20_0⟩, (fun _ h => absurd h List.not_mem_nil)⟩)
theorem kJ9_equals_40 (z : XKT) : XOi z xInf Y_J9_equals 40 (.inl (i_aload 2 41)) := ok_aload_n dJ9_equals_40 rfl
theorem kJ9_equals_41 (z : XKT) : XOi z xInf Y_J9_equals 41 (.inl (i_getr [20] 113 44)) := ok_getr dJ9_equals_41 q511 (List.forall_mem_cons.mpr ⟨⟨_, _, _, _, fd_113_20_0⟩, (fun _ h => absurd h List.not_mem_nil)⟩)
theorem kJ9_equals_44 (z : XKT) : XOi z xInf Y_J9_equals 44 (.inr (.inl (47, g_stat 398 2))) := show XOkC z xInf Y_J9_equals 44 47 (g_stat 398 2) from okc_S (q := Y_J9_equals) (q1 := Y_J15_equals) Z_J15_equals rfl (by decide) dJ9_equals_44 q1403 q1404 q143 q1405 hy_403
theorem kJ9_equals_47 (z : XKT) : XOi z xInf Y_J9_equals 47 (.inl (i_if (fun x => x = 0) 54 50)) := ok_if_eq dJ9_equals_47 rfl
theorem kJ9_equals_50 (z : XKT) : XOi z xInf Y_J9_equals 50 (.inl (i_push (vI 1) 51)) := ok_iconst dJ9_equals_50 rfl
theorem kJ9_equals_51 (z : XKT) : XOi z xInf Y_J9_equals 51 (.inl (i_goto 55)) := ok_goto dJ9_equals_51 rfl
theorem kJ9_equals_54 (z : XKT) : XOi z xInf Y_J9_equals 54 (.inl (i_push (vI 0) 55)) := ok_iconst dJ9_equals_54 rfl
theorem kJ9_equals_55 (z : XKT) : XOi z xInf Y_J9_equals 55 (.inr (.inr (.inl (r_i .boolean)))) := show XOkR Y_J9_equals 55 ((r_i .boolean)) from okr_i (q := Y_J9_equals) (ty := .boolean) rfl rfl dJ9_equals_55
theorem o_J9_equals (z : XKT) : XMi z xInf Y_J9_equals := XMi.mk9 (T := T_J9_equals z) rfl (⟨kJ9_equals_0 z, ⟨kJ9_equals_1 z, ⟨kJ9_equals_2 z, ⟨kJ9_equals_5 z, ⟨kJ9_equals_6 z, ⟨kJ9_equals_7 z, ⟨kJ9_equals_8 z, ⟨kJ9_equals_11 z, ⟨kJ9_equals_14 z, ⟨kJ9_equals_15 z, ⟨kJ9_equals_18 z, ⟨kJ9_equals_19 z, ⟨kJ9_equals_22 z, ⟨kJ9_equals_25 z, ⟨kJ9_equals_26 z, ⟨kJ9_equals_29 z, ⟨kJ9_equals_30 z, ⟨kJ9_equals_33 z, ⟨kJ9_equals_36 z, ⟨kJ9_equals_37 z, ⟨kJ9_equals_40 z, ⟨kJ9_equals_41 z, ⟨kJ9_equals_44 z, ⟨kJ9_equals_47 z, ⟨kJ9_equals_50 z, ⟨kJ9_equals_51 z, ⟨kJ9_equals_54 z, ⟨kJ9_equals_55 z, trivial⟩⟩⟩⟩⟩⟩⟩⟩⟩⟩⟩⟩⟩⟩⟩⟩⟩⟩⟩⟩⟩⟩⟩⟩⟩⟩⟩⟩) (hd_J9_equals z) rfl rfl (by decide +kernel)
theorem hd_J9_getBytes (z : XKT) : XHd z Y_J9_getBytes := xHd_none rfl (xhd0 rfl)
theorem kJ9_getBytes_0 (z : XKT) : XOi z xInf Y_J9_getBytes 0 (.inl (i_aload 0 1)) := ok_aload_n dJ9_getBytes_0 rfl
theorem kJ9_getBytes_1 (z : XKT) : XOi z xInf Y_J9_getBytes 1 (.inr (.inl (4, g_virt [(20, 376)] 0))) := show XOkC z xInf Y_J9_getBytes 1 4 (g_virt [(20, 376)] 0) from okc_V (q := Y_J9_getBytes) (List.forall_mem_cons.mpr ⟨(show XOkV z xInf Y_J9_getBytes 1 4 0 (20, 376) from okv_V (q := Y_J9_getBytes) (q1 := Y_J9_coder) Z_J9_coder rfl (by decide) ⟨by decide, by decide, Or.inl ⟨_, _, (List.mem_of_getElem? (l := xCls) (i := 19) rfl)⟩⟩ dJ9_getBytes_1 q366 q367 q368 q136 q369 hy_389), (fun _ h => absurd h List.not_mem_nil)⟩)
theorem kJ9_getBytes_4 (z : XKT) : XOi z xInf Y_J9_getBytes 4 (.inl (i_iload 3 5)) := ok_iload_n dJ9_getBytes_4 rfl
theorem kJ9_getBytes_5 (z : XKT) : XOi z xInf Y_J9_getBytes 5 (.inl (i_icmp (fun x y => ¬ x = y) 28 8)) := ok_icmp_ne dJ9_getBytes_5 rfl
theorem kJ9_getBytes_8 (z : XKT) : XOi z xInf Y_J9_getBytes 8 (.inl (i_aload 0 9)) := ok_aload_n dJ9_getBytes_8 rfl
theorem kJ9_getBytes_9 (z : XKT) : XOi z xInf Y_J9_getBytes 9 (.inl (i_getr [20] 113 12)) := ok_getr dJ9_getBytes_9 q511 (List.forall_mem_cons.mpr ⟨⟨_, _, _, _, fd_113_20_0⟩, (fun _ h => absurd h List.not_mem_nil)⟩)
theorem kJ9_getBytes_12 (z : XKT) : XOi z xInf Y_J9_getBytes 12 (.inl (i_push (vI 0) 13)) := ok_iconst dJ9_getBytes_12 rfl
theorem kJ9_getBytes_13 (z : XKT) : XOi z xInf Y_J9_getBytes 13 (.inl (i_aload 1 14)) := ok_aload_n dJ9_getBytes_13 rfl
theorem kJ9_getBytes_14 (z : XKT) : XOi z xInf Y_J9_getBytes 14 (.inl (i_iload 2 15)) := ok_iload_n dJ9_getBytes_14 rfl
theorem kJ9_getBytes_15 (z : XKT) : XOi z xInf Y_J9_getBytes 15 (.inl (i_iload 3 16)) := ok_iload_n dJ9_getBytes_15 rfl
theorem kJ9_getBytes_16 (z : XKT) : XOi z xInf Y_J9_getBytes 16 (.inl (i_bin (fun x y => x <<< (y &&& 31)) 17)) := ok_ishl dJ9_getBytes_16
theorem kJ9_getBytes_17 (z : XKT) : XOi z xInf Y_J9_getBytes 17 (.inl (i_aload 0 18)) := ok_aload_n dJ9_getBytes_17 rfl
theorem kJ9_getBytes_18 (z : XKT) : XOi z xInf Y_J9_getBytes 18 (.inl (i_getr [20] 113 21)) := ok_getr dJ9_getBytes_18 q511 (List.forall_mem_cons.mpr ⟨⟨_, _, _, _, fd_113_20_0⟩, (fun _ h => absurd h List.not_mem_nil)⟩)
theorem kJ9_getBytes_21 (z : XKT) : XOi z xInf Y_J9_getBytes 21 (.inl (i_alen 22)) := ok_alen dJ9_getBytes_21
theorem kJ9_getBytes_22 (z : XKT) : XOi z xInf Y_J9_getBytes 22 (.inl (i_acopy z.1 1001 25)) := ok_acopy (ty := .byte) dJ9_getBytes_22 q403 q330 q329 q141 (List.mem_of_getElem? (l := xArs) (i := 1) rfl) (Or.inr ⟨rfl, rfl⟩) (by decide) (by decide) (by decide)
theorem kJ9_getBytes_25 (z : XKT) : XOi z xInf Y_J9_getBytes 25 (.inl (i_goto 43)) := ok_goto dJ9_getBytes_25 rfl
theorem kJ9_getBytes_28 (z : XKT) : XOi z xInf Y_J9_getBytes 28 (.inl (i_aload 0 29)) := ok_aload_n dJ9_getBytes_28 rfl
theorem kJ9_getBytes_29 (z : XKT) : XOi z xInf Y_J9_getBytes 29 (.inl (i_getr [20] 113 32)) := ok_getr dJ9_getBytes_29 q511 (List.forall_mem_cons.mpr ⟨⟨_, _, _, _, fd_113_20_0⟩, (fun _ h => absurd h List.not_mem_nil)⟩)
theorem kJ9_getBytes_32 (z : XKT) : XOi z xInf Y_J9_getBytes 32 (.inl (i_push (vI 0) 33)) := ok_iconst dJ9_getBytes_32 rfl
theorem kJ9_getBytes_33 (z : XKT) : XOi z xInf Y_J9_getBytes 33 (.inl (i_aload 1 34)) := ok_aload_n dJ9_getBytes_33 rfl
theorem kJ9_getBytes_34 (z : XKT) : XOi z xInf Y_J9_getBytes 34 (.inl (i_iload 2 35)) := ok_iload_n dJ9_getBytes_34 rfl
theorem kJ9_getBytes_35 (z : XKT) : XOi z xInf Y_J9_getBytes 35 (.inl (i_aload 0 36)) := ok_aload_n dJ9_getBytes_35 rfl
theorem kJ9_getBytes_36 (z : XKT) : XOi z xInf Y_J9_getBytes 36 (.inl (i_getr [20] 113 39)) := ok_getr dJ9_getBytes_36 q511 (List.forall_mem_cons.mpr ⟨⟨_, _, _, _, fd_113_20_0⟩, (fun _ h => absurd h List.not_mem_nil)⟩)
theorem kJ9_getBytes_39 (z : XKT) : XOi z xInf Y_J9_getBytes 39 (.inl (i_alen 40)) := ok_alen dJ9_getBytes_39
theorem kJ9_getBytes_43 (z : XKT) : XOi z xInf Y_J9_getBytes 43 (.inr (.inr (.inl r_v))) := show XOkR Y_J9_getBytes 43 (r_v) from okr_v (q := Y_J9_getBytes) rfl dJ9_getBytes_43
theorem o_J9_getBytes (z : XKT) : XMi z xInf Y_J9_getBytes := XMi.mk9 (T := T_J9_getBytes z) rfl (⟨kJ9_getBytes_0 z, ⟨kJ9_getBytes_1 z, ⟨kJ9_getBytes_4 z, ⟨kJ9_getBytes_5 z, ⟨kJ9_getBytes_8 z, ⟨kJ9_getBytes_9 z, ⟨kJ9_getBytes_12 z, ⟨kJ9_getBytes_13 z, ⟨kJ9_getBytes_14 z, ⟨kJ9_getBytes_15 z, ⟨kJ9_getBytes_16 z, ⟨kJ9_getBytes_17 z, ⟨kJ9_getBytes_18 z, ⟨kJ9_getBytes_21 z, ⟨kJ9_getBytes_22 z, ⟨kJ9_getBytes_25 z, ⟨kJ9_getBytes_28 z, ⟨kJ9_getBytes_29 z, ⟨kJ9_getBytes_32 z, ⟨kJ9_getBytes_33 z, ⟨kJ9_getBytes_34 z, ⟨kJ9_getBytes_35 z, ⟨kJ9_getBytes_36 z, ⟨kJ9_getBytes_39 z, ⟨kJ9_getBytes_43 z, trivial⟩⟩⟩⟩⟩⟩⟩⟩⟩⟩⟩⟩⟩⟩⟩⟩⟩⟩⟩⟩⟩⟩⟩⟩⟩) (hd_J9_getBytes z) rfl rfl (by decide +kernel)
theorem hd_J9_hashCode (z : XKT) : XHd z Y_J9_hashCode := xHd_none rfl (xhd0 rfl)
theorem kJ9_hashCode_0 (z : XKT) : XOi z xInf Y_J9_hashCode 0 (.inl (i_aload 0 1)) := ok_aload_n dJ9_hashCode_0 rfl
theorem kJ9_hashCode_1 (z : XKT) : XOi z xInf Y_J9_hashCode 1 (.inl (i_geti [20] 115 4)) := ok_geti dJ9_hashCode_1 q513 (List.forall_mem_cons.mpr ⟨⟨_, _, _, _, fd_115_20_0⟩, (fun _ h => absurd h List.not_mem_nil)⟩)
theorem kJ9_hashCode_4 (z : XKT) : XOi z xInf Y_J9_hashCode 4 (.inl (i_istore 1 5)) := ok_istore_n dJ9_hashCode_4 rfl
theorem kJ9_hashCode_5 (z : XKT) : XOi z xInf Y_J9_hashCode 5 (.inl (i_iload 1 6)) := ok_iload_n dJ9_hashCode_5 rfl
theorem kJ9_hashCode_6 (z : XKT) : XOi z xInf Y_J9_hashCode 6 (.inl (i_if (fun x => ¬ x = 0) 58 9)) := ok_if_ne dJ9_hashCode_6 rfl
theorem kJ9_hashCode_9 (z : XKT) : XOi z xInf Y_J9_hashCode 9 (.inl (i_aload 0 10)) := ok_aload_n dJ9_hashCode_9 rfl
theorem kJ9_hashCode_10 (z : XKT) : XOi z xInf Y_J9_hashCode 10 (.inl (i_geti [20] 116 13)) := ok_geti dJ9_hashCode_10 q514 (List.forall_mem_cons.mpr ⟨⟨_, _, _, _, fd_116_20_0⟩, (fun _ h => absurd h List.not_mem_nil)⟩)
theorem kJ9_hashCode_13 (z : XKT) : XOi z xInf Y_J9_hashCode 13 (.inl (i_if (fun x => ¬ x = 0) 58 16)) := ok_if_ne dJ9_hashCode_13 rfl
theorem kJ9_hashCode_16 (z : XKT) : XOi z xInf Y_J9_hashCode 16 (.inl (i_aload 0 17)) := ok_aload_n dJ9_hashCode_16 rfl
theorem kJ9_hashCode_17 (z : XKT) : XOi z xInf Y_J9_hashCode 17 (.inr (.inl (20, g_virt [(20, 382)] 0))) := show XOkC z xInf Y_J9_hashCode 17 20 (g_virt [(20, 382)] 0) from okc_V (q := Y_J9_hashCode) (List.forall_mem_cons.mpr ⟨(show XOkV z xInf Y_J9_hashCode 17 20 0 (20, 382) from okv_V (q := Y_J9_hashCode) (q1 := Y_J9_isLatin1) Z_J9_isLatin1 rfl (by decide) ⟨by decide, by decide, Or.inl ⟨_, _, (List.mem_of_getElem? (l := xCls) (i := 19) rfl)⟩⟩ dJ9_hashCode_17 q1691 q1692 q1693 q136 q1694 hy_400), (fun _ h => absurd h List.not_mem_nil)⟩)
theorem kJ9_hashCode_20 (z : XKT) : XOi z xInf Y_J9_hashCode 20 (.inl (i_if (fun x => x = 0) 33 23)) := ok_if_eq dJ9_hashCode_20 rfl
theorem kJ9_hashCode_23 (z : XKT) : XOi z xInf Y_J9_hashCode 23 (.inl (i_aload 0 24)) := ok_aload_n dJ9_hashCode_23 rfl
theorem kJ9_hashCode_24 (z : XKT) : XOi z xInf Y_J9_hashCode 24 (.inl (i_getr [20] 113 27)) := ok_getr dJ9_hashCode_24 q511 (List.forall_mem_cons.mpr ⟨⟨_, _, _, _, fd_113_20_0⟩, (fun _ h => absurd h List.not_mem_nil)⟩)
theorem kJ9_hashCode_27 (z : XKT) : XOi z xInf Y_J9_hashCode 27 (.inr (.inl (30, g_stat 400 1))) := show XOkC z xInf Y_J9_hashCode 27 30 (g_stat 400 1) from okc_S (q := Y_J9_hashCode) (q1 := Y_J15_hashCode) Z_J15_hashCode rfl (by decide) dJ9_hashCode_27 q1935 q1936 q143 q1937 hy_404
theorem kJ9_hashCode_30 (z : XKT) : XOi z xInf Y_J9_hashCode 30 (.inl (i_goto 40)) := ok_goto dJ9_hashCode_30 rfl
theorem kJ9_hashCode_33 (z : XKT) : XOi z xInf Y_J9_hashCode 33 (.inl (i_aload 0 34)) := ok_aload_n dJ9_hashCode_33 rfl
theorem kJ9_hashCode_34 (z : XKT) : XOi z xInf Y_J9_hashCode 34 (.inl (i_getr [20] 113 37)) := ok_getr dJ9_hashCode_34 q511 (List.forall_mem_cons.mpr ⟨⟨_, _, _, _, fd_113_20_0⟩, (fun _ h => absurd h List.not_mem_nil)⟩)
theorem kJ9_hashCode_40 (z : XKT) : XOi z xInf Y_J9_hashCode 40 (.inl (i_istore 1 41)) := ok_istore_n dJ9_hashCode_40 rfl
theorem kJ9_hashCode_41 (z : XKT) : XOi z xInf Y_J9_hashCode 41 (.inl (i_iload 1 42)) := ok_iload_n dJ9_hashCode_41 rfl
theorem kJ9_hashCode_42 (z : XKT) : XOi z xInf Y_J9_hashCode 42 (.inl (i_if (fun x => ¬ x = 0) 53 45)) := ok_if_ne dJ9_hashCode_42 rfl
theorem kJ9_hashCode_45 (z : XKT) : XOi z xInf Y_J9_hashCode 45 (.inl (i_aload 0 46)) := ok_aload_n dJ9_hashCode_45 rfl
theorem kJ9_hashCode_46 (z : XKT) : XOi z xInf Y_J9_hashCode 46 (.inl (i_push (vI 1) 47)) := ok_iconst dJ9_hashCode_46 rfl
theorem kJ9_hashCode_47 (z : XKT) : XOi z xInf Y_J9_hashCode 47 (.inl (i_puti z.1 [20] .boolean 116 50)) := ok_puti dJ9_hashCode_47 q514 rfl (List.forall_mem_cons.mpr ⟨⟨_, _, _, _, tyJ9, fd_116_20_0, ⟨tyJ9_ok, nmJ9, (Or.inl rfl)⟩, rfl⟩, (fun _ h => absurd h List.not_mem_nil)⟩)
theorem kJ9_hashCode_50 (z : XKT) : XOi z xInf Y_J9_hashCode 50 (.inl (i_goto 58)) := ok_goto dJ9_hashCode_50 rfl
theorem kJ9_hashCode_53 (z : XKT) : XOi z xInf Y_J9_hashCode 53 (.inl (i_aload 0 54)) := ok_aload_n dJ9_hashCode_53 rfl
theorem kJ9_hashCode_54 (z : XKT) : XOi z xInf Y_J9_hashCode 54 (.inl (i_iload 1 55)) := ok_iload_n dJ9_hashCode_54 rfl
theorem kJ9_hashCode_55 (z : XKT) : XOi z xInf Y_J9_hashCode 55 (.inl (i_puti z.1 [20] .int 115 58)) := ok_puti dJ9_hashCode_55 q513 rfl (List.forall_mem_cons.mpr ⟨⟨_, _, _, _, tyJ9, fd_115_20_0, ⟨tyJ9_ok, nmJ9, (Or.inl rfl)⟩, rfl⟩, (fun _ h => absurd h List.not_mem_nil)⟩)
theorem kJ9_hashCode_58 (z : XKT) : XOi z xInf Y_J9_hashCode 58 (.inl (i_iload 1 59)) := ok_iload_n dJ9_hashCode_58 rfl
theorem kJ9_hashCode_59 (z : XKT) : XOi z xInf Y_J9_hashCode 59 (.inr (.inr (.inl (r_i .int)))) := show XOkR Y_J9_hashCode 59 ((r_i .int)) from okr_i (q := Y_J9_hashCode) (ty := .int) rfl rfl dJ9_hashCode_59
theorem o_J9_hashCode (z : XKT) : XMi z xInf Y_J9_hashCode := XMi.mk9 (T := T_J9_hashCode z) rfl (⟨kJ9_hashCode_0 z, ⟨kJ9_hashCode_1 z, ⟨kJ9_hashCode_4 z, ⟨kJ9_hashCode_5 z, ⟨kJ9_hashCode_6 z, ⟨kJ9_hashCode_9 z, ⟨kJ9_hashCode_10 z, ⟨kJ9_hashCode_13 z, ⟨kJ9_hashCode_16 z, ⟨kJ9_hashCode_17 z, ⟨kJ9_hashCode_20 z, ⟨kJ9_hashCode_23 z, ⟨kJ9_hashCode_24 z, ⟨kJ9_hashCode_27 z, ⟨kJ9_hashCode_30 z, ⟨kJ9_hashCode_33 z, ⟨kJ9_hashCode_34 z, ⟨kJ9_hashCode_40 z, ⟨kJ9_hashCode_41 z, ⟨kJ9_hashCode_42 z, ⟨kJ9_hashCode_45 z, ⟨kJ9_hashCode_46 z, ⟨kJ9_hashCode_47 z, ⟨kJ9_hashCode_50 z, ⟨kJ9_hashCode_53 z, ⟨kJ9_hashCode_54 z, ⟨kJ9_hashCode_55 z, ⟨kJ9_hashCode_58 z, ⟨kJ9_hashCode_59 z, trivial⟩⟩⟩⟩⟩⟩⟩⟩⟩⟩⟩⟩⟩⟩⟩⟩⟩⟩⟩⟩⟩⟩⟩⟩⟩⟩⟩⟩⟩) (hd_J9_hashCode z) rfl rfl (by decide +kernel)
theorem hd_J9_init (z : XKT) : XHd z Y_J9_init := xHd_none rfl (xhd0 rfl)
theorem kJ9_init_0 (z : XKT) : XOi z xInf Y_J9_init 0 (.inl (i_aload 0 1)) := ok_aload_n dJ9_init_0 rfl
theorem kJ9_init_1 (z : XKT) : XOi z xInf Y_J9_init 1 (.inl (i_aload 1 2)) := ok_aload_n dJ9_init_1 rfl
theorem kJ9_init_2 (z : XKT) : XOi z xInf Y_J9_init 2 (.inl (i_push (vR none) 3)) := ok_null dJ9_init_2
theorem kJ9_init_3 (z : XKT) : XOi z xInf Y_J9_init 3 (.inr (.inl (6, g_spec 381 2))) := show XOkC z xInf Y_J9_init 3 6 (g_spec 381 2) from okc_I (q := Y_J9_init) (q1 := Y_J9_init_2) Z_J9_init_2 rfl rfl rfl (by decide) dJ9_init_3 q439 q440 q136 q441 hy_405
theorem kJ9_init_6 (z : XKT) : XOi z xInf Y_J9_init 6 (.inr (.inr (.inl r_v))) := show XOkR Y_J9_init 6 (r_v) from okr_v (q := Y_J9_init) rfl dJ9_init_6
theorem o_J9_init (z : XKT) : XMi z xInf Y_J9_init := XMi.mk9 (T := T_J9_init z) rfl (⟨kJ9_init_0 z, ⟨kJ9_init_1 z, ⟨kJ9_init_2 z, ⟨kJ9_init_3 z, ⟨kJ9_init_6 z, trivial⟩⟩⟩⟩⟩) (hd_J9_init z) rfl rfl (by decide +kernel)
theorem hd_J9_init_2 (z : XKT) : XHd z Y_J9_init_2 := xHd_none rfl (xhd0 rfl)
theorem kJ9_init_2_0 (z : XKT) : XOi z xInf Y_J9_init_2 0 (.inl (i_aload 0 1)) := ok_aload_n dJ9_init_2_0 rfl
theorem kJ9_init_2_1 (z : XKT) : XOi z xInf Y_J9_init_2 1 (.inl (i_oinit 4)) := ok_oinit dJ9_init_2_1 q442 q179 q180
theorem kJ9_init_2_4 (z : XKT) : XOi z xInf Y_J9_init_2 4 (.inl (i_aload 1 5)) := ok_aload_n dJ9_init_2_4 rfl
theorem kJ9_init_2_5 (z : XKT) : XOi z xInf Y_J9_init_2 5 (.inr (.inl (8, g_virt [(19, 359)] 0))) := show XOkC z xInf Y_J9_init_2 5 8 (g_virt [(19, 359)] 0) from okc_V (q := Y_J9_init_2) (List.forall_mem_cons.mpr ⟨(show XOkV z xInf Y_J9_init_2 5 8 0 (19, 359) from okv_V (q := Y_J9_init_2) (q1 := Y_J7_getValue) Z_J7_getValue rfl (by decide) ⟨by decide, by decide, Or.inl ⟨_, _, (List.mem_of_getElem? (l := xCls) (i := 18) rfl)⟩⟩ dJ9_init_2_5 q443 q444 q446 q134 q447 hy_406), (fun _ h => absurd h List.not_mem_nil)⟩)
theorem kJ9_init_2_8 (z : XKT) : XOi z xInf Y_J9_init_2 8 (.inl (i_astore 3 9)) := ok_astore_n dJ9_init_2_8 rfl
theorem kJ9_init_2_9 (z : XKT) : XOi z xInf Y_J9_init_2 9 (.inl (i_aload 1 10)) := ok_aload_n dJ9_init_2_9 rfl
theorem kJ9_init_2_10 (z : XKT) : XOi z xInf Y_J9_init_2 10 (.inr (.inl (13, g_virt [(19, 371)] 0))) := show XOkC z xInf Y_J9_init_2 10 13 (g_virt [(19, 371)] 0) from okc_V (q := Y_J9_init_2) (List.forall_mem_cons.mpr ⟨(show XOkV z xInf Y_J9_init_2 10 13 0 (19, 371) from okv_U (q := Y_J9_init_2) (owner := "java/lang/AbstractStringBuilder") (x := ⟨"java/lang/AbstractStringBuilder", "length", "()I"⟩) (q1 := Y_J8_length) Z_J8_length rfl (by decide) ⟨by decide, by decide, Or.inl ⟨_, _, (List.mem_of_getElem? (l := xCls) (i := 18) rfl)⟩⟩ dJ9_init_2_10 q448 q450 (Or.inr ⟨q449, _, _, _, q455⟩) q452 q451 q135 q453 ⟨hy_397.1, hy_397.2.1⟩ (by decide +kernel)), (fun _ h => absurd h List.not_mem_nil)⟩)
theorem kJ9_init_2_13 (z : XKT) : XOi z xInf Y_J9_init_2 13 (.inl (i_istore 4 15)) := ok_istore dJ9_init_2_13
theorem kJ9_init_2_15 (z : XKT) : XOi z xInf Y_J9_init_2 15 (.inl (i_aload 1 16)) := ok_aload_n dJ9_init_2_15 rfl
theorem kJ9_init_2_16 (z : XKT) : XOi z xInf Y_J9_init_2 16 (.inr (.inl (19, g_virt [(19, 362)] 0))) := show XOkC z xInf Y_J9_init_2 16 19 (g_virt [(19, 362)] 0) from okc_V (q := Y_J9_init_2) (List.forall_mem_cons.mpr ⟨(show XOkV z xInf Y_J9_init_2 16 19 0 (19, 362) from okv_V (q := Y_J9_init_2) (q1 := Y_J7_isLatin1) Z_J7_isLatin1 rfl (by decide) ⟨by decide, by decide, Or.inl ⟨_, _, (List.mem_of_getElem? (l := xCls) (i := 18) rfl)⟩⟩ dJ9_init_2_16 q456 q332 q334 q134 q335 hy_384), (fun _ h => absurd h List.not_mem_nil)⟩)
theorem kJ9_init_2_19 (z : XKT) : XOi z xInf Y_J9_init_2 19 (.inl (i_if (fun x => x = 0) 41 22)) := ok_if_eq dJ9_init_2_19 rfl
theorem kJ9_init_2_22 (z : XKT) : XOi z xInf Y_J9_init_2 22 (.inl (i_aload 0 23)) := ok_aload_n dJ9_init_2_22 rfl
theorem kJ9_init_2_23 (z : XKT) : XOi z xInf Y_J9_init_2 23 (.inl (i_push (vI 0) 24)) := ok_iconst dJ9_init_2_23 rfl
theorem kJ9_init_2_24 (z : XKT) : XOi z xInf Y_J9_init_2 24 (.inl (i_puti z.1 [20] .byte 114 27)) := ok_puti dJ9_init_2_24 q512 rfl (List.forall_mem_cons.mpr ⟨⟨_, _, _, _, tyJ9, fd_114_20_0, ⟨tyJ9_ok, nmJ9, (Or.inr ⟨rfl, by decide, rfl⟩)⟩, rfl⟩, (fun _ h => absurd h List.not_mem_nil)⟩)
theorem kJ9_init_2_27 (z : XKT) : XOi z xInf Y_J9_init_2 27 (.inl (i_aload 0 28)) := ok_aload_n dJ9_init_2_27 rfl
theorem kJ9_init_2_28 (z : XKT) : XOi z xInf Y_J9_init_2 28 (.inl (i_aload 3 29)) := ok_aload_n dJ9_init_2_28 rfl
theorem kJ9_init_2_29 (z : XKT) : XOi z xInf Y_J9_init_2 29 (.inl (i_push (vI 0) 30)) := ok_iconst dJ9_init_2_29 rfl
theorem kJ9_init_2_30 (z : XKT) : XOi z xInf Y_J9_init_2 30 (.inl (i_iload 4 32)) := ok_iload dJ9_init_2_30
theorem kJ9_init_2_32 (z : XKT) : XOi z xInf Y_J9_init_2 32 (.inr (.inl (35, g_stat 391 3))) := show XOkC z xInf Y_J9_init_2 32 35 (g_stat 391 3) from okc_S (q := Y_J9_init_2) (q1 := Y_J13_copyOfRange) Z_J13_copyOfRange rfl (by decide) dJ9_init_2_32 q457 q458 q140 q459 hy_407
theorem kJ9_init_2_35 (z : XKT) : XOi z xInf Y_J9_init_2 35 (.inl (i_putr z.1 [20] 113 38)) := ok_putr dJ9_init_2_35 q511 (List.forall_mem_cons.mpr ⟨⟨_, _, _, _, tyJ9, fd_113_20_0, ⟨tyJ9_ok, nmJ9, (Or.inr ⟨rfl, by decide, rfl⟩)⟩, (Or.inr ⟨_, rfl⟩)⟩, (fun _ h => absurd h List.not_mem_nil)⟩)
theorem kJ9_init_2_38 (z : XKT) : XOi z xInf Y_J9_init_2 38 (.inl (i_goto 97)) := ok_goto dJ9_init_2_38 rfl
theorem kJ9_init_2_41 (z : XKT) : XOi z xInf Y_J9_init_2 41 (.inl (i_push (vI 1) 44)) := ok_getsI dJ9_init_2_41 q370 (List.mem_of_getElem? (l := xSti) (i := 1) rfl)
theorem kJ9_init_2_44 (z : XKT) : XOi z xInf Y_J9_init_2 44 (.inl (i_if (fun x => x = 0) 79 47)) := ok_if_eq dJ9_init_2_44 rfl
theorem kJ9_init_2_47 (z : XKT) : XOi z xInf Y_J9_init_2 47 (.inl (i_aload 1 48)) := ok_aload_n dJ9_init_2_47 rfl
theorem kJ9_init_2_48 (z : XKT) : XOi z xInf Y_J9_init_2 48 (.inl (i_geti [19] 111 51)) := ok_geti dJ9_init_2_48 q271 (List.forall_mem_cons.mpr ⟨⟨_, _, _, _, fd_111_19_0⟩, (fun _ h => absurd h List.not_mem_nil)⟩)
theorem kJ9_init_2_51 (z : XKT) : XOi z xInf Y_J9_init_2 51 (.inl (i_if (fun x => x = 0) 79 54)) := ok_if_eq dJ9_init_2_51 rfl
theorem kJ9_init_2_54 (z : XKT) : XOi z xInf Y_J9_init_2 54 (.inl (i_aload 0 55)) := ok_aload_n dJ9_init_2_54 rfl
theorem kJ9_init_2_55 (z : XKT) : XOi z xInf Y_J9_init_2 55 (.inl (i_aload 3 56)) := ok_aload_n dJ9_init_2_55 rfl
theorem kJ9_init_2_56 (z : XKT) : XOi z xInf Y_J9_init_2 56 (.inl (i_push (vI 0) 57)) := ok_iconst dJ9_init_2_56 rfl
theorem kJ9_init_2_57 (z : XKT) : XOi z xInf Y_J9_init_2 57 (.inl (i_iload 4 59)) := ok_iload dJ9_init_2_57
theorem kJ9_init_2_62 (z : XKT) : XOi z xInf Y_J9_init_2 62 (.inl (i_putr z.1 [20] 113 65)) := ok_putr dJ9_init_2_62 q511 (List.forall_mem_cons.mpr ⟨⟨_, _, _, _, tyJ9, fd_113_20_0, ⟨tyJ9_ok, nmJ9, (Or.inr ⟨rfl, by decide, rfl⟩)⟩, (Or.inr ⟨_, rfl⟩)⟩, (fun _ h => absurd h List.not_mem_nil)⟩)
theorem kJ9_init_2_65 (z : XKT) : XOi z xInf Y_J9_init_2 65 (.inl (i_aload 0 66)) := ok_aload_n dJ9_init_2_65 rfl
theorem kJ9_init_2_66 (z : XKT) : XOi z xInf Y_J9_init_2 66 (.inl (i_aload 0 67)) := ok_aload_n dJ9_init_2_66 rfl
theorem kJ9_init_2_67 (z : XKT) : XOi z xInf Y_J9_init_2 67 (.inl (i_getr [20] 113 70)) := ok_getr dJ9_init_2_67 q511 (List.forall_mem_cons.mpr ⟨⟨_, _, _, _, fd_113_20_0⟩, (fun _ h => absurd h List.not_mem_nil)⟩)
theorem kJ9_init_2_70 (z : XKT) : XOi z xInf Y_J9_init_2 70 (.inl (i_iload 4 72)) := ok_iload dJ9_init_2_70
theorem kJ9_init_2_75 (z : XKT) : XOi z xInf Y_J9_init_2 75 (.inl (i_puti z.1 [20] .byte 114 78)) := ok_puti dJ9_init_2_75 q512 rfl (List.forall_mem_cons.mpr ⟨⟨_, _, _, _, tyJ9, fd_114_20_0, ⟨tyJ9_ok, nmJ9, (Or.inr ⟨rfl, by decide, rfl⟩)⟩, rfl⟩, (fun _ h => absurd h List.not_mem_nil)⟩)
theorem kJ9_init_2_78 (z : XKT) : XOi z xInf Y_J9_init_2 78 (.inr (.inr (.inl r_v))) := show XOkR Y_J9_init_2 78 (r_v) from okr_v (q := Y_J9_init_2) rfl dJ9_init_2_78
theorem kJ9_init_2_79 (z : XKT) : XOi z xInf Y_J9_init_2 79 (.inl (i_aload 0 80)) := ok_aload_n dJ9_init_2_79 rfl
theorem kJ9_init_2_80 (z : XKT) : XOi z xInf Y_J9_init_2 80 (.inl (i_push (vI 1) 81)) := ok_iconst dJ9_init_2_80 rfl
theorem kJ9_init_2_81 (z : XKT) : XOi z xInf Y_J9_init_2 81 (.inl (i_puti z.1 [20] .byte 114 84)) := ok_puti dJ9_init_2_81 q512 rfl (List.forall_mem_cons.mpr ⟨⟨_, _, _, _, tyJ9, fd_114_20_0, ⟨tyJ9_ok, nmJ9, (Or.inr ⟨rfl, by decide, rfl⟩)⟩, rfl⟩, (fun _ h => absurd h List.not_mem_nil)⟩)
theorem kJ9_init_2_84 (z : XKT) : XOi z xInf Y_J9_init_2 84 (.inl (i_aload 0 85)) := ok_aload_n dJ9_init_2_84 rfl
theorem kJ9_init_2_85 (z : XKT) : XOi z xInf Y_J9_init_2 85 (.inl (i_aload 3 86)) := ok_aload_n dJ9_init_2_85 rfl
theorem kJ9_init_2_86 (z : XKT) : XOi z xInf Y_J9_init_2 86 (.inl (i_push (vI 0) 87)) := ok_iconst dJ9_init_2_86 rfl
theorem kJ9_init_2_87 (z : XKT) : XOi z xInf Y_J9_init_2 87 (.inl (i_iload 4 89)) := ok_iload dJ9_init_2_87
theorem kJ9_init_2_89 (z : XKT) : XOi z xInf Y_J9_init_2 89 (.inl (i_push (vI 1) 90)) := ok_iconst dJ9_init_2_89 rfl
theorem kJ9_init_2_90 (z : XKT) : XOi z xInf Y_J9_init_2 90 (.inl (i_bin (fun x y => x <<< (y &&& 31)) 91)) := ok_ishl dJ9_init_2_90
theorem kJ9_init_2_91 (z : XKT) : XOi z xInf Y_J9_init_2 91 (.inr (.inl (94, g_stat 391 3))) := show XOkC z xInf Y_J9_init_2 91 94 (g_stat 391 3) from okc_S (q := Y_J9_init_2) (q1 := Y_J13_copyOfRange) Z_J13_copyOfRange rfl (by decide) dJ9_init_2_91 q457 q458 q140 q459 hy_407
theorem kJ9_init_2_94 (z : XKT) : XOi z xInf Y_J9_init_2 94 (.inl (i_putr z.1 [20] 113 97)) := ok_putr dJ9_init_2_94 q511 (List.forall_mem_cons.mpr ⟨⟨_, _, _, _, tyJ9, fd_113_20_0, ⟨tyJ9_ok, nmJ9, (Or.inr ⟨rfl, by decide, rfl⟩)⟩, (Or.inr ⟨_, rfl⟩)⟩, (fun _ h => absurd h List.not_mem_nil)⟩)
theorem kJ9_init_2_97 (z : XKT) : XOi z xInf Y_J9_init_2 97 (.inr (.inr (.inl r_v))) := show XOkR Y_J9_init_2 97 (r_v) from okr_v (q := Y_J9_init_2) rfl dJ9_init_2_97
theorem o_J9_init_2 (z : XKT) : XMi z xInf Y_J9_init_2 := XMi.mk9 (T := T_J9_init_2 z) rfl (⟨kJ9_init_2_0 z, ⟨kJ9_init_2_1 z, ⟨kJ9_init_2_4 z, ⟨kJ9_init_2_5 z, ⟨kJ9_init_2_8 z, ⟨kJ9_init_2_9 z, ⟨kJ9_init_2_10 z, ⟨kJ9_init_2_13 z, ⟨kJ9_init_2_15 z, ⟨kJ9_init_2_16 z, ⟨kJ9_init_2_19 z, ⟨kJ9_init_2_22 z, ⟨kJ9_init_2_23 z, ⟨kJ9_init_2_24 z, ⟨kJ9_init_2_27 z, ⟨kJ9_init_2_28 z, ⟨kJ9_init_2_29 z, ⟨kJ9_init_2_30 z, ⟨kJ9_init_2_32 z, ⟨kJ9_init_2_35 z, ⟨kJ9_init_2_38 z, ⟨kJ9_init_2_41 z, ⟨kJ9_init_2_44 z, ⟨kJ9_init_2_47 z, ⟨kJ9_init_2_48 z, ⟨kJ9_init_2_51 z, ⟨kJ9_init_2_54 z, ⟨kJ9_init_2_55 z, ⟨kJ9_init_2_56 z, ⟨kJ9_init_2_57 z, ⟨kJ9_init_2_62 z, ⟨kJ9_init_2_65 z, ⟨kJ9_init_2_66 z, ⟨kJ9_init_2_67 z, ⟨kJ9_init_2_70 z, ⟨kJ9_init_2_75 z, ⟨kJ9_init_2_78 z, ⟨kJ9_init_2_79 z, ⟨kJ9_init_2_80 z, ⟨kJ9_init_2_81 z, ⟨kJ9_init_2_84 z, ⟨kJ9_init_2_85 z, ⟨kJ9_init_2_86 z, ⟨kJ9_init_2_87 z, ⟨kJ9_init_2_89 z, ⟨kJ9_init_2_90 z, ⟨kJ9_init_2_91 z, ⟨kJ9_init_2_94 z, ⟨kJ9_init_2_97 z, trivial⟩⟩⟩⟩⟩⟩⟩⟩⟩⟩⟩⟩⟩⟩⟩⟩⟩⟩⟩⟩⟩⟩⟩⟩⟩⟩⟩⟩⟩⟩⟩⟩⟩⟩⟩⟩⟩⟩⟩⟩⟩⟩⟩⟩⟩⟩⟩⟩⟩) (hd_J9_init_2 z) rfl rfl (by decide +kernel)
theorem hd_J9_isLatin1 (z : XKT) : XHd z Y_J9_isLatin1 := xHd_none rfl (xhd0 rfl)
theorem kJ9_isLatin1_0 (z : XKT) : XOi z xInf Y_J9_isLatin1 0 (.inl (i_push (vI 1) 3)) := ok_getsI dJ9_isLatin1_0 q370 (List.mem_of_getElem? (l := xSti) (i := 1) rfl)
theorem kJ9_isLatin1_3 (z : XKT) : XOi z xInf Y_J9_isLatin1 3 (.inl (i_if (fun x => x = 0) 17 6)) := ok_if_eq dJ9_isLatin1_3 rfl
theorem kJ9_isLatin1_6 (z : XKT) : XOi z xInf Y_J9_isLatin1 6 (.inl (i_aload 0 7)) := ok_aload_n dJ9_isLatin1_6 rfl
theorem kJ9_isLatin1_7 (z : XKT) : XOi z xInf Y_J9_isLatin1 7 (.inl (i_geti [20] 114 10)) := ok_geti dJ9_isLatin1_7 q512 (List.forall_mem_cons.mpr ⟨⟨_, _, _, _, fd_114_20_0⟩, (fun _ h => absurd h List.not_mem_nil)⟩)
theorem kJ9_isLatin1_10 (z : XKT) : XOi z xInf Y_J9_isLatin1 10 (.inl (i_if (fun x => ¬ x = 0) 17 13)) := ok_if_ne dJ9_isLatin1_10 rfl
theorem kJ9_isLatin1_13 (z : XKT) : XOi z xInf Y_J9_isLatin1 13 (.inl (i_push (vI 1) 14)) := ok_iconst dJ9_isLatin1_13 rfl
theorem kJ9_isLatin1_14 (z : XKT) : XOi z xInf Y_J9_isLatin1 14 (.inl (i_goto 18)) := ok_goto dJ9_isLatin1_14 rfl
theorem kJ9_isLatin1_17 (z : XKT) : XOi z xInf Y_J9_isLatin1 17 (.inl (i_push (vI 0) 18)) := ok_iconst dJ9_isLatin1_17 rfl
theorem kJ9_isLatin1_18 (z : XKT) : XOi z xInf Y_J9_isLatin1 18 (.inr (.inr (.inl (r_i .boolean)))) := show XOkR Y_J9_isLatin1 18 ((r_i .boolean)) from okr_i (q := Y_J9_isLatin1) (ty := .boolean) rfl rfl dJ9_isLatin1_18
theorem o_J9_isLatin1 (z : XKT) : XMi z xInf Y_J9_isLatin1 := XMi.mk9 (T := T_J9_isLatin1 z) rfl (⟨kJ9_isLatin1_0 z, ⟨kJ9_isLatin1_3 z, ⟨kJ9_isLatin1_6 z, ⟨kJ9_isLatin1_7 z, ⟨kJ9_isLatin1_10 z, ⟨kJ9_isLatin1_13 z, ⟨kJ9_isLatin1_14 z, ⟨kJ9_isLatin1_17 z, ⟨kJ9_isLatin1_18 z, trivial⟩⟩⟩⟩⟩⟩⟩⟩⟩) (hd_J9_isLatin1 z) rfl rfl (by decide +kernel)
theorem hd_J9_length (z : XKT) : XHd z Y_J9_length := xHd_none rfl (xhd0 rfl)
theorem kJ9_length_0 (z : XKT) : XOi z xInf Y_J9_length 0 (.inl (i_aload 0 1)) := ok_aload_n dJ9_length_0 rfl
theorem kJ9_length_1 (z : XKT) : XOi z xInf Y_J9_length 1 (.inl (i_getr [20] 113 4)) := ok_getr dJ9_length_1 q511 (List.forall_mem_cons.mpr ⟨⟨_, _, _, _, fd_113_20_0⟩, (fun _ h => absurd h List.not_mem_nil)⟩)
theorem kJ9_length_4 (z : XKT) : XOi z xInf Y_J9_length 4 (.inl (i_alen 5)) := ok_alen dJ9_length_4
theorem kJ9_length_5 (z : XKT) : XOi z xInf Y_J9_length 5 (.inl (i_aload 0 6)) := ok_aload_n dJ9_length_5 rfl
theorem kJ9_length_6 (z : XKT) : XOi z xInf Y_J9_length 6 (.inr (.inl (9, g_virt [(20, 376)] 0))) := show XOkC z xInf Y_J9_length 6 9 (g_virt [(20, 376)] 0) from okc_V (q := Y_J9_length) (List.forall_mem_cons.mpr ⟨(show XOkV z xInf Y_J9_length 6 9 0 (20, 376) from okv_V (q := Y_J9_length) (q1 := Y_J9_coder) Z_J9_coder rfl (by decide) ⟨by decide, by decide, Or.inl ⟨_, _, (List.mem_of_getElem? (l := xCls) (i := 19) rfl)⟩⟩ dJ9_length_6 q366 q367 q368 q136 q369 hy_389), (fun _ h => absurd h List.not_mem_nil)⟩)
theorem kJ9_length_9 (z : XKT) : XOi z xInf Y_J9_length 9 (.inl (i_bin (fun x y => x >>> (y &&& 31)) 10)) := ok_ishr dJ9_length_9
theorem kJ9_length_10 (z : XKT) : XOi z xInf Y_J9_length 10 (.inr (.inr (.inl (r_i .int)))) := show XOkR Y_J9_length 10 ((r_i .int)) from okr_i (q := Y_J9_length) (ty := .int) rfl rfl dJ9_length_10
theorem o_J9_length (z : XKT) : XMi z xInf Y_J9_length := XMi.mk9 (T := T_J9_length z) rfl (⟨kJ9_length_0 z, ⟨kJ9_length_1 z, ⟨kJ9_length_4 z, ⟨kJ9_length_5 z, ⟨kJ9_length_6 z, ⟨kJ9_length_9 z, ⟨kJ9_length_10 z, trivial⟩⟩⟩⟩⟩⟩⟩) (hd_J9_length z) rfl rfl (by decide +kernel)
theorem hd_J11_hashCode_2 (z : XKT) : XHd z Y_J11_hashCode_2 := xHd_none rfl (xhd0 rfl)
theorem kJ11_hashCode_2_0 (z : XKT) : XOi z xInf Y_J11_hashCode_2 0 (.inl (i_iload 2 1)) := ok_iload_n dJ11_hashCode_2_0 rfl
theorem kJ11_hashCode_2_1 (z : XKT) : XOi z xInf Y_J11_hashCode_2 1 (.inl (i_iload 3 2)) := ok_iload_n dJ11_hashCode_2_1 rfl
theorem kJ11_hashCode_2_2 (z : XKT) : XOi z xInf Y_J11_hashCode_2 2 (.inl (i_bin (fun x y => x + y) 3)) := ok_iadd dJ11_hashCode_2_2
theorem kJ11_hashCode_2_3 (z : XKT) : XOi z xInf Y_J11_hashCode_2 3 (.inl (i_istore 4 5)) := ok_istore dJ11_hashCode_2_3
theorem kJ11_hashCode_2_5 (z : XKT) : XOi z xInf Y_J11_hashCode_2 5 (.inl (i_iload 2 6)) := ok_iload_n dJ11_hashCode_2_5 rfl
theorem kJ11_hashCode_2_6 (z : XKT) : XOi z xInf Y_J11_hashCode_2 6 (.inl (i_istore 5 8)) := ok_istore dJ11_hashCode_2_6
theorem kJ11_hashCode_2_8 (z : XKT) : XOi z xInf Y_J11_hashCode_2 8 (.inl (i_iload 5 10)) := ok_iload dJ11_hashCode_2_8
theorem kJ11_hashCode_2_10 (z : XKT) : XOi z xInf Y_J11_hashCode_2 10 (.inl (i_iload 4 12)) := ok_iload dJ11_hashCode_2_10
theorem kJ11_hashCode_2_12 (z : XKT) : XOi z xInf Y_J11_hashCode_2 12 (.inl (i_icmp (fun x y => y ≤ x) 31 15)) := ok_icmp_ge dJ11_hashCode_2_12 rfl
theorem kJ11_hashCode_2_15 (z : XKT) : XOi z xInf Y_J11_hashCode_2 15 (.inl (i_push (vI 31) 17)) := ok_bipush dJ11_hashCode_2_15 rfl
theorem kJ11_hashCode_2_17 (z : XKT) : XOi z xInf Y_J11_hashCode_2 17 (.inl (i_iload 0 18)) := ok_iload_n dJ11_hashCode_2_17 rfl
theorem kJ11_hashCode_2_18 (z : XKT) : XOi z xInf Y_J11_hashCode_2 18 (.inl (i_bin (fun x y => x * y) 19)) := ok_imul dJ11_hashCode_2_18
theorem kJ11_hashCode_2_19 (z : XKT) : XOi z xInf Y_J11_hashCode_2 19 (.inl (i_aload 1 20)) := ok_aload_n dJ11_hashCode_2_19 rfl
theorem kJ11_hashCode_2_20 (z : XKT) : XOi z xInf Y_J11_hashCode_2 20 (.inl (i_iload 5 22)) := ok_iload dJ11_hashCode_2_20
theorem kJ11_hashCode_2_22 (z : XKT) : XOi z xInf Y_J11_hashCode_2 22 (.inl (i_ald 1001 23)) := ok_bald dJ11_hashCode_2_22
theorem kJ11_hashCode_2_23 (z : XKT) : XOi z xInf Y_J11_hashCode_2 23 (.inl (i_bin (fun x y => x + y) 24)) := ok_iadd dJ11_hashCode_2_23
theorem kJ11_hashCode_2_24 (z : XKT) : XOi z xInf Y_J11_hashCode_2 24 (.inl (i_istore 0 25)) := ok_istore_n dJ11_hashCode_2_24 rfl
theorem kJ11_hashCode_2_25 (z : XKT) : XOi z xInf Y_J11_hashCode_2 25 (.inl (i_iinc 5 1 28)) := ok_iinc dJ11_hashCode_2_25 rfl
theorem kJ11_hashCode_2_28 (z : XKT) : XOi z xInf Y_J11_hashCode_2 28 (.inl (i_goto 8)) := ok_goto dJ11_hashCode_2_28 rfl
theorem kJ11_hashCode_2_31 (z : XKT) : XOi z xInf Y_J11_hashCode_2 31 (.inl (i_iload 0 32)) := ok_iload_n dJ11_hashCode_2_31 rfl
theorem kJ11_hashCode_2_32 (z : XKT) : XOi z xInf Y_J11_hashCode_2 32 (.inr (.inr (.inl (r_i .int)))) := show XOkR Y_J11_hashCode_2 32 ((r_i .int)) from okr_i (q := Y_J11_hashCode_2) (ty := .int) rfl rfl dJ11_hashCode_2_32
theorem o_J11_hashCode_2 (z : XKT) : XMi z xInf Y_J11_hashCode_2 := XMi.mk9 (T := T_J11_hashCode_2 z) rfl (⟨kJ11_hashCode_2_0 z, ⟨kJ11_hashCode_2_1 z, ⟨kJ11_hashCode_2_2 z, ⟨kJ11_hashCode_2_3 z, ⟨kJ11_hashCode_2_5 z, ⟨kJ11_hashCode_2_6 z, ⟨kJ11_hashCode_2_8 z, ⟨kJ11_hashCode_2_10 z, ⟨kJ11_hashCode_2_12 z, ⟨kJ11_hashCode_2_15 z, ⟨kJ11_hashCode_2_17 z, ⟨kJ11_hashCode_2_18 z, ⟨kJ11_hashCode_2_19 z, ⟨kJ11_hashCode_2_20 z, ⟨kJ11_hashCode_2_22 z, ⟨kJ11_hashCode_2_23 z, ⟨kJ11_hashCode_2_24 z, ⟨kJ11_hashCode_2_25 z, ⟨kJ11_hashCode_2_28 z, ⟨kJ11_hashCode_2_31 z, ⟨kJ11_hashCode_2_32 z, trivial⟩⟩⟩⟩⟩⟩⟩⟩⟩⟩⟩⟩⟩⟩⟩⟩⟩⟩⟩⟩⟩) (hd_J11_hashCode_2 z) rfl rfl (by decide +kernel)
theorem hd_J11_newLength (z : XKT) : XHd z Y_J11_newLength := xHd_none rfl (xhd0 rfl)
theorem kJ11_newLength_0 (z : XKT) : XOi z xInf Y_J11_newLength 0 (.inl (i_iload 0 1)) := ok_iload_n dJ11_newLength_0 rfl
theorem kJ11_newLength_1 (z : XKT) : XOi z xInf Y_J11_newLength 1 (.inl (i_iload 1 2)) := ok_iload_n dJ11_newLength_1 rfl
theorem kJ11_newLength_2 (z : XKT) : XOi z xInf Y_J11_newLength 2 (.inl (i_iload 2 3)) := ok_iload_n dJ11_newLength_2 rfl
theorem kJ11_newLength_3 (z : XKT) : XOi z xInf Y_J11_newLength 3 (.inr (.inl (6, g_stat 388 2))) := show XOkC z xInf Y_J11_newLength 3 6 (g_stat 388 2) from okc_S (q := Y_J11_newLength) (q1 := Y_J12_max) Z_J12_max rfl (by decide) dJ11_newLength_3 q307 q308 q139 q309 hy_149
theorem kJ11_newLength_6 (z : XKT) : XOi z xInf Y_J11_newLength 6 (.inl (i_bin (fun x y => x + y) 7)) := ok_iadd dJ11_newLength_6
theorem kJ11_newLength_7 (z : XKT) : XOi z xInf Y_J11_newLength 7 (.inl (i_istore 3 8)) := ok_istore_n dJ11_newLength_7 rfl
theorem kJ11_newLength_8 (z : XKT) : XOi z xInf Y_J11_newLength 8 (.inl (i_push (vI 0) 9)) := ok_iconst dJ11_newLength_8 rfl
theorem kJ11_newLength_9 (z : XKT) : XOi z xInf Y_J11_newLength 9 (.inl (i_iload 3 10)) := ok_iload_n dJ11_newLength_9 rfl
theorem kJ11_newLength_10 (z : XKT) : XOi z xInf Y_J11_newLength 10 (.inl (i_icmp (fun x y => y ≤ x) 21 13)) := ok_icmp_ge dJ11_newLength_10 rfl
theorem kJ11_newLength_13 (z : XKT) : XOi z xInf Y_J11_newLength 13 (.inl (i_iload 3 14)) := ok_iload_n dJ11_newLength_13 rfl
theorem kJ11_newLength_14 (z : XKT) : XOi z xInf Y_J11_newLength 14 (.inl (i_push (vI (2147483639)) 16)) := ok_ldc dJ11_newLength_14 q310
theorem kJ11_newLength_16 (z : XKT) : XOi z xInf Y_J11_newLength 16 (.inl (i_icmp (fun x y => y < x) 21 19)) := ok_icmp_gt dJ11_newLength_16 rfl
theorem kJ11_newLength_19 (z : XKT) : XOi z xInf Y_J11_newLength 19 (.inl (i_iload 3 20)) := ok_iload_n dJ11_newLength_19 rfl
theorem kJ11_newLength_20 (z : XKT) : XOi z xInf Y_J11_newLength 20 (.inr (.inr (.inl (r_i .int)))) := show XOkR Y_J11_newLength 20 ((r_i .int)) from okr_i (q := Y_J11_newLength) (ty := .int) rfl rfl dJ11_newLength_20
theorem kJ11_newLength_21 (z : XKT) : XOi z xInf Y_J11_newLength 21 (.inl (i_iload 0 22)) := ok_iload_n dJ11_newLength_21 rfl
theorem kJ11_newLength_22 (z : XKT) : XOi z xInf Y_J11_newLength 22 (.inl (i_iload 1 23)) := ok_iload_n dJ11_newLength_22 rfl
theorem kJ11_newLength_26 (z : XKT) : XOi z xInf Y_J11_newLength 26 (.inr (.inr (.inl (r_i .int)))) := show XOkR Y_J11_newLength 26 ((r_i .int)) from okr_i (q := Y_J11_newLength) (ty := .int) rfl rfl dJ11_newLength_26
theorem o_J11_newLength (z : XKT) : XMi z xInf Y_J11_newLength := XMi.mk9 (T := T_J11_newLength z) rfl (⟨kJ11_newLength_0 z, ⟨kJ11_newLength_1 z, ⟨kJ11_newLength_2 z, ⟨kJ11_newLength_3 z, ⟨kJ11_newLength_6 z, ⟨kJ11_newLength_7 z, ⟨kJ11_newLength_8 z, ⟨kJ11_newLength_9 z, ⟨kJ11_newLength_10 z, ⟨kJ11_newLength_13 z, ⟨kJ11_newLength_14 z, ⟨kJ11_newLength_16 z, ⟨kJ11_newLength_19 z, ⟨kJ11_newLength_20 z, ⟨kJ11_newLength_21 z, ⟨kJ11_newLength_22 z, ⟨kJ11_newLength_26 z, trivial⟩⟩⟩⟩⟩⟩⟩⟩⟩⟩⟩⟩⟩⟩⟩⟩⟩) (hd_J11_newLength z) rfl rfl (by decide +kernel)
theorem hd_J11_signedHashCode (z : XKT) : XHd z Y_J11_signedHashCode := xHd_none rfl (xhd0 rfl)
theorem kJ11_signedHashCode_0 (z : XKT) : XOi z xInf Y_J11_signedHashCode 0 (.inl (i_iload 2 1)) := ok_iload_n dJ11_signedHashCode_0 rfl
theorem kJ11_signedHashCode_1 (z : XKT) : XOi z xInf Y_J11_signedHashCode 1 (.inl (i_iload 3 2)) := ok_iload_n dJ11_signedHashCode_1 rfl
theorem kJ11_signedHashCode_2 (z : XKT) : XOi z xInf Y_J11_signedHashCode 2 (.inl (i_bin (fun x y => x + y) 3)) := ok_iadd dJ11_signedHashCode_2
theorem kJ11_signedHashCode_3 (z : XKT) : XOi z xInf Y_J11_signedHashCode 3 (.inl (i_istore 4 5)) := ok_istore dJ11_signedHashCode_3
theorem kJ11_signedHashCode_5 (z : XKT) : XOi z xInf Y_J11_signedHashCode 5 (.inl (i_iload 2 6)) := ok_iload_n dJ11_signedHashCode_5 rfl
theorem kJ11_signedHashCode_6 (z : XKT) : XOi z xInf Y_J11_signedHashCode 6 (.inl (i_istore 5 8)) := ok_istore dJ11_signedHashCode_6
theorem kJ11_signedHashCode_8 (z : XKT) : XOi z xInf Y_J11_signedHashCode 8 (.inl (i_iload 5 10)) := ok_iload dJ11_signedHashCode_8
theorem kJ11_signedHashCode_10 (z : XKT) : XOi z xInf Y_J11_signedHashCode 10 (.inl (i_iload 4 12)) := ok_iload dJ11_signedHashCode_10
theorem kJ11_signedHashCode_12 (z : XKT) : XOi z xInf Y_J11_signedHashCode 12 (.inl (i_icmp (fun x y => y ≤ x) 35 15)) := ok_icmp_ge dJ11_signedHashCode_12 rfl
theorem kJ11_signedHashCode_15 (z : XKT) : XOi z xInf Y_J11_signedHashCode 15 (.inl (i_push (vI 31) 17)) := ok_bipush dJ11_signedHashCode_15 rfl
theorem kJ11_signedHashCode_17 (z : XKT) : XOi z xInf Y_J11_signedHashCode 17 (.inl (i_iload 0 18)) := ok_iload_n dJ11_signedHashCode_17 rfl
theorem kJ11_signedHashCode_18 (z : XKT) : XOi z xInf Y_J11_signedHashCode 18 (.inl (i_bin (fun x y => x * y) 19)) := ok_imul dJ11_signedHashCode_18
theorem kJ11_signedHashCode_19 (z : XKT) : XOi z xInf Y_J11_signedHashCode 19 (.inl (i_aload 1 20)) := ok_aload_n dJ11_signedHashCode_19 rfl
theorem kJ11_signedHashCode_20 (z : XKT) : XOi z xInf Y_J11_signedHashCode 20 (.inl (i_iload 5 22)) := ok_iload dJ11_signedHashCode_20
theorem kJ11_signedHashCode_22 (z : XKT) : XOi z xInf Y_J11_signedHashCode 22 (.inl (i_ald 1001 23)) := ok_bald dJ11_signedHashCode_22
theorem kJ11_signedHashCode_23 (z : XKT) : XOi z xInf Y_J11_signedHashCode 23 (.inl (i_push (vI 255) 26)) := ok_sipush dJ11_signedHashCode_23 rfl
theorem kJ11_signedHashCode_26 (z : XKT) : XOi z xInf Y_J11_signedHashCode 26 (.inl (i_bin (fun x y => x &&& y) 27)) := ok_iand dJ11_signedHashCode_26
theorem kJ11_signedHashCode_27 (z : XKT) : XOi z xInf Y_J11_signedHashCode 27 (.inl (i_bin (fun x y => x + y) 28)) := ok_iadd dJ11_signedHashCode_27
theorem kJ11_signedHashCode_28 (z : XKT) : XOi z xInf Y_J11_signedHashCode 28 (.inl (i_istore 0 29)) := ok_istore_n dJ11_signedHashCode_28 rfl
theorem kJ11_signedHashCode_29 (z : XKT) : XOi z xInf Y_J11_signedHashCode 29 (.inl (i_iinc 5 1 32)) := ok_iinc dJ11_signedHashCode_29 rfl
theorem kJ11_signedHashCode_32 (z : XKT) : XOi z xInf Y_J11_signedHashCode 32 (.inl (i_goto 8)) := ok_goto dJ11_signedHashCode_32 rfl
theorem kJ11_signedHashCode_35 (z : XKT) : XOi z xInf Y_J11_signedHashCode 35 (.inl (i_iload 0 36)) := ok_iload_n dJ11_signedHashCode_35 rfl
theorem kJ11_signedHashCode_36 (z : XKT) : XOi z xInf Y_J11_signedHashCode 36 (.inr (.inr (.inl (r_i .int)))) := show XOkR Y_J11_signedHashCode 36 ((r_i .int)) from okr_i (q := Y_J11_signedHashCode) (ty := .int) rfl rfl dJ11_signedHashCode_36
theorem o_J11_signedHashCode (z : XKT) : XMi z xInf Y_J11_signedHashCode := XMi.mk9 (T := T_J11_signedHashCode z) rfl (⟨kJ11_signedHashCode_0 z, ⟨kJ11_signedHashCode_1 z, ⟨kJ11_signedHashCode_2 z, ⟨kJ11_signedHashCode_3 z, ⟨kJ11_signedHashCode_5 z, ⟨kJ11_signedHashCode_6 z, ⟨kJ11_signedHashCode_8 z, ⟨kJ11_signedHashCode_10 z, ⟨kJ11_signedHashCode_12 z, ⟨kJ11_signedHashCode_15 z, ⟨kJ11_signedHashCode_17 z, ⟨kJ11_signedHashCode_18 z, ⟨kJ11_signedHashCode_19 z, ⟨kJ11_signedHashCode_20 z, ⟨kJ11_signedHashCode_22 z, ⟨kJ11_signedHashCode_23 z, ⟨kJ11_signedHashCode_26 z, ⟨kJ11_signedHashCode_27 z, ⟨kJ11_signedHashCode_28 z, ⟨kJ11_signedHashCode_29 z, ⟨kJ11_signedHashCode_32 z, ⟨kJ11_signedHashCode_35 z, ⟨kJ11_signedHashCode_36 z, trivial⟩⟩⟩⟩⟩⟩⟩⟩⟩⟩⟩⟩⟩⟩⟩⟩⟩⟩⟩⟩⟩⟩⟩) (hd_J11_signedHashCode z) rfl rfl (by decide +kernel)
theorem hd_J11_vectorizedHashCode (z : XKT) : XHd z Y_J11_vectorizedHashCode := xHd_none rfl (xhd0 rfl)
theorem kJ11_vectorizedHashCode_0 (z : XKT) : XOi z xInf Y_J11_vectorizedHashCode 0 (.inl (i_iload 4 2)) := ok_iload dJ11_vectorizedHashCode_0
theorem kJ11_vectorizedHashCode_2 (z : XKT) : XOi z xInf Y_J11_vectorizedHashCode 2 (.inl (i_swt [(4, 44), (5, 57), (6, 129), (7, 129), (8, 90), (9, 103), (10, 116)] 129)) := ok_table dJ11_vectorizedHashCode_2 rfl rfl (by decide +kernel)
theorem kJ11_vectorizedHashCode_44 (z : XKT) : XOi z xInf Y_J11_vectorizedHashCode 44 (.inl (i_iload 3 45)) := ok_iload_n dJ11_vectorizedHashCode_44 rfl
theorem kJ11_vectorizedHashCode_45 (z : XKT) : XOi z xInf Y_J11_vectorizedHashCode 45 (.inl (i_aload 0 46)) := ok_aload_n dJ11_vectorizedHashCode_45 rfl
theorem kJ11_vectorizedHashCode_46 (z : XKT) : XOi z xInf Y_J11_vectorizedHashCode 46 (.inl (i_cast [1001] 49)) := ok_castA (ty := .byte) dJ11_vectorizedHashCode_46 q1941 (List.mem_of_getElem? (l := xArs) (i := 1) rfl) (by decide)
theorem kJ11_vectorizedHashCode_49 (z : XKT) : XOi z xInf Y_J11_vectorizedHashCode 49 (.inl (i_iload 1 50)) := ok_iload_n dJ11_vectorizedHashCode_49 rfl
theorem kJ11_vectorizedHashCode_50 (z : XKT) : XOi z xInf Y_J11_vectorizedHashCode 50 (.inl (i_iload 2 51)) := ok_iload_n dJ11_vectorizedHashCode_50 rfl
theorem kJ11_vectorizedHashCode_51 (z : XKT) : XOi z xInf Y_J11_vectorizedHashCode 51 (.inr (.inl (54, g_stat 386 4))) := show XOkC z xInf Y_J11_vectorizedHashCode 51 54 (g_stat 386 4) from okc_S (q := Y_J11_vectorizedHashCode) (q1 := Y_J11_signedHashCode) Z_J11_signedHashCode rfl (by decide) dJ11_vectorizedHashCode_51 q1942 q1943 q138 q1944 hy_408
theorem kJ11_vectorizedHashCode_54 (z : XKT) : XOi z xInf Y_J11_vectorizedHashCode 54 (.inl (i_goto 157)) := ok_goto dJ11_vectorizedHashCode_54 rfl
theorem kJ11_vectorizedHashCode_57 (z : XKT) : XOi z xInf Y_J11_vectorizedHashCode 57 (.inl (i_aload 0 58)) := ok_aload_n dJ11_vectorizedHashCode_57 rfl
theorem kJ11_vectorizedHashCode_58 (z : XKT) : XOi z xInf Y_J11_vectorizedHashCode 58 (.inl (i_inst [] [] 61)) := ok_inst dJ11_vectorizedHashCode_58 q1941 (fun _ h => absurd h List.not_mem_nil) (fun _ h => absurd h List.not_mem_nil)
theorem kJ11_vectorizedHashCode_61 (z : XKT) : XOi z xInf Y_J11_vectorizedHashCode 61 (.inl (i_if (fun x => x = 0) 77 64)) := ok_if_eq dJ11_vectorizedHashCode_61 rfl
theorem kJ11_vectorizedHashCode_64 (z : XKT) : XOi z xInf Y_J11_vectorizedHashCode 64 (.inl (i_iload 3 65)) := ok_iload_n dJ11_vectorizedHashCode_64 rfl
theorem kJ11_vectorizedHashCode_65 (z : XKT) : XOi z xInf Y_J11_vectorizedHashCode 65 (.inl (i_aload 0 66)) := ok_aload_n dJ11_vectorizedHashCode_65 rfl
theorem kJ11_vectorizedHashCode_66 (z : XKT) : XOi z xInf Y_J11_vectorizedHashCode 66 (.inl (i_cast [1001] 69)) := ok_castA (ty := .byte) dJ11_vectorizedHashCode_66 q1941 (List.mem_of_getElem? (l := xArs) (i := 1) rfl) (by decide)
theorem kJ11_vectorizedHashCode_69 (z : XKT) : XOi z xInf Y_J11_vectorizedHashCode 69 (.inl (i_iload 1 70)) := ok_iload_n dJ11_vectorizedHashCode_69 rfl
theorem kJ11_vectorizedHashCode_70 (z : XKT) : XOi z xInf Y_J11_vectorizedHashCode 70 (.inl (i_iload 2 71)) := ok_iload_n dJ11_vectorizedHashCode_70 rfl
theorem kJ11_vectorizedHashCode_74 (z : XKT) : XOi z xInf Y_J11_vectorizedHashCode 74 (.inl (i_goto 157)) := ok_goto dJ11_vectorizedHashCode_74 rfl
theorem kJ11_vectorizedHashCode_77 (z : XKT) : XOi z xInf Y_J11_vectorizedHashCode 77 (.inl (i_iload 3 78)) := ok_iload_n dJ11_vectorizedHashCode_77 rfl
theorem kJ11_vectorizedHashCode_78 (z : XKT) : XOi z xInf Y_J11_vectorizedHashCode 78 (.inl (i_aload 0 79)) := ok_aload_n dJ11_vectorizedHashCode_78 rfl
theorem kJ11_vectorizedHashCode_82 (z : XKT) : XOi z xInf Y_J11_vectorizedHashCode 82 (.inl (i_iload 1 83)) := ok_iload_n dJ11_vectorizedHashCode_82 rfl
theorem kJ11_vectorizedHashCode_83 (z : XKT) : XOi z xInf Y_J11_vectorizedHashCode 83 (.inl (i_iload 2 84)) := ok_iload_n dJ11_vectorizedHashCode_83 rfl
theorem kJ11_vectorizedHashCode_87 (z : XKT) : XOi z xInf Y_J11_vectorizedHashCode 87 (.inl (i_goto 157)) := ok_goto dJ11_vectorizedHashCode_87 rfl
theorem kJ11_vectorizedHashCode_90 (z : XKT) : XOi z xInf Y_J11_vectorizedHashCode 90 (.inl (i_iload 3 91)) := ok_iload_n dJ11_vectorizedHashCode_90 rfl
theorem kJ11_vectorizedHashCode_91 (z : XKT) : XOi z xInf Y_J11_vectorizedHashCode 91 (.inl (i_aload 0 92)) := ok_aload_n dJ11_vectorizedHashCode_91 rfl
theorem kJ11_vectorizedHashCode_92 (z : XKT) : XOi z xInf Y_J11_vectorizedHashCode 92 (.inl (i_cast [1001] 95)) := ok_castA (ty := .byte) dJ11_vectorizedHashCode_92 q1941 (List.mem_of_getElem? (l := xArs) (i := 1) rfl) (by decide)
theorem kJ11_vectorizedHashCode_95 (z : XKT) : XOi z xInf Y_J11_vectorizedHashCode 95 (.inl (i_iload 1 96)) := ok_iload_n dJ11_vectorizedHashCode_95 rfl
theorem kJ11_vectorizedHashCode_96 (z : XKT) : XOi z xInf Y_J11_vectorizedHashCode 96 (.inl (i_iload 2 97)) := ok_iload_n dJ11_vectorizedHashCode_96 rfl
theorem kJ11_vectorizedHashCode_97 (z : XKT) : XOi z xInf Y_J11_vectorizedHashCode 97 (.inr (.inl (100, g_stat 384 4))) := show XOkC z xInf Y_J11_vectorizedHashCode 97 100 (g_stat 384 4) from okc_S (q := Y_J11_vectorizedHashCode) (q1 := Y_J11_hashCode_2) Z_J11_hashCode_2 rfl (by decide) dJ11_vectorizedHashCode_97 q1965 q1966 q138 q1967 hy_409
theorem kJ11_vectorizedHashCode_100 (z : XKT) : XOi z xInf Y_J11_vectorizedHashCode 100 (.inl (i_goto 157)) := ok_goto dJ11_vectorizedHashCode_100 rfl
theorem kJ11_vectorizedHashCode_103 (z : XKT) : XOi z xInf Y_J11_vectorizedHashCode 103 (.inl (i_iload 3 104)) := ok_iload_n dJ11_vectorizedHashCode_103 rfl
theorem kJ11_vectorizedHashCode_104 (z : XKT) : XOi z xInf Y_J11_vectorizedHashCode 104 (.inl (i_aload 0 105)) := ok_aload_n dJ11_vectorizedHashCode_104 rfl
theorem kJ11_vectorizedHashCode_108 (z : XKT) : XOi z xInf Y_J11_vectorizedHashCode 108 (.inl (i_iload 1 109)) := ok_iload_n dJ11_vectorizedHashCode_108 rfl
theorem kJ11_vectorizedHashCode_109 (z : XKT) : XOi z xInf Y_J11_vectorizedHashCode 109 (.inl (i_iload 2 110)) := ok_iload_n dJ11_vectorizedHashCode_109 rfl
theorem kJ11_vectorizedHashCode_113 (z : XKT) : XOi z xInf Y_J11_vectorizedHashCode 113 (.inl (i_goto 157)) := ok_goto dJ11_vectorizedHashCode_113 rfl
theorem kJ11_vectorizedHashCode_116 (z : XKT) : XOi z xInf Y_J11_vectorizedHashCode 116 (.inl (i_iload 3 117)) := ok_iload_n dJ11_vectorizedHashCode_116 rfl
theorem kJ11_vectorizedHashCode_117 (z : XKT) : XOi z xInf Y_J11_vectorizedHashCode 117 (.inl (i_aload 0 118)) := ok_aload_n dJ11_vectorizedHashCode_117 rfl
theorem kJ11_vectorizedHashCode_118 (z : XKT) : XOi z xInf Y_J11_vectorizedHashCode 118 (.inl (i_cast [1000] 121)) := ok_castA (ty := .int) dJ11_vectorizedHashCode_118 q1972 (List.mem_of_getElem? (l := xArs) (i := 0) rfl) (by decide)
theorem kJ11_vectorizedHashCode_121 (z : XKT) : XOi z xInf Y_J11_vectorizedHashCode 121 (.inl (i_iload 1 122)) := ok_iload_n dJ11_vectorizedHashCode_121 rfl
theorem kJ11_vectorizedHashCode_122 (z : XKT) : XOi z xInf Y_J11_vectorizedHashCode 122 (.inl (i_iload 2 123)) := ok_iload_n dJ11_vectorizedHashCode_122 rfl
theorem kJ11_vectorizedHashCode_126 (z : XKT) : XOi z xInf Y_J11_vectorizedHashCode 126 (.inl (i_goto 157)) := ok_goto dJ11_vectorizedHashCode_126 rfl
theorem kJ11_vectorizedHashCode_132 (z : XKT) : XOi z xInf Y_J11_vectorizedHashCode 132 (.inl (i_dup 133)) := ok_dup dJ11_vectorizedHashCode_132
theorem kJ11_vectorizedHashCode_133 (z : XKT) : XOi z xInf Y_J11_vectorizedHashCode 133 (.inl (i_new 19 4 136)) := ok_new dJ11_vectorizedHashCode_133 q1977 q251 q135 (List.mem_of_getElem? (l := xCls) (i := 18) rfl) rfl in_J8 tyJ8_ok rfl (by decide) (by decide)
theorem kJ11_vectorizedHashCode_136 (z : XKT) : XOi z xInf Y_J11_vectorizedHashCode 136 (.inl (i_dup 137)) := ok_dup dJ11_vectorizedHashCode_136
theorem kJ11_vectorizedHashCode_137 (z : XKT) : XOi z xInf Y_J11_vectorizedHashCode 137 (.inr (.inl (140, g_spec 370 0))) := show XOkC z xInf Y_J11_vectorizedHashCode 137 140 (g_spec 370 0) from okc_I (q := Y_J11_vectorizedHashCode) (q1 := Y_J8_init) Z_J8_init rfl rfl rfl (by decide) dJ11_vectorizedHashCode_137 q1978 q253 q135 q254 hy_179
theorem kJ11_vectorizedHashCode_140 (z : XKT) : XOi z xInf Y_J11_vectorizedHashCode 140 (.inl (i_push (vR (some (z.2.1 29))) 142)) := ok_ldcs dJ11_vectorizedHashCode_140 (List.mem_of_getElem? (l := xStr) (i := 34) rfl)
theorem kJ11_vectorizedHashCode_142 (z : XKT) : XOi z xInf Y_J11_vectorizedHashCode 142 (.inr (.inl (145, g_virt [(19, 367)] 1))) := show XOkC z xInf Y_J11_vectorizedHashCode 142 145 (g_virt [(19, 367)] 1) from okc_V (q := Y_J11_vectorizedHashCode) (List.forall_mem_cons.mpr ⟨(show XOkV z xInf Y_J11_vectorizedHashCode 142 145 1 (19, 367) from okv_V (q := Y_J11_vectorizedHashCode) (q1 := Y_J8_append) Z_J8_append rfl (by decide) ⟨by decide, by decide, Or.inl ⟨_, _, (List.mem_of_getElem? (l := xCls) (i := 18) rfl)⟩⟩ dJ11_vectorizedHashCode_142 q1980 q286 q287 q135 q288 hy_378), (fun _ h => absurd h List.not_mem_nil)⟩)
theorem kJ11_vectorizedHashCode_145 (z : XKT) : XOi z xInf Y_J11_vectorizedHashCode 145 (.inl (i_iload 4 147)) := ok_iload dJ11_vectorizedHashCode_145
theorem kJ11_vectorizedHashCode_147 (z : XKT) : XOi z xInf Y_J11_vectorizedHashCode 147 (.inr (.inl (150, g_virt [(19, 368)] 1))) := show XOkC z xInf Y_J11_vectorizedHashCode 147 150 (g_virt [(19, 368)] 1) from okc_V (q := Y_J11_vectorizedHashCode) (List.forall_mem_cons.mpr ⟨(show XOkV z xInf Y_J11_vectorizedHashCode 147 150 1 (19, 368) from okv_V (q := Y_J11_vectorizedHashCode) (q1 := Y_J8_append_2) Z_J8_append_2 rfl (by decide) ⟨by decide, by decide, Or.inl ⟨_, _, (List.mem_of_getElem? (l := xCls) (i := 18) rfl)⟩⟩ dJ11_vectorizedHashCode_147 q1981 q406 q407 q135 q408 hy_183), (fun _ h => absurd h List.not_mem_nil)⟩)
theorem kJ11_vectorizedHashCode_150 (z : XKT) : XOi z xInf Y_J11_vectorizedHashCode 150 (.inr (.inl (153, g_virt [(19, 373)] 0))) := show XOkC z xInf Y_J11_vectorizedHashCode 150 153 (g_virt [(19, 373)] 0) from okc_V (q := Y_J11_vectorizedHashCode) (List.forall_mem_cons.mpr ⟨(show XOkV z xInf Y_J11_vectorizedHashCode 150 153 0 (19, 373) from okv_V (q := Y_J11_vectorizedHashCode) (q1 := Y_J8_toString) Z_J8_toString rfl (by decide) ⟨by decide, by decide, Or.inl ⟨_, _, (List.mem_of_getElem? (l := xCls) (i := 18) rfl)⟩⟩ dJ11_vectorizedHashCode_150 q1982 q431 q432 q135 q433 hy_184), (fun _ h => absurd h List.not_mem_nil)⟩)
theorem kJ11_vectorizedHashCode_157 (z : XKT) : XOi z xInf Y_J11_vectorizedHashCode 157 (.inr (.inr (.inl (r_i .int)))) := show XOkR Y_J11_vectorizedHashCode 157 ((r_i .int)) from okr_i (q := Y_J11_vectorizedHashCode) (ty := .int) rfl rfl dJ11_vectorizedHashCode_157
theorem o_J11_vectorizedHashCode (z : XKT) : XMi z xInf Y_J11_vectorizedHashCode := XMi.mk9 (T := T_J11_vectorizedHashCode z) rfl (⟨kJ11_vectorizedHashCode_0 z, ⟨kJ11_vectorizedHashCode_2 z, ⟨kJ11_vectorizedHashCode_44 z, ⟨kJ11_vectorizedHashCode_45 z, ⟨kJ11_vectorizedHashCode_46 z, ⟨kJ11_vectorizedHashCode_49 z, ⟨kJ11_vectorizedHashCode_50 z, ⟨kJ11_vectorizedHashCode_51 z, ⟨kJ11_vectorizedHashCode_54 z, ⟨kJ11_vectorizedHashCode_57 z, ⟨kJ11_vectorizedHashCode_58 z, ⟨kJ11_vectorizedHashCode_61 z, ⟨kJ11_vectorizedHashCode_64 z, ⟨kJ11_vectorizedHashCode_65 z, ⟨kJ11_vectorizedHashCode_66 z, ⟨kJ11_vectorizedHashCode_69 z, ⟨kJ11_vectorizedHashCode_70 z, ⟨kJ11_vectorizedHashCode_74 z, ⟨kJ11_vectorizedHashCode_77 z, ⟨kJ11_vectorizedHashCode_78 z, ⟨kJ11_vectorizedHashCode_82 z, ⟨kJ11_vectorizedHashCode_83 z, ⟨kJ11_vectorizedHashCode_87 z, ⟨kJ11_vectorizedHashCode_90 z, ⟨kJ11_vectorizedHashCode_91 z, ⟨kJ11_vectorizedHashCode_92 z, ⟨kJ11_vectorizedHashCode_95 z, ⟨kJ11_vectorizedHashCode_96 z, ⟨kJ11_vectorizedHashCode_97 z, ⟨kJ11_vectorizedHashCode_100 z, ⟨kJ11_vectorizedHashCode_103 z, ⟨kJ11_vectorizedHashCode_104 z, ⟨kJ11_vectorizedHashCode_108 z, ⟨kJ11_vectorizedHashCode_109 z, ⟨kJ11_vectorizedHashCode_113 z, ⟨kJ11_vectorizedHashCode_116 z, ⟨kJ11_vectorizedHashCode_117 z, ⟨kJ11_vectorizedHashCode_118 z, ⟨kJ11_vectorizedHashCode_121 z, ⟨kJ11_vectorizedHashCode_122 z, ⟨kJ11_vectorizedHashCode_126 z, ⟨kJ11_vectorizedHashCode_132 z, ⟨kJ11_vectorizedHashCode_133 z, ⟨kJ11_vectorizedHashCode_136 z, ⟨kJ11_vectorizedHashCode_137 z, ⟨kJ11_vectorizedHashCode_140 z, ⟨kJ11_vectorizedHashCode_142 z, ⟨kJ11_vectorizedHashCode_145 z, ⟨kJ11_vectorizedHashCode_147 z, ⟨kJ11_vectorizedHashCode_150 z, ⟨kJ11_vectorizedHashCode_157 z, trivial⟩⟩⟩⟩⟩⟩⟩⟩⟩⟩⟩⟩⟩⟩⟩⟩⟩⟩⟩⟩⟩⟩⟩⟩⟩⟩⟩⟩⟩⟩⟩⟩⟩⟩⟩⟩⟩⟩⟩⟩⟩⟩⟩⟩⟩⟩⟩⟩⟩⟩⟩) (hd_J11_vectorizedHashCode z) rfl rfl (by decide +kernel)
theorem hd_J12_max (z : XKT) : XHd z Y_J12_max := xHd_none rfl (xhd0 rfl)
theorem kJ12_max_0 (z : XKT) : XOi z xInf Y_J12_max 0 (.inl (i_iload 0 1)) := ok_iload_n dJ12_max_0 rfl
theorem kJ12_max_1 (z : XKT) : XOi z xInf Y_J12_max 1 (.inl (i_iload 1 2)) := ok_iload_n dJ12_max_1 rfl
theorem kJ12_max_2 (z : XKT) : XOi z xInf Y_J12_max 2 (.inl (i_icmp (fun x y => x < y) 9 5)) := ok_icmp_lt dJ12_max_2 rfl
theorem kJ12_max_5 (z : XKT) : XOi z xInf Y_J12_max 5 (.inl (i_iload 0 6)) := ok_iload_n dJ12_max_5 rfl
theorem kJ12_max_6 (z : XKT) : XOi z xInf Y_J12_max 6 (.inl (i_goto 10)) := ok_goto dJ12_max_6 rfl
theorem kJ12_max_9 (z : XKT) : XOi z xInf Y_J12_max 9 (.inl (i_iload 1 10)) := ok_iload_n dJ12_max_9 rfl
theorem kJ12_max_10 (z : XKT) : XOi z xInf Y_J12_max 10 (.inr (.inr (.inl (r_i .int)))) := show XOkR Y_J12_max 10 ((r_i .int)) from okr_i (q := Y_J12_max) (ty := .int) rfl rfl dJ12_max_10
theorem o_J12_max (z : XKT) : XMi z xInf Y_J12_max := XMi.mk9 (T := T_J12_max z) rfl (⟨kJ12_max_0 z, ⟨kJ12_max_1 z, ⟨kJ12_max_2 z, ⟨kJ12_max_5 z, ⟨kJ12_max_6 z, ⟨kJ12_max_9 z, ⟨kJ12_max_10 z, trivial⟩⟩⟩⟩⟩⟩⟩) (hd_J12_max z) rfl rfl (by decide +kernel)
theorem hd_J12_min (z : XKT) : XHd z Y_J12_min := xHd_none rfl (xhd0 rfl)
theorem kJ12_min_0 (z : XKT) : XOi z xInf Y_J12_min 0 (.inl (i_iload 0 1)) := ok_iload_n dJ12_min_0 rfl
theorem kJ12_min_1 (z : XKT) : XOi z xInf Y_J12_min 1 (.inl (i_iload 1 2)) := ok_iload_n dJ12_min_1 rfl
theorem kJ12_min_2 (z : XKT) : XOi z xInf Y_J12_min 2 (.inl (i_icmp (fun x y => y < x) 9 5)) := ok_icmp_gt dJ12_min_2 rfl
theorem kJ12_min_5 (z : XKT) : XOi z xInf Y_J12_min 5 (.inl (i_iload 0 6)) := ok_iload_n dJ12_min_5 rfl
theorem kJ12_min_6 (z : XKT) : XOi z xInf Y_J12_min 6 (.inl (i_goto 10)) := ok_goto dJ12_min_6 rfl
theorem kJ12_min_9 (z : XKT) : XOi z xInf Y_J12_min 9 (.inl (i_iload 1 10)) := ok_iload_n dJ12_min_9 rfl
theorem kJ12_min_10 (z : XKT) : XOi z xInf Y_J12_min 10 (.inr (.inr (.inl (r_i .int)))) := show XOkR Y_J12_min 10 ((r_i .int)) from okr_i (q := Y_J12_min) (ty := .int) rfl rfl dJ12_min_10
theorem o_J12_min (z : XKT) : XMi z xInf Y_J12_min := XMi.mk9 (T := T_J12_min z) rfl (⟨kJ12_min_0 z, ⟨kJ12_min_1 z, ⟨kJ12_min_2 z, ⟨kJ12_min_5 z, ⟨kJ12_min_6 z, ⟨kJ12_min_9 z, ⟨kJ12_min_10 z, trivial⟩⟩⟩⟩⟩⟩⟩) (hd_J12_min z) rfl rfl (by decide +kernel)
theorem hd_J13_copyOf (z : XKT) : XHd z Y_J13_copyOf := xHd_none rfl (xhd0 rfl)
theorem kJ13_copyOf_0 (z : XKT) : XOi z xInf Y_J13_copyOf 0 (.inl (i_iload 1 1)) := ok_iload_n dJ13_copyOf_0 rfl
theorem kJ13_copyOf_1 (z : XKT) : XOi z xInf Y_J13_copyOf 1 (.inl (i_aload 0 2)) := ok_aload_n dJ13_copyOf_1 rfl
theorem kJ13_copyOf_2 (z : XKT) : XOi z xInf Y_J13_copyOf 2 (.inl (i_alen 3)) := ok_alen dJ13_copyOf_2
theorem kJ13_copyOf_3 (z : XKT) : XOi z xInf Y_J13_copyOf 3 (.inl (i_icmp (fun x y => ¬ x = y) 14 6)) := ok_icmp_ne dJ13_copyOf_3 rfl
theorem kJ13_copyOf_6 (z : XKT) : XOi z xInf Y_J13_copyOf 6 (.inl (i_aload 0 7)) := ok_aload_n dJ13_copyOf_6 rfl
theorem kJ13_copyOf_7 (z : XKT) : XOi z xInf Y_J13_copyOf 7 (.inl (i_clone 1001 10)) := ok_cloneB dJ13_copyOf_7 q318 q319 q320 q321 q322 q323
theorem kJ13_copyOf_10 (z : XKT) : XOi z xInf Y_J13_copyOf 10 (.inl (i_cast [1001] 13)) := ok_castA (ty := .byte) dJ13_copyOf_10 q324 (List.mem_of_getElem? (l := xArs) (i := 1) rfl) (by decide)
theorem kJ13_copyOf_13 (z : XKT) : XOi z xInf Y_J13_copyOf 13 (.inr (.inr (.inl r_a))) := show XOkR Y_J13_copyOf 13 (r_a) from okr_a (q := Y_J13_copyOf) rfl (Or.inr ⟨_, rfl⟩) dJ13_copyOf_13
theorem kJ13_copyOf_14 (z : XKT) : XOi z xInf Y_J13_copyOf 14 (.inl (i_iload 1 15)) := ok_iload_n dJ13_copyOf_14 rfl
theorem kJ13_copyOf_15 (z : XKT) : XOi z xInf Y_J13_copyOf 15 (.inl (i_nai 1001 17)) := ok_nai (ty := .byte) dJ13_copyOf_15 q282 rfl (List.mem_of_getElem? (l := xArs) (i := 1) rfl) (Or.inr rfl) (by decide) (by decide) (by decide)
theorem kJ13_copyOf_17 (z : XKT) : XOi z xInf Y_J13_copyOf 17 (.inl (i_astore 2 18)) := ok_astore_n dJ13_copyOf_17 rfl
theorem kJ13_copyOf_18 (z : XKT) : XOi z xInf Y_J13_copyOf 18 (.inl (i_aload 0 19)) := ok_aload_n dJ13_copyOf_18 rfl
theorem kJ13_copyOf_19 (z : XKT) : XOi z xInf Y_J13_copyOf 19 (.inl (i_push (vI 0) 20)) := ok_iconst dJ13_copyOf_19 rfl
theorem kJ13_copyOf_20 (z : XKT) : XOi z xInf Y_J13_copyOf 20 (.inl (i_aload 2 21)) := ok_aload_n dJ13_copyOf_20 rfl
theorem kJ13_copyOf_21 (z : XKT) : XOi z xInf Y_J13_copyOf 21 (.inl (i_push (vI 0) 22)) := ok_iconst dJ13_copyOf_21 rfl
theorem kJ13_copyOf_22 (z : XKT) : XOi z xInf Y_J13_copyOf 22 (.inl (i_aload 0 23)) := ok_aload_n dJ13_copyOf_22 rfl
theorem kJ13_copyOf_23 (z : XKT) : XOi z xInf Y_J13_copyOf 23 (.inl (i_alen 24)) := ok_alen dJ13_copyOf_23
theorem kJ13_copyOf_24 (z : XKT) : XOi z xInf Y_J13_copyOf 24 (.inl (i_iload 1 25)) := ok_iload_n dJ13_copyOf_24 rfl
theorem kJ13_copyOf_25 (z : XKT) : XOi z xInf Y_J13_copyOf 25 (.inr (.inl (28, g_stat 389 2))) := show XOkC z xInf Y_J13_copyOf 25 28 (g_stat 389 2) from okc_S (q := Y_J13_copyOf) (q1 := Y_J12_min) Z_J12_min rfl (by decide) dJ13_copyOf_25 q325 q326 q139 q327 hy_231
theorem kJ13_copyOf_28 (z : XKT) : XOi z xInf Y_J13_copyOf 28 (.inl (i_acopy z.1 1001 31)) := ok_acopy (ty := .byte) dJ13_copyOf_28 q328 q330 q329 q141 (List.mem_of_getElem? (l := xArs) (i := 1) rfl) (Or.inr ⟨rfl, rfl⟩) (by decide) (by decide) (by decide)
theorem kJ13_copyOf_31 (z : XKT) : XOi z xInf Y_J13_copyOf 31 (.inl (i_aload 2 32)) := ok_aload_n dJ13_copyOf_31 rfl
theorem kJ13_copyOf_32 (z : XKT) : XOi z xInf Y_J13_copyOf 32 (.inr (.inr (.inl r_a))) := show XOkR Y_J13_copyOf 32 (r_a) from okr_a (q := Y_J13_copyOf) rfl (Or.inr ⟨_, rfl⟩) dJ13_copyOf_32
theorem o_J13_copyOf (z : XKT) : XMi z xInf Y_J13_copyOf := XMi.mk9 (T := T_J13_copyOf z) rfl (⟨kJ13_copyOf_0 z, ⟨kJ13_copyOf_1 z, ⟨kJ13_copyOf_2 z, ⟨kJ13_copyOf_3 z, ⟨kJ13_copyOf_6 z, ⟨kJ13_copyOf_7 z, ⟨kJ13_copyOf_10 z, ⟨kJ13_copyOf_13 z, ⟨kJ13_copyOf_14 z, ⟨kJ13_copyOf_15 z, ⟨kJ13_copyOf_17 z, ⟨kJ13_copyOf_18 z, ⟨kJ13_copyOf_19 z, ⟨kJ13_copyOf_20 z, ⟨kJ13_copyOf_21 z, ⟨kJ13_copyOf_22 z, ⟨kJ13_copyOf_23 z, ⟨kJ13_copyOf_24 z, ⟨kJ13_copyOf_25 z, ⟨kJ13_copyOf_28 z, ⟨kJ13_copyOf_31 z, ⟨kJ13_copyOf_32 z, trivial⟩⟩⟩⟩⟩⟩⟩⟩⟩⟩⟩⟩⟩⟩⟩⟩⟩⟩⟩⟩⟩⟩) (hd_J13_copyOf z) rfl rfl (by decide +kernel)
theorem hd_J13_copyOfRange (z : XKT) : XHd z Y_J13_copyOfRange := xHd_none rfl (xhd0 rfl)
theorem kJ13_copyOfRange_0 (z : XKT) : XOi z xInf Y_J13_copyOfRange 0 (.inl (i_iload 1 1)) := ok_iload_n dJ13_copyOfRange_0 rfl
theorem kJ13_copyOfRange_1 (z : XKT) : XOi z xInf Y_J13_copyOfRange 1 (.inl (i_if (fun x => ¬ x = 0) 10 4)) := ok_if_ne dJ13_copyOfRange_1 rfl
theorem kJ13_copyOfRange_4 (z : XKT) : XOi z xInf Y_J13_copyOfRange 4 (.inl (i_iload 2 5)) := ok_iload_n dJ13_copyOfRange_4 rfl
theorem kJ13_copyOfRange_5 (z : XKT) : XOi z xInf Y_J13_copyOfRange 5 (.inl (i_aload 0 6)) := ok_aload_n dJ13_copyOfRange_5 rfl
theorem kJ13_copyOfRange_6 (z : XKT) : XOi z xInf Y_J13_copyOfRange 6 (.inl (i_alen 7)) := ok_alen dJ13_copyOfRange_6
theorem kJ13_copyOfRange_7 (z : XKT) : XOi z xInf Y_J13_copyOfRange 7 (.inl (i_icmp (fun x y => x = y) 17 10)) := ok_icmp_eq dJ13_copyOfRange_7 rfl
theorem kJ13_copyOfRange_10 (z : XKT) : XOi z xInf Y_J13_copyOfRange 10 (.inl (i_aload 0 11)) := ok_aload_n dJ13_copyOfRange_10 rfl
theorem kJ13_copyOfRange_11 (z : XKT) : XOi z xInf Y_J13_copyOfRange 11 (.inl (i_iload 1 12)) := ok_iload_n dJ13_copyOfRange_11 rfl
theorem kJ13_copyOfRange_12 (z : XKT) : XOi z xInf Y_J13_copyOfRange 12 (.inl (i_iload 2 13)) := ok_iload_n dJ13_copyOfRange_12 rfl
theorem kJ13_copyOfRange_13 (z : XKT) : XOi z xInf Y_J13_copyOfRange 13 (.inr (.inl (16, g_stat 392 3))) := show XOkC z xInf Y_J13_copyOfRange 13 16 (g_stat 392 3) from okc_S (q := Y_J13_copyOfRange) (q1 := Y_J13_copyOfRangeByte) Z_J13_copyOfRangeByte rfl (by decide) dJ13_copyOfRange_13 q460 q461 q140 q462 hy_410
theorem kJ13_copyOfRange_16 (z : XKT) : XOi z xInf Y_J13_copyOfRange 16 (.inr (.inr (.inl r_a))) := show XOkR Y_J13_copyOfRange 16 (r_a) from okr_a (q := Y_J13_copyOfRange) rfl (Or.inr ⟨_, rfl⟩) dJ13_copyOfRange_16
theorem kJ13_copyOfRange_17 (z : XKT) : XOi z xInf Y_J13_copyOfRange 17 (.inl (i_aload 0 18)) := ok_aload_n dJ13_copyOfRange_17 rfl
theorem kJ13_copyOfRange_18 (z : XKT) : XOi z xInf Y_J13_copyOfRange 18 (.inl (i_clone 1001 21)) := ok_cloneB dJ13_copyOfRange_18 q318 q319 q320 q321 q322 q323
theorem kJ13_copyOfRange_21 (z : XKT) : XOi z xInf Y_J13_copyOfRange 21 (.inl (i_cast [1001] 24)) := ok_castA (ty := .byte) dJ13_copyOfRange_21 q324 (List.mem_of_getElem? (l := xArs) (i := 1) rfl) (by decide)
theorem kJ13_copyOfRange_24 (z : XKT) : XOi z xInf Y_J13_copyOfRange 24 (.inr (.inr (.inl r_a))) := show XOkR Y_J13_copyOfRange 24 (r_a) from okr_a (q := Y_J13_copyOfRange) rfl (Or.inr ⟨_, rfl⟩) dJ13_copyOfRange_24
theorem o_J13_copyOfRange (z : XKT) : XMi z xInf Y_J13_copyOfRange := XMi.mk9 (T := T_J13_copyOfRange z) rfl (⟨kJ13_copyOfRange_0 z, ⟨kJ13_copyOfRange_1 z, ⟨kJ13_copyOfRange_4 z, ⟨kJ13_copyOfRange_5 z, ⟨kJ13_copyOfRange_6 z, ⟨kJ13_copyOfRange_7 z, ⟨kJ13_copyOfRange_10 z, ⟨kJ13_copyOfRange_11 z, ⟨kJ13_copyOfRange_12 z, ⟨kJ13_copyOfRange_13 z, ⟨kJ13_copyOfRange_16 z, ⟨kJ13_copyOfRange_17 z, ⟨kJ13_copyOfRange_18 z, ⟨kJ13_copyOfRange_21 z, ⟨kJ13_copyOfRange_24 z, trivial⟩⟩⟩⟩⟩⟩⟩⟩⟩⟩⟩⟩⟩⟩⟩) (hd_J13_copyOfRange z) rfl rfl (by decide +kernel)
theorem hd_J13_copyOfRangeByte (z : XKT) : XHd z Y_J13_copyOfRangeByte := xHd_none rfl (xhd0 rfl)
theorem kJ13_copyOfRangeByte_0 (z : XKT) : XOi z xInf Y_J13_copyOfRangeByte 0 (.inl (i_iload 1 1)) := ok_iload_n dJ13_copyOfRangeByte_0 rfl
theorem kJ13_copyOfRangeByte_1 (z : XKT) : XOi z xInf Y_J13_copyOfRangeByte 1 (.inl (i_iload 2 2)) := ok_iload_n dJ13_copyOfRangeByte_1 rfl
theorem kJ13_copyOfRangeByte_5 (z : XKT) : XOi z xInf Y_J13_copyOfRangeByte 5 (.inl (i_iload 2 6)) := ok_iload_n dJ13_copyOfRangeByte_5 rfl
theorem kJ13_copyOfRangeByte_6 (z : XKT) : XOi z xInf Y_J13_copyOfRangeByte 6 (.inl (i_iload 1 7)) := ok_iload_n dJ13_copyOfRangeByte_6 rfl
theorem kJ13_copyOfRangeByte_7 (z : XKT) : XOi z xInf Y_J13_copyOfRangeByte 7 (.inl (i_bin (fun x y => x - y) 8)) := ok_isub dJ13_copyOfRangeByte_7
theorem kJ13_copyOfRangeByte_8 (z : XKT) : XOi z xInf Y_J13_copyOfRangeByte 8 (.inl (i_istore 3 9)) := ok_istore_n dJ13_copyOfRangeByte_8 rfl
theorem kJ13_copyOfRangeByte_9 (z : XKT) : XOi z xInf Y_J13_copyOfRangeByte 9 (.inl (i_iload 3 10)) := ok_iload_n dJ13_copyOfRangeByte_9 rfl
theorem kJ13_copyOfRangeByte_10 (z : XKT) : XOi z xInf Y_J13_copyOfRangeByte 10 (.inl (i_nai 1001 12)) := ok_nai (ty := .byte) dJ13_copyOfRangeByte_10 q282 rfl (List.mem_of_getElem? (l := xArs) (i := 1) rfl) (Or.inr rfl) (by decide) (by decide) (by decide)
theorem kJ13_copyOfRangeByte_12 (z : XKT) : XOi z xInf Y_J13_copyOfRangeByte 12 (.inl (i_astore 4 14)) := ok_astore dJ13_copyOfRangeByte_12
theorem kJ13_copyOfRangeByte_14 (z : XKT) : XOi z xInf Y_J13_copyOfRangeByte 14 (.inl (i_aload 0 15)) := ok_aload_n dJ13_copyOfRangeByte_14 rfl
theorem kJ13_copyOfRangeByte_15 (z : XKT) : XOi z xInf Y_J13_copyOfRangeByte 15 (.inl (i_iload 1 16)) := ok_iload_n dJ13_copyOfRangeByte_15 rfl
theorem kJ13_copyOfRangeByte_16 (z : XKT) : XOi z xInf Y_J13_copyOfRangeByte 16 (.inl (i_aload 4 18)) := ok_aload dJ13_copyOfRangeByte_16
theorem kJ13_copyOfRangeByte_18 (z : XKT) : XOi z xInf Y_J13_copyOfRangeByte 18 (.inl (i_push (vI 0) 19)) := ok_iconst dJ13_copyOfRangeByte_18 rfl
theorem kJ13_copyOfRangeByte_19 (z : XKT) : XOi z xInf Y_J13_copyOfRangeByte 19 (.inl (i_aload 0 20)) := ok_aload_n dJ13_copyOfRangeByte_19 rfl
theorem kJ13_copyOfRangeByte_20 (z : XKT) : XOi z xInf Y_J13_copyOfRangeByte 20 (.inl (i_alen 21)) := ok_alen dJ13_copyOfRangeByte_20
theorem kJ13_copyOfRangeByte_21 (z : XKT) : XOi z xInf Y_J13_copyOfRangeByte 21 (.inl (i_iload 1 22)) := ok_iload_n dJ13_copyOfRangeByte_21 rfl
theorem kJ13_copyOfRangeByte_22 (z : XKT) : XOi z xInf Y_J13_copyOfRangeByte 22 (.inl (i_bin (fun x y => x - y) 23)) := ok_isub dJ13_copyOfRangeByte_22
theorem kJ13_copyOfRangeByte_23 (z : XKT) : XOi z xInf Y_J13_copyOfRangeByte 23 (.inl (i_iload 3 24)) := ok_iload_n dJ13_copyOfRangeByte_23 rfl
theorem kJ13_copyOfRangeByte_24 (z : XKT) : XOi z xInf Y_J13_copyOfRangeByte 24 (.inr (.inl (27, g_stat 389 2))) := show XOkC z xInf Y_J13_copyOfRangeByte 24 27 (g_stat 389 2) from okc_S (q := Y_J13_copyOfRangeByte) (q1 := Y_J12_min) Z_J12_min rfl (by decide) dJ13_copyOfRangeByte_24 q325 q326 q139 q327 hy_231
theorem kJ13_copyOfRangeByte_27 (z : XKT) : XOi z xInf Y_J13_copyOfRangeByte 27 (.inl (i_acopy z.1 1001 30)) := ok_acopy (ty := .byte) dJ13_copyOfRangeByte_27 q328 q330 q329 q141 (List.mem_of_getElem? (l := xArs) (i := 1) rfl) (Or.inr ⟨rfl, rfl⟩) (by decide) (by decide) (by decide)
theorem kJ13_copyOfRangeByte_30 (z : XKT) : XOi z xInf Y_J13_copyOfRangeByte 30 (.inl (i_aload 4 32)) := ok_aload dJ13_copyOfRangeByte_30
theorem kJ13_copyOfRangeByte_32 (z : XKT) : XOi z xInf Y_J13_copyOfRangeByte 32 (.inr (.inr (.inl r_a))) := show XOkR Y_J13_copyOfRangeByte 32 (r_a) from okr_a (q := Y_J13_copyOfRangeByte) rfl (Or.inr ⟨_, rfl⟩) dJ13_copyOfRangeByte_32
theorem o_J13_copyOfRangeByte (z : XKT) : XMi z xInf Y_J13_copyOfRangeByte := XMi.mk9 (T := T_J13_copyOfRangeByte z) rfl (⟨kJ13_copyOfRangeByte_0 z, ⟨kJ13_copyOfRangeByte_1 z, ⟨kJ13_copyOfRangeByte_5 z, ⟨kJ13_copyOfRangeByte_6 z, ⟨kJ13_copyOfRangeByte_7 z, ⟨kJ13_copyOfRangeByte_8 z, ⟨kJ13_copyOfRangeByte_9 z, ⟨kJ13_copyOfRangeByte_10 z, ⟨kJ13_copyOfRangeByte_12 z, ⟨kJ13_copyOfRangeByte_14 z, ⟨kJ13_copyOfRangeByte_15 z, ⟨kJ13_copyOfRangeByte_16 z, ⟨kJ13_copyOfRangeByte_18 z, ⟨kJ13_copyOfRangeByte_19 z, ⟨kJ13_copyOfRangeByte_20 z, ⟨kJ13_copyOfRangeByte_21 z, ⟨kJ13_copyOfRangeByte_22 z, ⟨kJ13_copyOfRangeByte_23 z, ⟨kJ13_copyOfRangeByte_24 z, ⟨kJ13_copyOfRangeByte_27 z, ⟨kJ13_copyOfRangeByte_30 z, ⟨kJ13_copyOfRangeByte_32 z, trivial⟩⟩⟩⟩⟩⟩⟩⟩⟩⟩⟩⟩⟩⟩⟩⟩⟩⟩⟩⟩⟩⟩) (hd_J13_copyOfRangeByte z) rfl rfl (by decide +kernel)
theorem hd_J13_fill (z : XKT) : XHd z Y_J13_fill := xHd_none rfl (xhd0 rfl)
theorem kJ13_fill_0 (z : XKT) : XOi z xInf Y_J13_fill 0 (.inl (i_aload 0 1)) := ok_aload_n dJ13_fill_0 rfl
theorem kJ13_fill_1 (z : XKT) : XOi z xInf Y_J13_fill 1 (.inl (i_alen 2)) := ok_alen dJ13_fill_1
theorem kJ13_fill_2 (z : XKT) : XOi z xInf Y_J13_fill 2 (.inl (i_iload 1 3)) := ok_iload_n dJ13_fill_2 rfl
theorem kJ13_fill_3 (z : XKT) : XOi z xInf Y_J13_fill 3 (.inl (i_iload 2 4)) := ok_iload_n dJ13_fill_3 rfl
theorem kJ13_fill_4 (z : XKT) : XOi z xInf Y_J13_fill 4 (.inr (.inl (7, g_stat 394 3))) := show XOkC z xInf Y_J13_fill 4 7 (g_stat 394 3) from okc_S (q := Y_J13_fill) (q1 := Y_J13_rangeCheck) Z_J13_rangeCheck rfl (by decide) dJ13_fill_4 q1797 q1798 q140 q1799 hy_411
theorem kJ13_fill_7 (z : XKT) : XOi z xInf Y_J13_fill 7 (.inl (i_iload 1 8)) := ok_iload_n dJ13_fill_7 rfl
theorem kJ13_fill_8 (z : XKT) : XOi z xInf Y_J13_fill 8 (.inl (i_istore 4 10)) := ok_istore dJ13_fill_8
theorem kJ13_fill_10 (z : XKT) : XOi z xInf Y_J13_fill 10 (.inl (i_iload 4 12)) := ok_iload dJ13_fill_10
theorem kJ13_fill_12 (z : XKT) : XOi z xInf Y_J13_fill 12 (.inl (i_iload 2 13)) := ok_iload_n dJ13_fill_12 rfl
theorem kJ13_fill_13 (z : XKT) : XOi z xInf Y_J13_fill 13 (.inl (i_icmp (fun x y => y ≤ x) 27 16)) := ok_icmp_ge dJ13_fill_13 rfl
theorem kJ13_fill_16 (z : XKT) : XOi z xInf Y_J13_fill 16 (.inl (i_aload 0 17)) := ok_aload_n dJ13_fill_16 rfl
theorem kJ13_fill_17 (z : XKT) : XOi z xInf Y_J13_fill 17 (.inl (i_iload 4 19)) := ok_iload dJ13_fill_17
theorem kJ13_fill_19 (z : XKT) : XOi z xInf Y_J13_fill 19 (.inl (i_iload 3 20)) := ok_iload_n dJ13_fill_19 rfl
theorem kJ13_fill_20 (z : XKT) : XOi z xInf Y_J13_fill 20 (.inl (i_ast z.1 1001 (fun x => x.toInt8.toInt32) 21)) := ok_bast dJ13_fill_20
theorem kJ13_fill_21 (z : XKT) : XOi z xInf Y_J13_fill 21 (.inl (i_iinc 4 1 24)) := ok_iinc dJ13_fill_21 rfl
theorem kJ13_fill_24 (z : XKT) : XOi z xInf Y_J13_fill 24 (.inl (i_goto 10)) := ok_goto dJ13_fill_24 rfl
theorem kJ13_fill_27 (z : XKT) : XOi z xInf Y_J13_fill 27 (.inr (.inr (.inl r_v))) := show XOkR Y_J13_fill 27 (r_v) from okr_v (q := Y_J13_fill) rfl dJ13_fill_27
theorem o_J13_fill (z : XKT) : XMi z xInf Y_J13_fill := XMi.mk9 (T := T_J13_fill z) rfl (⟨kJ13_fill_0 z, ⟨kJ13_fill_1 z, ⟨kJ13_fill_2 z, ⟨kJ13_fill_3 z, ⟨kJ13_fill_4 z, ⟨kJ13_fill_7 z, ⟨kJ13_fill_8 z, ⟨kJ13_fill_10 z, ⟨kJ13_fill_12 z, ⟨kJ13_fill_13 z, ⟨kJ13_fill_16 z, ⟨kJ13_fill_17 z, ⟨kJ13_fill_19 z, ⟨kJ13_fill_20 z, ⟨kJ13_fill_21 z, ⟨kJ13_fill_24 z, ⟨kJ13_fill_27 z, trivial⟩⟩⟩⟩⟩⟩⟩⟩⟩⟩⟩⟩⟩⟩⟩⟩⟩) (hd_J13_fill z) rfl rfl (by decide +kernel)
theorem hd_J13_rangeCheck (z : XKT) : XHd z Y_J13_rangeCheck := xHd_none rfl (xhd0 rfl)
theorem kJ13_rangeCheck_0 (z : XKT) : XOi z xInf Y_J13_rangeCheck 0 (.inl (i_iload 1 1)) := ok_iload_n dJ13_rangeCheck_0 rfl
theorem kJ13_rangeCheck_1 (z : XKT) : XOi z xInf Y_J13_rangeCheck 1 (.inl (i_iload 2 2)) := ok_iload_n dJ13_rangeCheck_1 rfl
theorem kJ13_rangeCheck_2 (z : XKT) : XOi z xInf Y_J13_rangeCheck 2 (.inl (i_icmp (fun x y => x ≤ y) 46 5)) := ok_icmp_le dJ13_rangeCheck_2 rfl
theorem kJ13_rangeCheck_8 (z : XKT) : XOi z xInf Y_J13_rangeCheck 8 (.inl (i_dup 9)) := ok_dup dJ13_rangeCheck_8
theorem kJ13_rangeCheck_9 (z : XKT) : XOi z xInf Y_J13_rangeCheck 9 (.inl (i_new 19 4 12)) := ok_new dJ13_rangeCheck_9 q467 q251 q135 (List.mem_of_getElem? (l := xCls) (i := 18) rfl) rfl in_J8 tyJ8_ok rfl (by decide) (by decide)
theorem kJ13_rangeCheck_12 (z : XKT) : XOi z xInf Y_J13_rangeCheck 12 (.inl (i_dup 13)) := ok_dup dJ13_rangeCheck_12
theorem kJ13_rangeCheck_13 (z : XKT) : XOi z xInf Y_J13_rangeCheck 13 (.inr (.inl (16, g_spec 370 0))) := show XOkC z xInf Y_J13_rangeCheck 13 16 (g_spec 370 0) from okc_I (q := Y_J13_rangeCheck) (q1 := Y_J8_init) Z_J8_init rfl rfl rfl (by decide) dJ13_rangeCheck_13 q468 q253 q135 q254 hy_179
theorem kJ13_rangeCheck_16 (z : XKT) : XOi z xInf Y_J13_rangeCheck 16 (.inl (i_push (vR (some (z.2.1 20))) 18)) := ok_ldcs dJ13_rangeCheck_16 (List.mem_of_getElem? (l := xStr) (i := 31) rfl)
theorem kJ13_rangeCheck_18 (z : XKT) : XOi z xInf Y_J13_rangeCheck 18 (.inr (.inl (21, g_virt [(19, 367)] 1))) := show XOkC z xInf Y_J13_rangeCheck 18 21 (g_virt [(19, 367)] 1) from okc_V (q := Y_J13_rangeCheck) (List.forall_mem_cons.mpr ⟨(show XOkV z xInf Y_J13_rangeCheck 18 21 1 (19, 367) from okv_V (q := Y_J13_rangeCheck) (q1 := Y_J8_append) Z_J8_append rfl (by decide) ⟨by decide, by decide, Or.inl ⟨_, _, (List.mem_of_getElem? (l := xCls) (i := 18) rfl)⟩⟩ dJ13_rangeCheck_18 q471 q286 q287 q135 q288 hy_378), (fun _ h => absurd h List.not_mem_nil)⟩)
theorem kJ13_rangeCheck_21 (z : XKT) : XOi z xInf Y_J13_rangeCheck 21 (.inl (i_iload 1 22)) := ok_iload_n dJ13_rangeCheck_21 rfl
theorem kJ13_rangeCheck_22 (z : XKT) : XOi z xInf Y_J13_rangeCheck 22 (.inr (.inl (25, g_virt [(19, 368)] 1))) := show XOkC z xInf Y_J13_rangeCheck 22 25 (g_virt [(19, 368)] 1) from okc_V (q := Y_J13_rangeCheck) (List.forall_mem_cons.mpr ⟨(show XOkV z xInf Y_J13_rangeCheck 22 25 1 (19, 368) from okv_V (q := Y_J13_rangeCheck) (q1 := Y_J8_append_2) Z_J8_append_2 rfl (by decide) ⟨by decide, by decide, Or.inl ⟨_, _, (List.mem_of_getElem? (l := xCls) (i := 18) rfl)⟩⟩ dJ13_rangeCheck_22 q469 q406 q407 q135 q408 hy_183), (fun _ h => absurd h List.not_mem_nil)⟩)
theorem kJ13_rangeCheck_25 (z : XKT) : XOi z xInf Y_J13_rangeCheck 25 (.inl (i_push (vR (some (z.2.1 21))) 27)) := ok_ldcs dJ13_rangeCheck_25 (List.mem_of_getElem? (l := xStr) (i := 32) rfl)
theorem kJ13_rangeCheck_27 (z : XKT) : XOi z xInf Y_J13_rangeCheck 27 (.inr (.inl (30, g_virt [(19, 367)] 1))) := show XOkC z xInf Y_J13_rangeCheck 27 30 (g_virt [(19, 367)] 1) from okc_V (q := Y_J13_rangeCheck) (List.forall_mem_cons.mpr ⟨(show XOkV z xInf Y_J13_rangeCheck 27 30 1 (19, 367) from okv_V (q := Y_J13_rangeCheck) (q1 := Y_J8_append) Z_J8_append rfl (by decide) ⟨by decide, by decide, Or.inl ⟨_, _, (List.mem_of_getElem? (l := xCls) (i := 18) rfl)⟩⟩ dJ13_rangeCheck_27 q471 q286 q287 q135 q288 hy_378), (fun _ h => absurd h List.not_mem_nil)⟩)
theorem kJ13_rangeCheck_30 (z : XKT) : XOi z xInf Y_J13_rangeCheck 30 (.inl (i_iload 2 31)) := ok_iload_n dJ13_rangeCheck_30 rfl
theorem kJ13_rangeCheck_31 (z : XKT) : XOi z xInf Y_J13_rangeCheck 31 (.inr (.inl (34, g_virt [(19, 368)] 1))) := show XOkC z xInf Y_J13_rangeCheck 31 34 (g_virt [(19, 368)] 1) from okc_V (q := Y_J13_rangeCheck) (List.forall_mem_cons.mpr ⟨(show XOkV z xInf Y_J13_rangeCheck 31 34 1 (19, 368) from okv_V (q := Y_J13_rangeCheck) (q1 := Y_J8_append_2) Z_J8_append_2 rfl (by decide) ⟨by decide, by decide, Or.inl ⟨_, _, (List.mem_of_getElem? (l := xCls) (i := 18) rfl)⟩⟩ dJ13_rangeCheck_31 q469 q406 q407 q135 q408 hy_183), (fun _ h => absurd h List.not_mem_nil)⟩)
theorem kJ13_rangeCheck_34 (z : XKT) : XOi z xInf Y_J13_rangeCheck 34 (.inl (i_push (vR (some (z.2.1 22))) 36)) := ok_ldcs dJ13_rangeCheck_34 (List.mem_of_getElem? (l := xStr) (i := 33) rfl)
theorem kJ13_rangeCheck_36 (z : XKT) : XOi z xInf Y_J13_rangeCheck 36 (.inr (.inl (39, g_virt [(19, 367)] 1))) := show XOkC z xInf Y_J13_rangeCheck 36 39 (g_virt [(19, 367)] 1) from okc_V (q := Y_J13_rangeCheck) (List.forall_mem_cons.mpr ⟨(show XOkV z xInf Y_J13_rangeCheck 36 39 1 (19, 367) from okv_V (q := Y_J13_rangeCheck) (q1 := Y_J8_append) Z_J8_append rfl (by decide) ⟨by decide, by decide, Or.inl ⟨_, _, (List.mem_of_getElem? (l := xCls) (i := 18) rfl)⟩⟩ dJ13_rangeCheck_36 q471 q286 q287 q135 q288 hy_378), (fun _ h => absurd h List.not_mem_nil)⟩)
theorem kJ13_rangeCheck_39 (z : XKT) : XOi z xInf Y_J13_rangeCheck 39 (.inr (.inl (42, g_virt [(19, 373)] 0))) := show XOkC z xInf Y_J13_rangeCheck 39 42 (g_virt [(19, 373)] 0) from okc_V (q := Y_J13_rangeCheck) (List.forall_mem_cons.mpr ⟨(show XOkV z xInf Y_J13_rangeCheck 39 42 0 (19, 373) from okv_V (q := Y_J13_rangeCheck) (q1 := Y_J8_toString) Z_J8_toString rfl (by decide) ⟨by decide, by decide, Or.inl ⟨_, _, (List.mem_of_getElem? (l := xCls) (i := 18) rfl)⟩⟩ dJ13_rangeCheck_39 q472 q431 q432 q135 q433 hy_184), (fun _ h => absurd h List.not_mem_nil)⟩)
theorem kJ13_rangeCheck_46 (z : XKT) : XOi z xInf Y_J13_rangeCheck 46 (.inl (i_iload 1 47)) := ok_iload_n dJ13_rangeCheck_46 rfl
theorem kJ13_rangeCheck_47 (z : XKT) : XOi z xInf Y_J13_rangeCheck 47 (.inl (i_if (fun x => 0 ≤ x) 59 50)) := ok_if_ge dJ13_rangeCheck_47 rfl
theorem kJ13_rangeCheck_53 (z : XKT) : XOi z xInf Y_J13_rangeCheck 53 (.inl (i_dup 54)) := ok_dup dJ13_rangeCheck_53
theorem kJ13_rangeCheck_54 (z : XKT) : XOi z xInf Y_J13_rangeCheck 54 (.inl (i_iload 1 55)) := ok_iload_n dJ13_rangeCheck_54 rfl
theorem kJ13_rangeCheck_59 (z : XKT) : XOi z xInf Y_J13_rangeCheck 59 (.inl (i_iload 2 60)) := ok_iload_n dJ13_rangeCheck_59 rfl
theorem kJ13_rangeCheck_60 (z : XKT) : XOi z xInf Y_J13_rangeCheck 60 (.inl (i_iload 0 61)) := ok_iload_n dJ13_rangeCheck_60 rfl
theorem kJ13_rangeCheck_61 (z : XKT) : XOi z xInf Y_J13_rangeCheck 61 (.inl (i_icmp (fun x y => x ≤ y) 73 64)) := ok_icmp_le dJ13_rangeCheck_61 rfl
theorem kJ13_rangeCheck_67 (z : XKT) : XOi z xInf Y_J13_rangeCheck 67 (.inl (i_dup 68)) := ok_dup dJ13_rangeCheck_67
theorem kJ13_rangeCheck_68 (z : XKT) : XOi z xInf Y_J13_rangeCheck 68 (.inl (i_iload 2 69)) := ok_iload_n dJ13_rangeCheck_68 rfl
theorem kJ13_rangeCheck_73 (z : XKT) : XOi z xInf Y_J13_rangeCheck 73 (.inr (.inr (.inl r_v))) := show XOkR Y_J13_rangeCheck 73 (r_v) from okr_v (q := Y_J13_rangeCheck) rfl dJ13_rangeCheck_73
theorem o_J13_rangeCheck (z : XKT) : XMi z xInf Y_J13_rangeCheck := XMi.mk9 (T := T_J13_rangeCheck z) rfl (⟨kJ13_rangeCheck_0 z, ⟨kJ13_rangeCheck_1 z, ⟨kJ13_rangeCheck_2 z, ⟨kJ13_rangeCheck_8 z, ⟨kJ13_rangeCheck_9 z, ⟨kJ13_rangeCheck_12 z, ⟨kJ13_rangeCheck_13 z, ⟨kJ13_rangeCheck_16 z, ⟨kJ13_rangeCheck_18 z, ⟨kJ13_rangeCheck_21 z, ⟨kJ13_rangeCheck_22 z, ⟨kJ13_rangeCheck_25 z, ⟨kJ13_rangeCheck_27 z, ⟨kJ13_rangeCheck_30 z, ⟨kJ13_rangeCheck_31 z, ⟨kJ13_rangeCheck_34 z, ⟨kJ13_rangeCheck_36 z, ⟨kJ13_rangeCheck_39 z, ⟨kJ13_rangeCheck_46 z, ⟨kJ13_rangeCheck_47 z, ⟨kJ13_rangeCheck_53 z, ⟨kJ13_rangeCheck_54 z, ⟨kJ13_rangeCheck_59 z, ⟨kJ13_rangeCheck_60 z, ⟨kJ13_rangeCheck_61 z, ⟨kJ13_rangeCheck_67 z, ⟨kJ13_rangeCheck_68 z, ⟨kJ13_rangeCheck_73 z, trivial⟩⟩⟩⟩⟩⟩⟩⟩⟩⟩⟩⟩⟩⟩⟩⟩⟩⟩⟩⟩⟩⟩⟩⟩⟩⟩⟩⟩) (hd_J13_rangeCheck z) rfl rfl (by decide +kernel)
theorem hd_J14_checkIndex (z : XKT) : XHd z Y_J14_checkIndex := xHd_none rfl (xhd0 rfl)
theorem kJ14_checkIndex_0 (z : XKT) : XOi z xInf Y_J14_checkIndex 0 (.inl (i_iload 0 1)) := ok_iload_n dJ14_checkIndex_0 rfl
theorem kJ14_checkIndex_1 (z : XKT) : XOi z xInf Y_J14_checkIndex 1 (.inl (i_if (fun x => x < 0) 9 4)) := ok_if_lt dJ14_checkIndex_1 rfl
theorem kJ14_checkIndex_4 (z : XKT) : XOi z xInf Y_J14_checkIndex 4 (.inl (i_iload 0 5)) := ok_iload_n dJ14_checkIndex_4 rfl
theorem kJ14_checkIndex_5 (z : XKT) : XOi z xInf Y_J14_checkIndex 5 (.inl (i_iload 1 6)) := ok_iload_n dJ14_checkIndex_5 rfl
theorem kJ14_checkIndex_6 (z : XKT) : XOi z xInf Y_J14_checkIndex 6 (.inl (i_icmp (fun x y => x < y) 16 9)) := ok_icmp_lt dJ14_checkIndex_6 rfl
theorem kJ14_checkIndex_9 (z : XKT) : XOi z xInf Y_J14_checkIndex 9 (.inl (i_aload 2 10)) := ok_aload_n dJ14_checkIndex_9 rfl
theorem kJ14_checkIndex_10 (z : XKT) : XOi z xInf Y_J14_checkIndex 10 (.inl (i_iload 0 11)) := ok_iload_n dJ14_checkIndex_10 rfl
theorem kJ14_checkIndex_11 (z : XKT) : XOi z xInf Y_J14_checkIndex 11 (.inl (i_iload 1 12)) := ok_iload_n dJ14_checkIndex_11 rfl
theorem kJ14_checkIndex_16 (z : XKT) : XOi z xInf Y_J14_checkIndex 16 (.inl (i_iload 0 17)) := ok_iload_n dJ14_checkIndex_16 rfl
theorem kJ14_checkIndex_17 (z : XKT) : XOi z xInf Y_J14_checkIndex 17 (.inr (.inr (.inl (r_i .int)))) := show XOkR Y_J14_checkIndex 17 ((r_i .int)) from okr_i (q := Y_J14_checkIndex) (ty := .int) rfl rfl dJ14_checkIndex_17
theorem o_J14_checkIndex (z : XKT) : XMi z xInf Y_J14_checkIndex := XMi.mk9 (T := T_J14_checkIndex z) rfl (⟨kJ14_checkIndex_0 z, ⟨kJ14_checkIndex_1 z, ⟨kJ14_checkIndex_4 z, ⟨kJ14_checkIndex_5 z, ⟨kJ14_checkIndex_6 z, ⟨kJ14_checkIndex_9 z, ⟨kJ14_checkIndex_10 z, ⟨kJ14_checkIndex_11 z, ⟨kJ14_checkIndex_16 z, ⟨kJ14_checkIndex_17 z, trivial⟩⟩⟩⟩⟩⟩⟩⟩⟩⟩) (hd_J14_checkIndex z) rfl rfl (by decide +kernel)
theorem hd_J15_canEncode (z : XKT) : XHd z Y_J15_canEncode := xHd_none rfl (xhd0 rfl)
theorem kJ15_canEncode_0 (z : XKT) : XOi z xInf Y_J15_canEncode 0 (.inl (i_iload 0 1)) := ok_iload_n dJ15_canEncode_0 rfl
theorem kJ15_canEncode_1 (z : XKT) : XOi z xInf Y_J15_canEncode 1 (.inl (i_push (vI 255) 4)) := ok_sipush dJ15_canEncode_1 rfl
theorem kJ15_canEncode_4 (z : XKT) : XOi z xInf Y_J15_canEncode 4 (.inl (i_icmp (fun x y => y < x) 11 7)) := ok_icmp_gt dJ15_canEncode_4 rfl
theorem kJ15_canEncode_7 (z : XKT) : XOi z xInf Y_J15_canEncode 7 (.inl (i_push (vI 1) 8)) := ok_iconst dJ15_canEncode_7 rfl
theorem kJ15_canEncode_8 (z : XKT) : XOi z xInf Y_J15_canEncode 8 (.inl (i_goto 12)) := ok_goto dJ15_canEncode_8 rfl
theorem kJ15_canEncode_11 (z : XKT) : XOi z xInf Y_J15_canEncode 11 (.inl (i_push (vI 0) 12)) := ok_iconst dJ15_canEncode_11 rfl
theorem kJ15_canEncode_12 (z : XKT) : XOi z xInf Y_J15_canEncode 12 (.inr (.inr (.inl (r_i .boolean)))) := show XOkR Y_J15_canEncode 12 ((r_i .boolean)) from okr_i (q := Y_J15_canEncode) (ty := .boolean) rfl rfl dJ15_canEncode_12
theorem o_J15_canEncode (z : XKT) : XMi z xInf Y_J15_canEncode := XMi.mk9 (T := T_J15_canEncode z) rfl (⟨kJ15_canEncode_0 z, ⟨kJ15_canEncode_1 z, ⟨kJ15_canEncode_4 z, ⟨kJ15_canEncode_7 z, ⟨kJ15_canEncode_8 z, ⟨kJ15_canEncode_11 z, ⟨kJ15_canEncode_12 z, trivial⟩⟩⟩⟩⟩⟩⟩) (hd_J15_canEncode z) rfl rfl (by decide +kernel)
theorem hd_J15_charAt (z : XKT) : XHd z Y_J15_charAt := xHd_none rfl (xhd0 rfl)
theorem kJ15_charAt_0 (z : XKT) : XOi z xInf Y_J15_charAt 0 (.inl (i_iload 1 1)) := ok_iload_n dJ15_charAt_0 rfl
theorem kJ15_charAt_1 (z : XKT) : XOi z xInf Y_J15_charAt 1 (.inl (i_aload 0 2)) := ok_aload_n dJ15_charAt_1 rfl
theorem kJ15_charAt_2 (z : XKT) : XOi z xInf Y_J15_charAt 2 (.inl (i_alen 3)) := ok_alen dJ15_charAt_2
theorem kJ15_charAt_3 (z : XKT) : XOi z xInf Y_J15_charAt 3 (.inr (.inl (6, g_stat 375 2))) := show XOkC z xInf Y_J15_charAt 3 6 (g_stat 375 2) from okc_S (q := Y_J15_charAt) (q1 := Y_J9_checkIndex) Z_J9_checkIndex rfl (by decide) dJ15_charAt_3 q1698 q1699 q136 q1700 hy_412
theorem kJ15_charAt_6 (z : XKT) : XOi z xInf Y_J15_charAt 6 (.inl (i_aload 0 7)) := ok_aload_n dJ15_charAt_6 rfl
theorem kJ15_charAt_7 (z : XKT) : XOi z xInf Y_J15_charAt 7 (.inl (i_iload 1 8)) := ok_iload_n dJ15_charAt_7 rfl
theorem kJ15_charAt_8 (z : XKT) : XOi z xInf Y_J15_charAt 8 (.inl (i_ald 1001 9)) := ok_bald dJ15_charAt_8
theorem kJ15_charAt_9 (z : XKT) : XOi z xInf Y_J15_charAt 9 (.inl (i_push (vI 255) 12)) := ok_sipush dJ15_charAt_9 rfl
theorem kJ15_charAt_12 (z : XKT) : XOi z xInf Y_J15_charAt 12 (.inl (i_bin (fun x y => x &&& y) 13)) := ok_iand dJ15_charAt_12
theorem kJ15_charAt_13 (z : XKT) : XOi z xInf Y_J15_charAt 13 (.inl (i_un (fun x => (x.toUInt32 % 65536).toInt32) 14)) := ok_i2c dJ15_charAt_13
theorem kJ15_charAt_14 (z : XKT) : XOi z xInf Y_J15_charAt 14 (.inr (.inr (.inl (r_i .char)))) := show XOkR Y_J15_charAt 14 ((r_i .char)) from okr_i (q := Y_J15_charAt) (ty := .char) rfl rfl dJ15_charAt_14
theorem o_J15_charAt (z : XKT) : XMi z xInf Y_J15_charAt := XMi.mk9 (T := T_J15_charAt z) rfl (⟨kJ15_charAt_0 z, ⟨kJ15_charAt_1 z, ⟨kJ15_charAt_2 z, ⟨kJ15_charAt_3 z, ⟨kJ15_charAt_6 z, ⟨kJ15_charAt_7 z, ⟨kJ15_charAt_8 z, ⟨kJ15_charAt_9 z, ⟨kJ15_charAt_12 z, ⟨kJ15_charAt_13 z, ⟨kJ15_charAt_14 z, trivial⟩⟩⟩⟩⟩⟩⟩⟩⟩⟩⟩) (hd_J15_charAt z) rfl rfl (by decide +kernel)
theorem hd_J15_equals (z : XKT) : XHd z Y_J15_equals := xHd_none rfl (xhd0 rfl)
theorem kJ15_equals_0 (z : XKT) : XOi z xInf Y_J15_equals 0 (.inl (i_aload 0 1)) := ok_aload_n dJ15_equals_0 rfl
theorem kJ15_equals_1 (z : XKT) : XOi z xInf Y_J15_equals 1 (.inl (i_alen 2)) := ok_alen dJ15_equals_1
theorem kJ15_equals_2 (z : XKT) : XOi z xInf Y_J15_equals 2 (.inl (i_aload 1 3)) := ok_aload_n dJ15_equals_2 rfl
theorem kJ15_equals_3 (z : XKT) : XOi z xInf Y_J15_equals 3 (.inl (i_alen 4)) := ok_alen dJ15_equals_3
theorem kJ15_equals_4 (z : XKT) : XOi z xInf Y_J15_equals 4 (.inl (i_icmp (fun x y => ¬ x = y) 34 7)) := ok_icmp_ne dJ15_equals_4 rfl
theorem kJ15_equals_7 (z : XKT) : XOi z xInf Y_J15_equals 7 (.inl (i_push (vI 0) 8)) := ok_iconst dJ15_equals_7 rfl
theorem kJ15_equals_8 (z : XKT) : XOi z xInf Y_J15_equals 8 (.inl (i_istore 2 9)) := ok_istore_n dJ15_equals_8 rfl
theorem kJ15_equals_9 (z : XKT) : XOi z xInf Y_J15_equals 9 (.inl (i_iload 2 10)) := ok_iload_n dJ15_equals_9 rfl
theorem kJ15_equals_10 (z : XKT) : XOi z xInf Y_J15_equals 10 (.inl (i_aload 0 11)) := ok_aload_n dJ15_equals_10 rfl
theorem kJ15_equals_11 (z : XKT) : XOi z xInf Y_J15_equals 11 (.inl (i_alen 12)) := ok_alen dJ15_equals_11
theorem kJ15_equals_12 (z : XKT) : XOi z xInf Y_J15_equals 12 (.inl (i_icmp (fun x y => y ≤ x) 32 15)) := ok_icmp_ge dJ15_equals_12 rfl
theorem kJ15_equals_15 (z : XKT) : XOi z xInf Y_J15_equals 15 (.inl (i_aload 0 16)) := ok_aload_n dJ15_equals_15 rfl
theorem kJ15_equals_16 (z : XKT) : XOi z xInf Y_J15_equals 16 (.inl (i_iload 2 17)) := ok_iload_n dJ15_equals_16 rfl
theorem kJ15_equals_17 (z : XKT) : XOi z xInf Y_J15_equals 17 (.inl (i_ald 1001 18)) := ok_bald dJ15_equals_17
theorem kJ15_equals_18 (z : XKT) : XOi z xInf Y_J15_equals 18 (.inl (i_aload 1 19)) := ok_aload_n dJ15_equals_18 rfl
theorem kJ15_equals_19 (z : XKT) : XOi z xInf Y_J15_equals 19 (.inl (i_iload 2 20)) := ok_iload_n dJ15_equals_19 rfl
theorem kJ15_equals_20 (z : XKT) : XOi z xInf Y_J15_equals 20 (.inl (i_ald 1001 21)) := ok_bald dJ15_equals_20
theorem kJ15_equals_21 (z : XKT) : XOi z xInf Y_J15_equals 21 (.inl (i_icmp (fun x y => x = y) 26 24)) := ok_icmp_eq dJ15_equals_21 rfl
theorem kJ15_equals_24 (z : XKT) : XOi z xInf Y_J15_equals 24 (.inl (i_push (vI 0) 25)) := ok_iconst dJ15_equals_24 rfl
theorem kJ15_equals_25 (z : XKT) : XOi z xInf Y_J15_equals 25 (.inr (.inr (.inl (r_i .boolean)))) := show XOkR Y_J15_equals 25 ((r_i .boolean)) from okr_i (q := Y_J15_equals) (ty := .boolean) rfl rfl dJ15_equals_25
theorem kJ15_equals_26 (z : XKT) : XOi z xInf Y_J15_equals 26 (.inl (i_iinc 2 1 29)) := ok_iinc dJ15_equals_26 rfl
theorem kJ15_equals_29 (z : XKT) : XOi z xInf Y_J15_equals 29 (.inl (i_goto 9)) := ok_goto dJ15_equals_29 rfl
theorem kJ15_equals_32 (z : XKT) : XOi z xInf Y_J15_equals 32 (.inl (i_push (vI 1) 33)) := ok_iconst dJ15_equals_32 rfl
theorem kJ15_equals_33 (z : XKT) : XOi z xInf Y_J15_equals 33 (.inr (.inr (.inl (r_i .boolean)))) := show XOkR Y_J15_equals 33 ((r_i .boolean)) from okr_i (q := Y_J15_equals) (ty := .boolean) rfl rfl dJ15_equals_33
theorem kJ15_equals_34 (z : XKT) : XOi z xInf Y_J15_equals 34 (.inl (i_push (vI 0) 35)) := ok_iconst dJ15_equals_34 rfl
theorem kJ15_equals_35 (z : XKT) : XOi z xInf Y_J15_equals 35 (.inr (.inr (.inl (r_i .boolean)))) := show XOkR Y_J15_equals 35 ((r_i .boolean)) from okr_i (q := Y_J15_equals) (ty := .boolean) rfl rfl dJ15_equals_35
theorem o_J15_equals (z : XKT) : XMi z xInf Y_J15_equals := XMi.mk9 (T := T_J15_equals z) rfl (⟨kJ15_equals_0 z, ⟨kJ15_equals_1 z, ⟨kJ15_equals_2 z, ⟨kJ15_equals_3 z, ⟨kJ15_equals_4 z, ⟨kJ15_equals_7 z, ⟨kJ15_equals_8 z, ⟨kJ15_equals_9 z, ⟨kJ15_equals_10 z, ⟨kJ15_equals_11 z, ⟨kJ15_equals_12 z, ⟨kJ15_equals_15 z, ⟨kJ15_equals_16 z, ⟨kJ15_equals_17 z, ⟨kJ15_equals_18 z, ⟨kJ15_equals_19 z, ⟨kJ15_equals_20 z, ⟨kJ15_equals_21 z, ⟨kJ15_equals_24 z, ⟨kJ15_equals_25 z, ⟨kJ15_equals_26 z, ⟨kJ15_equals_29 z, ⟨kJ15_equals_32 z, ⟨kJ15_equals_33 z, ⟨kJ15_equals_34 z, ⟨kJ15_equals_35 z, trivial⟩⟩⟩⟩⟩⟩⟩⟩⟩⟩⟩⟩⟩⟩⟩⟩⟩⟩⟩⟩⟩⟩⟩⟩⟩⟩) (hd_J15_equals z) rfl rfl (by decide +kernel)
theorem hd_J15_fillNull (z : XKT) : XHd z Y_J15_fillNull := xHd_none rfl (xhd0 rfl)
theorem kJ15_fillNull_0 (z : XKT) : XOi z xInf Y_J15_fillNull 0 (.inl (i_aload 0 1)) := ok_aload_n dJ15_fillNull_0 rfl
theorem kJ15_fillNull_1 (z : XKT) : XOi z xInf Y_J15_fillNull 1 (.inl (i_iload 1 2)) := ok_iload_n dJ15_fillNull_1 rfl
theorem kJ15_fillNull_2 (z : XKT) : XOi z xInf Y_J15_fillNull 2 (.inl (i_iload 2 3)) := ok_iload_n dJ15_fillNull_2 rfl
theorem kJ15_fillNull_3 (z : XKT) : XOi z xInf Y_J15_fillNull 3 (.inl (i_push (vI 0) 4)) := ok_iconst dJ15_fillNull_3 rfl
theorem kJ15_fillNull_4 (z : XKT) : XOi z xInf Y_J15_fillNull 4 (.inr (.inl (7, g_stat 393 4))) := show XOkC z xInf Y_J15_fillNull 4 7 (g_stat 393 4) from okc_S (q := Y_J15_fillNull) (q1 := Y_J13_fill) Z_J13_fill rfl (by decide) dJ15_fillNull_4 q1794 q1795 q140 q1796 hy_413
theorem kJ15_fillNull_7 (z : XKT) : XOi z xInf Y_J15_fillNull 7 (.inr (.inr (.inl r_v))) := show XOkR Y_J15_fillNull 7 (r_v) from okr_v (q := Y_J15_fillNull) rfl dJ15_fillNull_7
theorem o_J15_fillNull (z : XKT) : XMi z xInf Y_J15_fillNull := XMi.mk9 (T := T_J15_fillNull z) rfl (⟨kJ15_fillNull_0 z, ⟨kJ15_fillNull_1 z, ⟨kJ15_fillNull_2 z, ⟨kJ15_fillNull_3 z, ⟨kJ15_fillNull_4 z, ⟨kJ15_fillNull_7 z, trivial⟩⟩⟩⟩⟩⟩) (hd_J15_fillNull z) rfl rfl (by decide +kernel)
theorem hd_J15_hashCode (z : XKT) : XHd z Y_J15_hashCode := xHd_none rfl (xhd0 rfl)
theorem kJ15_hashCode_0 (z : XKT) : XOi z xInf Y_J15_hashCode 0 (.inl (i_aload 0 1)) := ok_aload_n dJ15_hashCode_0 rfl
theorem kJ15_hashCode_1 (z : XKT) : XOi z xInf Y_J15_hashCode 1 (.inl (i_alen 2)) := ok_alen dJ15_hashCode_1
theorem kJ15_hashCode_2 (z : XKT) : XOi z xInf Y_J15_hashCode 2 (.inl (i_swt [(0, 28), (1, 32)] 42)) := ok_lookup dJ15_hashCode_2 (by decide +kernel) rfl (by decide +kernel)
theorem kJ15_hashCode_28 (z : XKT) : XOi z xInf Y_J15_hashCode 28 (.inl (i_push (vI 0) 29)) := ok_iconst dJ15_hashCode_28 rfl
theorem kJ15_hashCode_29 (z : XKT) : XOi z xInf Y_J15_hashCode 29 (.inl (i_goto 51)) := ok_goto dJ15_hashCode_29 rfl
theorem kJ15_hashCode_32 (z : XKT) : XOi z xInf Y_J15_hashCode 32 (.inl (i_aload 0 33)) := ok_aload_n dJ15_hashCode_32 rfl
theorem kJ15_hashCode_33 (z : XKT) : XOi z xInf Y_J15_hashCode 33 (.inl (i_push (vI 0) 34)) := ok_iconst dJ15_hashCode_33 rfl
theorem kJ15_hashCode_34 (z : XKT) : XOi z xInf Y_J15_hashCode 34 (.inl (i_ald 1001 35)) := ok_bald dJ15_hashCode_34
theorem kJ15_hashCode_35 (z : XKT) : XOi z xInf Y_J15_hashCode 35 (.inl (i_push (vI 255) 38)) := ok_sipush dJ15_hashCode_35 rfl
theorem kJ15_hashCode_38 (z : XKT) : XOi z xInf Y_J15_hashCode 38 (.inl (i_bin (fun x y => x &&& y) 39)) := ok_iand dJ15_hashCode_38
theorem kJ15_hashCode_39 (z : XKT) : XOi z xInf Y_J15_hashCode 39 (.inl (i_goto 51)) := ok_goto dJ15_hashCode_39 rfl
theorem kJ15_hashCode_42 (z : XKT) : XOi z xInf Y_J15_hashCode 42 (.inl (i_aload 0 43)) := ok_aload_n dJ15_hashCode_42 rfl
theorem kJ15_hashCode_43 (z : XKT) : XOi z xInf Y_J15_hashCode 43 (.inl (i_push (vI 0) 44)) := ok_iconst dJ15_hashCode_43 rfl
theorem kJ15_hashCode_44 (z : XKT) : XOi z xInf Y_J15_hashCode 44 (.inl (i_aload 0 45)) := ok_aload_n dJ15_hashCode_44 rfl
theorem kJ15_hashCode_45 (z : XKT) : XOi z xInf Y_J15_hashCode 45 (.inl (i_alen 46)) := ok_alen dJ15_hashCode_45
theorem kJ15_hashCode_46 (z : XKT) : XOi z xInf Y_J15_hashCode 46 (.inl (i_push (vI 0) 47)) := ok_iconst dJ15_hashCode_46 rfl
theorem kJ15_hashCode_47 (z : XKT) : XOi z xInf Y_J15_hashCode 47 (.inl (i_push (vI 4) 48)) := ok_iconst dJ15_hashCode_47 rfl
theorem kJ15_hashCode_48 (z : XKT) : XOi z xInf Y_J15_hashCode 48 (.inr (.inl (51, g_stat 387 5))) := show XOkC z xInf Y_J15_hashCode 48 51 (g_stat 387 5) from okc_S (q := Y_J15_hashCode) (q1 := Y_J11_vectorizedHashCode) Z_J11_vectorizedHashCode rfl (by decide) dJ15_hashCode_48 q1938 q1939 q138 q1940 hy_414
theorem kJ15_hashCode_51 (z : XKT) : XOi z xInf Y_J15_hashCode 51 (.inr (.inr (.inl (r_i .int)))) := show XOkR Y_J15_hashCode 51 ((r_i .int)) from okr_i (q := Y_J15_hashCode) (ty := .int) rfl rfl dJ15_hashCode_51
theorem o_J15_hashCode (z : XKT) : XMi z xInf Y_J15_hashCode := XMi.mk9 (T := T_J15_hashCode z) rfl (⟨kJ15_hashCode_0 z, ⟨kJ15_hashCode_1 z, ⟨kJ15_hashCode_2 z, ⟨kJ15_hashCode_28 z, ⟨kJ15_hashCode_29 z, ⟨kJ15_hashCode_32 z, ⟨kJ15_hashCode_33 z, ⟨kJ15_hashCode_34 z, ⟨kJ15_hashCode_35 z, ⟨kJ15_hashCode_38 z, ⟨kJ15_hashCode_39 z, ⟨kJ15_hashCode_42 z, ⟨kJ15_hashCode_43 z, ⟨kJ15_hashCode_44 z, ⟨kJ15_hashCode_45 z, ⟨kJ15_hashCode_46 z, ⟨kJ15_hashCode_47 z, ⟨kJ15_hashCode_48 z, ⟨kJ15_hashCode_51 z, trivial⟩⟩⟩⟩⟩⟩⟩⟩⟩⟩⟩⟩⟩⟩⟩⟩⟩⟩⟩) (hd_J15_hashCode z) rfl rfl (by decide +kernel)
theorem hd_J16_init (z : XKT) : XHd z Y_J16_init := xHd_none rfl (xhd0 rfl)
theorem kJ16_init_0 (z : XKT) : XOi z xInf Y_J16_init 0 (.inl (i_aload 0 1)) := ok_aload_n dJ16_init_0 rfl
theorem kJ16_init_1 (z : XKT) : XOi z xInf Y_J16_init 1 (.inl (i_oinit 4)) := ok_oinit dJ16_init_1 q1350 q179 q180
theorem kJ16_init_4 (z : XKT) : XOi z xInf Y_J16_init 4 (.inr (.inr (.inl r_v))) := show XOkR Y_J16_init 4 (r_v) from okr_v (q := Y_J16_init) rfl dJ16_init_4
theorem o_J16_init (z : XKT) : XMi z xInf Y_J16_init := XMi.mk9 (T := T_J16_init z) rfl (⟨kJ16_init_0 z, ⟨kJ16_init_1 z, ⟨kJ16_init_4 z, trivial⟩⟩⟩) (hd_J16_init z) rfl rfl (by decide +kernel)
theorem hd_J17_equals (z : XKT) : XHd z Y_J17_equals := xHd_none rfl (xhd0 rfl)
theorem kJ17_equals_0 (z : XKT) : XOi z xInf Y_J17_equals 0 (.inl (i_aload 1 1)) := ok_aload_n dJ17_equals_0 rfl
theorem kJ17_equals_1 (z : XKT) : XOi z xInf Y_J17_equals 1 (.inl (i_inst [21] [] 4)) := ok_inst dJ17_equals_1 q1342 (List.forall_mem_cons.mpr ⟨⟨by decide, by decide, _, _, _, (List.mem_of_getElem? (l := xCls) (i := 20) rfl), (Or.inl rfl)⟩, (fun _ h => absurd h List.not_mem_nil)⟩) (fun _ h => absurd h List.not_mem_nil)
theorem kJ17_equals_4 (z : XKT) : XOi z xInf Y_J17_equals 4 (.inl (i_if (fun x => x = 0) 27 7)) := ok_if_eq dJ17_equals_4 rfl
theorem kJ17_equals_7 (z : XKT) : XOi z xInf Y_J17_equals 7 (.inl (i_aload 0 8)) := ok_aload_n dJ17_equals_7 rfl
theorem kJ17_equals_8 (z : XKT) : XOi z xInf Y_J17_equals 8 (.inl (i_geti [21] 117 11)) := ok_geti dJ17_equals_8 q1351 (List.forall_mem_cons.mpr ⟨⟨_, _, _, _, fd_117_21_0⟩, (fun _ h => absurd h List.not_mem_nil)⟩)
theorem kJ17_equals_11 (z : XKT) : XOi z xInf Y_J17_equals 11 (.inl (i_aload 1 12)) := ok_aload_n dJ17_equals_11 rfl
theorem kJ17_equals_12 (z : XKT) : XOi z xInf Y_J17_equals 12 (.inl (i_cast [21] 15)) := ok_cast dJ17_equals_12 q1342 (List.forall_mem_cons.mpr ⟨⟨by decide, by decide, _, _, _, (List.mem_of_getElem? (l := xCls) (i := 20) rfl), (Or.inl rfl)⟩, (fun _ h => absurd h List.not_mem_nil)⟩)
theorem kJ17_equals_15 (z : XKT) : XOi z xInf Y_J17_equals 15 (.inr (.inl (18, g_virt [(21, 405)] 0))) := show XOkC z xInf Y_J17_equals 15 18 (g_virt [(21, 405)] 0) from okc_V (q := Y_J17_equals) (List.forall_mem_cons.mpr ⟨(show XOkV z xInf Y_J17_equals 15 18 0 (21, 405) from okv_V (q := Y_J17_equals) (q1 := Y_J17_intValue) Z_J17_intValue rfl (by decide) ⟨by decide, by decide, Or.inl ⟨_, _, (List.mem_of_getElem? (l := xCls) (i := 20) rfl)⟩⟩ dJ17_equals_15 q1395 q1396 q1397 q145 q1398 hy_190), (fun _ h => absurd h List.not_mem_nil)⟩)
theorem kJ17_equals_18 (z : XKT) : XOi z xInf Y_J17_equals 18 (.inl (i_icmp (fun x y => ¬ x = y) 25 21)) := ok_icmp_ne dJ17_equals_18 rfl
theorem kJ17_equals_21 (z : XKT) : XOi z xInf Y_J17_equals 21 (.inl (i_push (vI 1) 22)) := ok_iconst dJ17_equals_21 rfl
theorem kJ17_equals_22 (z : XKT) : XOi z xInf Y_J17_equals 22 (.inl (i_goto 26)) := ok_goto dJ17_equals_22 rfl
theorem kJ17_equals_25 (z : XKT) : XOi z xInf Y_J17_equals 25 (.inl (i_push (vI 0) 26)) := ok_iconst dJ17_equals_25 rfl
theorem kJ17_equals_26 (z : XKT) : XOi z xInf Y_J17_equals 26 (.inr (.inr (.inl (r_i .boolean)))) := show XOkR Y_J17_equals 26 ((r_i .boolean)) from okr_i (q := Y_J17_equals) (ty := .boolean) rfl rfl dJ17_equals_26
theorem kJ17_equals_27 (z : XKT) : XOi z xInf Y_J17_equals 27 (.inl (i_push (vI 0) 28)) := ok_iconst dJ17_equals_27 rfl
theorem kJ17_equals_28 (z : XKT) : XOi z xInf Y_J17_equals 28 (.inr (.inr (.inl (r_i .boolean)))) := show XOkR Y_J17_equals 28 ((r_i .boolean)) from okr_i (q := Y_J17_equals) (ty := .boolean) rfl rfl dJ17_equals_28
theorem o_J17_equals (z : XKT) : XMi z xInf Y_J17_equals := XMi.mk9 (T := T_J17_equals z) rfl (⟨kJ17_equals_0 z, ⟨kJ17_equals_1 z, ⟨kJ17_equals_4 z, ⟨kJ17_equals_7 z, ⟨kJ17_equals_8 z, ⟨kJ17_equals_11 z, ⟨kJ17_equals_12 z, ⟨kJ17_equals_15 z, ⟨kJ17_equals_18 z, ⟨kJ17_equals_21 z, ⟨kJ17_equals_22 z, ⟨kJ17_equals_25 z, ⟨kJ17_equals_26 z, ⟨kJ17_equals_27 z, ⟨kJ17_equals_28 z, trivial⟩⟩⟩⟩⟩⟩⟩⟩⟩⟩⟩⟩⟩⟩⟩) (hd_J17_equals z) rfl rfl (by decide +kernel)
theorem hd_J17_getChars (z : XKT) : XHd z Y_J17_getChars := xHd_none rfl (xhd0 rfl)
theorem kJ17_getChars_0 (z : XKT) : XOi z xInf Y_J17_getChars 0 (.inl (i_iload 1 1)) := ok_iload_n dJ17_getChars_0 rfl
theorem kJ17_getChars_1 (z : XKT) : XOi z xInf Y_J17_getChars 1 (.inl (i_istore 5 3)) := ok_istore dJ17_getChars_1
theorem kJ17_getChars_3 (z : XKT) : XOi z xInf Y_J17_getChars 3 (.inl (i_iload 0 4)) := ok_iload_n dJ17_getChars_3 rfl
theorem kJ17_getChars_4 (z : XKT) : XOi z xInf Y_J17_getChars 4 (.inl (i_if (fun x => 0 ≤ x) 11 7)) := ok_if_ge dJ17_getChars_4 rfl
theorem kJ17_getChars_7 (z : XKT) : XOi z xInf Y_J17_getChars 7 (.inl (i_push (vI 1) 8)) := ok_iconst dJ17_getChars_7 rfl
theorem kJ17_getChars_8 (z : XKT) : XOi z xInf Y_J17_getChars 8 (.inl (i_goto 12)) := ok_goto dJ17_getChars_8 rfl
theorem kJ17_getChars_11 (z : XKT) : XOi z xInf Y_J17_getChars 11 (.inl (i_push (vI 0) 12)) := ok_iconst dJ17_getChars_11 rfl
theorem kJ17_getChars_12 (z : XKT) : XOi z xInf Y_J17_getChars 12 (.inl (i_istore 6 14)) := ok_istore dJ17_getChars_12
theorem kJ17_getChars_14 (z : XKT) : XOi z xInf Y_J17_getChars 14 (.inl (i_iload 6 16)) := ok_iload dJ17_getChars_14
theorem kJ17_getChars_16 (z : XKT) : XOi z xInf Y_J17_getChars 16 (.inl (i_if (fun x => ¬ x = 0) 22 19)) := ok_if_ne dJ17_getChars_16 rfl
theorem kJ17_getChars_19 (z : XKT) : XOi z xInf Y_J17_getChars 19 (.inl (i_iload 0 20)) := ok_iload_n dJ17_getChars_19 rfl
theorem kJ17_getChars_20 (z : XKT) : XOi z xInf Y_J17_getChars 20 (.inl (i_un (fun x => -x) 21)) := ok_ineg dJ17_getChars_20
theorem kJ17_getChars_21 (z : XKT) : XOi z xInf Y_J17_getChars 21 (.inl (i_istore 0 22)) := ok_istore_n dJ17_getChars_21 rfl
theorem kJ17_getChars_22 (z : XKT) : XOi z xInf Y_J17_getChars 22 (.inl (i_iload 0 23)) := ok_iload_n dJ17_getChars_22 rfl
theorem kJ17_getChars_23 (z : XKT) : XOi z xInf Y_J17_getChars 23 (.inl (i_push (vI (-100)) 25)) := ok_bipush dJ17_getChars_23 rfl
theorem kJ17_getChars_25 (z : XKT) : XOi z xInf Y_J17_getChars 25 (.inl (i_icmp (fun x y => y < x) 72 28)) := ok_icmp_gt dJ17_getChars_25 rfl
theorem kJ17_getChars_28 (z : XKT) : XOi z xInf Y_J17_getChars 28 (.inl (i_iload 0 29)) := ok_iload_n dJ17_getChars_28 rfl
theorem kJ17_getChars_29 (z : XKT) : XOi z xInf Y_J17_getChars 29 (.inl (i_push (vI 100) 31)) := ok_bipush dJ17_getChars_29 rfl
theorem kJ17_getChars_31 (z : XKT) : XOi z xInf Y_J17_getChars 31 (.inl (i_quo (fun x y => x / y) 32)) := ok_idiv dJ17_getChars_31
theorem kJ17_getChars_32 (z : XKT) : XOi z xInf Y_J17_getChars 32 (.inl (i_istore 3 33)) := ok_istore_n dJ17_getChars_32 rfl
theorem kJ17_getChars_33 (z : XKT) : XOi z xInf Y_J17_getChars 33 (.inl (i_iload 3 34)) := ok_iload_n dJ17_getChars_33 rfl
theorem kJ17_getChars_34 (z : XKT) : XOi z xInf Y_J17_getChars 34 (.inl (i_push (vI 100) 36)) := ok_bipush dJ17_getChars_34 rfl
theorem kJ17_getChars_36 (z : XKT) : XOi z xInf Y_J17_getChars 36 (.inl (i_bin (fun x y => x * y) 37)) := ok_imul dJ17_getChars_36
theorem kJ17_getChars_37 (z : XKT) : XOi z xInf Y_J17_getChars 37 (.inl (i_iload 0 38)) := ok_iload_n dJ17_getChars_37 rfl
theorem kJ17_getChars_38 (z : XKT) : XOi z xInf Y_J17_getChars 38 (.inl (i_bin (fun x y => x - y) 39)) := ok_isub dJ17_getChars_38
theorem kJ17_getChars_39 (z : XKT) : XOi z xInf Y_J17_getChars 39 (.inl (i_istore 4 41)) := ok_istore dJ17_getChars_39
theorem kJ17_getChars_41 (z : XKT) : XOi z xInf Y_J17_getChars 41 (.inl (i_iload 3 42)) := ok_iload_n dJ17_getChars_41 rfl
theorem kJ17_getChars_42 (z : XKT) : XOi z xInf Y_J17_getChars 42 (.inl (i_istore 0 43)) := ok_istore_n dJ17_getChars_42 rfl
theorem kJ17_getChars_43 (z : XKT) : XOi z xInf Y_J17_getChars 43 (.inl (i_aload 2 44)) := ok_aload_n dJ17_getChars_43 rfl
theorem kJ17_getChars_44 (z : XKT) : XOi z xInf Y_J17_getChars 44 (.inl (i_iinc 5 (-1) 47)) := ok_iinc dJ17_getChars_44 rfl
theorem kJ17_getChars_47 (z : XKT) : XOi z xInf Y_J17_getChars 47 (.inl (i_iload 5 49)) := ok_iload dJ17_getChars_47
theorem kJ17_getChars_49 (z : XKT) : XOi z xInf Y_J17_getChars 49 (.inl (i_push (vR (some (z.2.1 9))) 52)) := ok_gets dJ17_getChars_49 q418 (List.mem_of_getElem? (l := xSts) (i := 9) rfl)
theorem kJ17_getChars_52 (z : XKT) : XOi z xInf Y_J17_getChars 52 (.inl (i_iload 4 54)) := ok_iload dJ17_getChars_52
theorem kJ17_getChars_54 (z : XKT) : XOi z xInf Y_J17_getChars 54 (.inl (i_ald 1001 55)) := ok_bald dJ17_getChars_54
theorem kJ17_getChars_55 (z : XKT) : XOi z xInf Y_J17_getChars 55 (.inl (i_ast z.1 1001 (fun x => x.toInt8.toInt32) 56)) := ok_bast dJ17_getChars_55
theorem kJ17_getChars_56 (z : XKT) : XOi z xInf Y_J17_getChars 56 (.inl (i_aload 2 57)) := ok_aload_n dJ17_getChars_56 rfl
theorem kJ17_getChars_57 (z : XKT) : XOi z xInf Y_J17_getChars 57 (.inl (i_iinc 5 (-1) 60)) := ok_iinc dJ17_getChars_57 rfl
theorem kJ17_getChars_60 (z : XKT) : XOi z xInf Y_J17_getChars 60 (.inl (i_iload 5 62)) := ok_iload dJ17_getChars_60
theorem kJ17_getChars_62 (z : XKT) : XOi z xInf Y_J17_getChars 62 (.inl (i_push (vR (some (z.2.1 10))) 65)) := ok_gets dJ17_getChars_62 q420 (List.mem_of_getElem? (l := xSts) (i := 10) rfl)
theorem kJ17_getChars_65 (z : XKT) : XOi z xInf Y_J17_getChars 65 (.inl (i_iload 4 67)) := ok_iload dJ17_getChars_65
theorem kJ17_getChars_67 (z : XKT) : XOi z xInf Y_J17_getChars 67 (.inl (i_ald 1001 68)) := ok_bald dJ17_getChars_67
theorem kJ17_getChars_68 (z : XKT) : XOi z xInf Y_J17_getChars 68 (.inl (i_ast z.1 1001 (fun x => x.toInt8.toInt32) 69)) := ok_bast dJ17_getChars_68
theorem kJ17_getChars_69 (z : XKT) : XOi z xInf Y_J17_getChars 69 (.inl (i_goto 22)) := ok_goto dJ17_getChars_69 rfl
theorem kJ17_getChars_72 (z : XKT) : XOi z xInf Y_J17_getChars 72 (.inl (i_aload 2 73)) := ok_aload_n dJ17_getChars_72 rfl
theorem kJ17_getChars_73 (z : XKT) : XOi z xInf Y_J17_getChars 73 (.inl (i_iinc 5 (-1) 76)) := ok_iinc dJ17_getChars_73 rfl
theorem kJ17_getChars_76 (z : XKT) : XOi z xInf Y_J17_getChars 76 (.inl (i_iload 5 78)) := ok_iload dJ17_getChars_76
theorem kJ17_getChars_78 (z : XKT) : XOi z xInf Y_J17_getChars 78 (.inl (i_push (vR (some (z.2.1 9))) 81)) := ok_gets dJ17_getChars_78 q418 (List.mem_of_getElem? (l := xSts) (i := 9) rfl)
theorem kJ17_getChars_81 (z : XKT) : XOi z xInf Y_J17_getChars 81 (.inl (i_iload 0 82)) := ok_iload_n dJ17_getChars_81 rfl
theorem kJ17_getChars_82 (z : XKT) : XOi z xInf Y_J17_getChars 82 (.inl (i_un (fun x => -x) 83)) := ok_ineg dJ17_getChars_82
theorem kJ17_getChars_83 (z : XKT) : XOi z xInf Y_J17_getChars 83 (.inl (i_ald 1001 84)) := ok_bald dJ17_getChars_83
theorem kJ17_getChars_84 (z : XKT) : XOi z xInf Y_J17_getChars 84 (.inl (i_ast z.1 1001 (fun x => x.toInt8.toInt32) 85)) := ok_bast dJ17_getChars_84
theorem kJ17_getChars_85 (z : XKT) : XOi z xInf Y_J17_getChars 85 (.inl (i_iload 0 86)) := ok_iload_n dJ17_getChars_85 rfl
theorem kJ17_getChars_86 (z : XKT) : XOi z xInf Y_J17_getChars 86 (.inl (i_push (vI (-9)) 88)) := ok_bipush dJ17_getChars_86 rfl
theorem kJ17_getChars_88 (z : XKT) : XOi z xInf Y_J17_getChars 88 (.inl (i_icmp (fun x y => y ≤ x) 104 91)) := ok_icmp_ge dJ17_getChars_88 rfl
theorem kJ17_getChars_91 (z : XKT) : XOi z xInf Y_J17_getChars 91 (.inl (i_aload 2 92)) := ok_aload_n dJ17_getChars_91 rfl
theorem kJ17_getChars_92 (z : XKT) : XOi z xInf Y_J17_getChars 92 (.inl (i_iinc 5 (-1) 95)) := ok_iinc dJ17_getChars_92 rfl
theorem kJ17_getChars_95 (z : XKT) : XOi z xInf Y_J17_getChars 95 (.inl (i_iload 5 97)) := ok_iload dJ17_getChars_95
theorem kJ17_getChars_97 (z : XKT) : XOi z xInf Y_J17_getChars 97 (.inl (i_push (vR (some (z.2.1 10))) 100)) := ok_gets dJ17_getChars_97 q420 (List.mem_of_getElem? (l := xSts) (i := 10) rfl)
theorem kJ17_getChars_100 (z : XKT) : XOi z xInf Y_J17_getChars 100 (.inl (i_iload 0 101)) := ok_iload_n dJ17_getChars_100 rfl
theorem kJ17_getChars_101 (z : XKT) : XOi z xInf Y_J17_getChars 101 (.inl (i_un (fun x => -x) 102)) := ok_ineg dJ17_getChars_101
theorem kJ17_getChars_102 (z : XKT) : XOi z xInf Y_J17_getChars 102 (.inl (i_ald 1001 103)) := ok_bald dJ17_getChars_102
theorem kJ17_getChars_103 (z : XKT) : XOi z xInf Y_J17_getChars 103 (.inl (i_ast z.1 1001 (fun x => x.toInt8.toInt32) 104)) := ok_bast dJ17_getChars_103
theorem kJ17_getChars_104 (z : XKT) : XOi z xInf Y_J17_getChars 104 (.inl (i_iload 6 106)) := ok_iload dJ17_getChars_104
theorem kJ17_getChars_106 (z : XKT) : XOi z xInf Y_J17_getChars 106 (.inl (i_if (fun x => x = 0) 118 109)) := ok_if_eq dJ17_getChars_106 rfl
theorem kJ17_getChars_109 (z : XKT) : XOi z xInf Y_J17_getChars 109 (.inl (i_aload 2 110)) := ok_aload_n dJ17_getChars_109 rfl
theorem kJ17_getChars_110 (z : XKT) : XOi z xInf Y_J17_getChars 110 (.inl (i_iinc 5 (-1) 113)) := ok_iinc dJ17_getChars_110 rfl
theorem kJ17_getChars_113 (z : XKT) : XOi z xInf Y_J17_getChars 113 (.inl (i_iload 5 115)) := ok_iload dJ17_getChars_113
theorem kJ17_getChars_115 (z : XKT) : XOi z xInf Y_J17_getChars 115 (.inl (i_push (vI 45) 117)) := ok_bipush dJ17_getChars_115 rfl
theorem kJ17_getChars_117 (z : XKT) : XOi z xInf Y_J17_getChars 117 (.inl (i_ast z.1 1001 (fun x => x.toInt8.toInt32) 118)) := ok_bast dJ17_getChars_117
theorem kJ17_getChars_118 (z : XKT) : XOi z xInf Y_J17_getChars 118 (.inl (i_iload 5 120)) := ok_iload dJ17_getChars_118
theorem kJ17_getChars_120 (z : XKT) : XOi z xInf Y_J17_getChars 120 (.inr (.inr (.inl (r_i .int)))) := show XOkR Y_J17_getChars 120 ((r_i .int)) from okr_i (q := Y_J17_getChars) (ty := .int) rfl rfl dJ17_getChars_120
theorem o_J17_getChars (z : XKT) : XMi z xInf Y_J17_getChars := XMi.mk9 (T := T_J17_getChars z) rfl (⟨kJ17_getChars_0 z, ⟨kJ17_getChars_1 z, ⟨kJ17_getChars_3 z, ⟨kJ17_getChars_4 z, ⟨kJ17_getChars_7 z, ⟨kJ17_getChars_8 z, ⟨kJ17_getChars_11 z, ⟨kJ17_getChars_12 z, ⟨kJ17_getChars_14 z, ⟨kJ17_getChars_16 z, ⟨kJ17_getChars_19 z, ⟨kJ17_getChars_20 z, ⟨kJ17_getChars_21 z, ⟨kJ17_getChars_22 z, ⟨kJ17_getChars_23 z, ⟨kJ17_getChars_25 z, ⟨kJ17_getChars_28 z, ⟨kJ17_getChars_29 z, ⟨kJ17_getChars_31 z, ⟨kJ17_getChars_32 z, ⟨kJ17_getChars_33 z, ⟨kJ17_getChars_34 z, ⟨kJ17_getChars_36 z, ⟨kJ17_getChars_37 z, ⟨kJ17_getChars_38 z, ⟨kJ17_getChars_39 z, ⟨kJ17_getChars_41 z, ⟨kJ17_getChars_42 z, ⟨kJ17_getChars_43 z, ⟨kJ17_getChars_44 z, ⟨kJ17_getChars_47 z, ⟨kJ17_getChars_49 z, ⟨kJ17_getChars_52 z, ⟨kJ17_getChars_54 z, ⟨kJ17_getChars_55 z, ⟨kJ17_getChars_56 z, ⟨kJ17_getChars_57 z, ⟨kJ17_getChars_60 z, ⟨kJ17_getChars_62 z, ⟨kJ17_getChars_65 z, ⟨kJ17_getChars_67 z, ⟨kJ17_getChars_68 z, ⟨kJ17_getChars_69 z, ⟨kJ17_getChars_72 z, ⟨kJ17_getChars_73 z, ⟨kJ17_getChars_76 z, ⟨kJ17_getChars_78 z, ⟨kJ17_getChars_81 z, ⟨kJ17_getChars_82 z, ⟨kJ17_getChars_83 z, ⟨kJ17_getChars_84 z, ⟨kJ17_getChars_85 z, ⟨kJ17_getChars_86 z, ⟨kJ17_getChars_88 z, ⟨kJ17_getChars_91 z, ⟨kJ17_getChars_92 z, ⟨kJ17_getChars_95 z, ⟨kJ17_getChars_97 z, ⟨kJ17_getChars_100 z, ⟨kJ17_getChars_101 z, ⟨kJ17_getChars_102 z, ⟨kJ17_getChars_103 z, ⟨kJ17_getChars_104 z, ⟨kJ17_getChars_106 z, ⟨kJ17_getChars_109 z, ⟨kJ17_getChars_110 z, ⟨kJ17_getChars_113 z, ⟨kJ17_getChars_115 z, ⟨kJ17_getChars_117 z, ⟨kJ17_getChars_118 z, ⟨kJ17_getChars_120 z, trivial⟩⟩⟩⟩⟩⟩⟩⟩⟩⟩⟩⟩⟩⟩⟩⟩⟩⟩⟩⟩⟩⟩⟩⟩⟩⟩⟩⟩⟩⟩⟩⟩⟩⟩⟩⟩⟩⟩⟩⟩⟩⟩⟩⟩⟩⟩⟩⟩⟩⟩⟩⟩⟩⟩⟩⟩⟩⟩⟩⟩⟩⟩⟩⟩⟩⟩⟩⟩⟩⟩⟩) (hd_J17_getChars z) rfl rfl (by decide +kernel)
theorem hd_J17_init (z : XKT) : XHd z Y_J17_init := xHd_none rfl (xhd0 rfl)
theorem kJ17_init_0 (z : XKT) : XOi z xInf Y_J17_init 0 (.inl (i_aload 0 1)) := ok_aload_n dJ17_init_0 rfl
theorem kJ17_init_1 (z : XKT) : XOi z xInf Y_J17_init 1 (.inr (.inl (4, g_spec 401 0))) := show XOkC z xInf Y_J17_init 1 4 (g_spec 401 0) from okc_I (q := Y_J17_init) (q1 := Y_J16_init) Z_J16_init rfl rfl rfl (by decide) dJ17_init_1 q1347 q1348 q144 q1349 hy_415
theorem kJ17_init_4 (z : XKT) : XOi z xInf Y_J17_init 4 (.inl (i_aload 0 5)) := ok_aload_n dJ17_init_4 rfl
theorem kJ17_init_5 (z : XKT) : XOi z xInf Y_J17_init 5 (.inl (i_iload 1 6)) := ok_iload_n dJ17_init_5 rfl
theorem kJ17_init_6 (z : XKT) : XOi z xInf Y_J17_init 6 (.inl (i_puti z.1 [21] .int 117 9)) := ok_puti dJ17_init_6 q1351 rfl (List.forall_mem_cons.mpr ⟨⟨_, _, _, _, tyJ17, fd_117_21_0, ⟨tyJ17_ok, nmJ17, (Or.inr ⟨rfl, by decide, rfl⟩)⟩, rfl⟩, (fun _ h => absurd h List.not_mem_nil)⟩)
theorem kJ17_init_9 (z : XKT) : XOi z xInf Y_J17_init 9 (.inr (.inr (.inl r_v))) := show XOkR Y_J17_init 9 (r_v) from okr_v (q := Y_J17_init) rfl dJ17_init_9
theorem o_J17_init (z : XKT) : XMi z xInf Y_J17_init := XMi.mk9 (T := T_J17_init z) rfl (⟨kJ17_init_0 z, ⟨kJ17_init_1 z, ⟨kJ17_init_4 z, ⟨kJ17_init_5 z, ⟨kJ17_init_6 z, ⟨kJ17_init_9 z, trivial⟩⟩⟩⟩⟩⟩) (hd_J17_init z) rfl rfl (by decide +kernel)
theorem hd_J17_intValue (z : XKT) : XHd z Y_J17_intValue := xHd_none rfl (xhd0 rfl)
theorem kJ17_intValue_0 (z : XKT) : XOi z xInf Y_J17_intValue 0 (.inl (i_aload 0 1)) := ok_aload_n dJ17_intValue_0 rfl
theorem kJ17_intValue_1 (z : XKT) : XOi z xInf Y_J17_intValue 1 (.inl (i_geti [21] 117 4)) := ok_geti dJ17_intValue_1 q1351 (List.forall_mem_cons.mpr ⟨⟨_, _, _, _, fd_117_21_0⟩, (fun _ h => absurd h List.not_mem_nil)⟩)
theorem kJ17_intValue_4 (z : XKT) : XOi z xInf Y_J17_intValue 4 (.inr (.inr (.inl (r_i .int)))) := show XOkR Y_J17_intValue 4 ((r_i .int)) from okr_i (q := Y_J17_intValue) (ty := .int) rfl rfl dJ17_intValue_4
theorem o_J17_intValue (z : XKT) : XMi z xInf Y_J17_intValue := XMi.mk9 (T := T_J17_intValue z) rfl (⟨kJ17_intValue_0 z, ⟨kJ17_intValue_1 z, ⟨kJ17_intValue_4 z, trivial⟩⟩⟩) (hd_J17_intValue z) rfl rfl (by decide +kernel)
theorem hd_J17_numberOfTrailingZeros (z : XKT) : XHd z Y_J17_numberOfTrailingZeros := xHd_none rfl (xhd0 rfl)
theorem kJ17_numberOfTrailingZeros_0 (z : XKT) : XOi z xInf Y_J17_numberOfTrailingZeros 0 (.inl (i_iload 0 1)) := ok_iload_n dJ17_numberOfTrailingZeros_0 rfl
theorem kJ17_numberOfTrailingZeros_1 (z : XKT) : XOi z xInf Y_J17_numberOfTrailingZeros 1 (.inl (i_push (vI (-1)) 2)) := ok_iconst dJ17_numberOfTrailingZeros_1 rfl
theorem kJ17_numberOfTrailingZeros_2 (z : XKT) : XOi z xInf Y_J17_numberOfTrailingZeros 2 (.inl (i_bin (fun x y => x ^^^ y) 3)) := ok_ixor dJ17_numberOfTrailingZeros_2
theorem kJ17_numberOfTrailingZeros_3 (z : XKT) : XOi z xInf Y_J17_numberOfTrailingZeros 3 (.inl (i_iload 0 4)) := ok_iload_n dJ17_numberOfTrailingZeros_3 rfl
theorem kJ17_numberOfTrailingZeros_4 (z : XKT) : XOi z xInf Y_J17_numberOfTrailingZeros 4 (.inl (i_push (vI 1) 5)) := ok_iconst dJ17_numberOfTrailingZeros_4 rfl
theorem kJ17_numberOfTrailingZeros_5 (z : XKT) : XOi z xInf Y_J17_numberOfTrailingZeros 5 (.inl (i_bin (fun x y => x - y) 6)) := ok_isub dJ17_numberOfTrailingZeros_5
theorem kJ17_numberOfTrailingZeros_6 (z : XKT) : XOi z xInf Y_J17_numberOfTrailingZeros 6 (.inl (i_bin (fun x y => x &&& y) 7)) := ok_iand dJ17_numberOfTrailingZeros_6
theorem kJ17_numberOfTrailingZeros_7 (z : XKT) : XOi z xInf Y_J17_numberOfTrailingZeros 7 (.inl (i_istore 0 8)) := ok_istore_n dJ17_numberOfTrailingZeros_7 rfl
theorem kJ17_numberOfTrailingZeros_8 (z : XKT) : XOi z xInf Y_J17_numberOfTrailingZeros 8 (.inl (i_iload 0 9)) := ok_iload_n dJ17_numberOfTrailingZeros_8 rfl
theorem kJ17_numberOfTrailingZeros_9 (z : XKT) : XOi z xInf Y_J17_numberOfTrailingZeros 9 (.inl (i_if (fun x => 0 < x) 17 12)) := ok_if_gt dJ17_numberOfTrailingZeros_9 rfl
theorem kJ17_numberOfTrailingZeros_12 (z : XKT) : XOi z xInf Y_J17_numberOfTrailingZeros 12 (.inl (i_iload 0 13)) := ok_iload_n dJ17_numberOfTrailingZeros_12 rfl
theorem kJ17_numberOfTrailingZeros_13 (z : XKT) : XOi z xInf Y_J17_numberOfTrailingZeros 13 (.inl (i_push (vI 32) 15)) := ok_bipush dJ17_numberOfTrailingZeros_13 rfl
theorem kJ17_numberOfTrailingZeros_15 (z : XKT) : XOi z xInf Y_J17_numberOfTrailingZeros 15 (.inl (i_bin (fun x y => x &&& y) 16)) := ok_iand dJ17_numberOfTrailingZeros_15
theorem kJ17_numberOfTrailingZeros_16 (z : XKT) : XOi z xInf Y_J17_numberOfTrailingZeros 16 (.inr (.inr (.inl (r_i .int)))) := show XOkR Y_J17_numberOfTrailingZeros 16 ((r_i .int)) from okr_i (q := Y_J17_numberOfTrailingZeros) (ty := .int) rfl rfl dJ17_numberOfTrailingZeros_16
theorem kJ17_numberOfTrailingZeros_17 (z : XKT) : XOi z xInf Y_J17_numberOfTrailingZeros 17 (.inl (i_push (vI 1) 18)) := ok_iconst dJ17_numberOfTrailingZeros_17 rfl
theorem kJ17_numberOfTrailingZeros_18 (z : XKT) : XOi z xInf Y_J17_numberOfTrailingZeros 18 (.inl (i_istore 1 19)) := ok_istore_n dJ17_numberOfTrailingZeros_18 rfl
theorem kJ17_numberOfTrailingZeros_19 (z : XKT) : XOi z xInf Y_J17_numberOfTrailingZeros 19 (.inl (i_iload 0 20)) := ok_iload_n dJ17_numberOfTrailingZeros_19 rfl
theorem kJ17_numberOfTrailingZeros_20 (z : XKT) : XOi z xInf Y_J17_numberOfTrailingZeros 20 (.inl (i_push (vI (65536)) 23)) := ok_ldcw dJ17_numberOfTrailingZeros_20 q1096
theorem kJ17_numberOfTrailingZeros_23 (z : XKT) : XOi z xInf Y_J17_numberOfTrailingZeros 23 (.inl (i_icmp (fun x y => x ≤ y) 34 26)) := ok_icmp_le dJ17_numberOfTrailingZeros_23 rfl
theorem kJ17_numberOfTrailingZeros_26 (z : XKT) : XOi z xInf Y_J17_numberOfTrailingZeros 26 (.inl (i_iinc 1 16 29)) := ok_iinc dJ17_numberOfTrailingZeros_26 rfl
theorem kJ17_numberOfTrailingZeros_29 (z : XKT) : XOi z xInf Y_J17_numberOfTrailingZeros 29 (.inl (i_iload 0 30)) := ok_iload_n dJ17_numberOfTrailingZeros_29 rfl
theorem kJ17_numberOfTrailingZeros_30 (z : XKT) : XOi z xInf Y_J17_numberOfTrailingZeros 30 (.inl (i_push (vI 16) 32)) := ok_bipush dJ17_numberOfTrailingZeros_30 rfl
theorem kJ17_numberOfTrailingZeros_32 (z : XKT) : XOi z xInf Y_J17_numberOfTrailingZeros 32 (.inl (i_bin (fun x y => (x.toUInt32 >>> (y.toUInt32 &&& Int32.toUInt32 31)).toInt32) 33)) := ok_iushr dJ17_numberOfTrailingZeros_32
theorem kJ17_numberOfTrailingZeros_33 (z : XKT) : XOi z xInf Y_J17_numberOfTrailingZeros 33 (.inl (i_istore 0 34)) := ok_istore_n dJ17_numberOfTrailingZeros_33 rfl
theorem kJ17_numberOfTrailingZeros_34 (z : XKT) : XOi z xInf Y_J17_numberOfTrailingZeros 34 (.inl (i_iload 0 35)) := ok_iload_n dJ17_numberOfTrailingZeros_34 rfl
theorem kJ17_numberOfTrailingZeros_35 (z : XKT) : XOi z xInf Y_J17_numberOfTrailingZeros 35 (.inl (i_push (vI 256) 38)) := ok_sipush dJ17_numberOfTrailingZeros_35 rfl
theorem kJ17_numberOfTrailingZeros_38 (z : XKT) : XOi z xInf Y_J17_numberOfTrailingZeros 38 (.inl (i_icmp (fun x y => x ≤ y) 49 41)) := ok_icmp_le dJ17_numberOfTrailingZeros_38 rfl
theorem kJ17_numberOfTrailingZeros_41 (z : XKT) : XOi z xInf Y_J17_numberOfTrailingZeros 41 (.inl (i_iinc 1 8 44)) := ok_iinc dJ17_numberOfTrailingZeros_41 rfl
theorem kJ17_numberOfTrailingZeros_44 (z : XKT) : XOi z xInf Y_J17_numberOfTrailingZeros 44 (.inl (i_iload 0 45)) := ok_iload_n dJ17_numberOfTrailingZeros_44 rfl
theorem kJ17_numberOfTrailingZeros_45 (z : XKT) : XOi z xInf Y_J17_numberOfTrailingZeros 45 (.inl (i_push (vI 8) 47)) := ok_bipush dJ17_numberOfTrailingZeros_45 rfl
theorem kJ17_numberOfTrailingZeros_47 (z : XKT) : XOi z xInf Y_J17_numberOfTrailingZeros 47 (.inl (i_bin (fun x y => (x.toUInt32 >>> (y.toUInt32 &&& Int32.toUInt32 31)).toInt32) 48)) := ok_iushr dJ17_numberOfTrailingZeros_47
theorem kJ17_numberOfTrailingZeros_48 (z : XKT) : XOi z xInf Y_J17_numberOfTrailingZeros 48 (.inl (i_istore 0 49)) := ok_istore_n dJ17_numberOfTrailingZeros_48 rfl
theorem kJ17_numberOfTrailingZeros_49 (z : XKT) : XOi z xInf Y_J17_numberOfTrailingZeros 49 (.inl (i_iload 0 50)) := ok_iload_n dJ17_numberOfTrailingZeros_49 rfl
theorem kJ17_numberOfTrailingZeros_50 (z : XKT) : XOi z xInf Y_J17_numberOfTrailingZeros 50 (.inl (i_push (vI 16) 52)) := ok_bipush dJ17_numberOfTrailingZeros_50 rfl
theorem kJ17_numberOfTrailingZeros_52 (z : XKT) : XOi z xInf Y_J17_numberOfTrailingZeros 52 (.inl (i_icmp (fun x y => x ≤ y) 62 55)) := ok_icmp_le dJ17_numberOfTrailingZeros_52 rfl
theorem kJ17_numberOfTrailingZeros_55 (z : XKT) : XOi z xInf Y_J17_numberOfTrailingZeros 55 (.inl (i_iinc 1 4 58)) := ok_iinc dJ17_numberOfTrailingZeros_55 rfl
theorem kJ17_numberOfTrailingZeros_58 (z : XKT) : XOi z xInf Y_J17_numberOfTrailingZeros 58 (.inl (i_iload 0 59)) := ok_iload_n dJ17_numberOfTrailingZeros_58 rfl
theorem kJ17_numberOfTrailingZeros_59 (z : XKT) : XOi z xInf Y_J17_numberOfTrailingZeros 59 (.inl (i_push (vI 4) 60)) := ok_iconst dJ17_numberOfTrailingZeros_59 rfl
theorem kJ17_numberOfTrailingZeros_60 (z : XKT) : XOi z xInf Y_J17_numberOfTrailingZeros 60 (.inl (i_bin (fun x y => (x.toUInt32 >>> (y.toUInt32 &&& Int32.toUInt32 31)).toInt32) 61)) := ok_iushr dJ17_numberOfTrailingZeros_60
theorem kJ17_numberOfTrailingZeros_61 (z : XKT) : XOi z xInf Y_J17_numberOfTrailingZeros 61 (.inl (i_istore 0 62)) := ok_istore_n dJ17_numberOfTrailingZeros_61 rfl
theorem kJ17_numberOfTrailingZeros_62 (z : XKT) : XOi z xInf Y_J17_numberOfTrailingZeros 62 (.inl (i_iload 0 63)) := ok_iload_n dJ17_numberOfTrailingZeros_62 rfl
theorem kJ17_numberOfTrailingZeros_63 (z : XKT) : XOi z xInf Y_J17_numberOfTrailingZeros 63 (.inl (i_push (vI 4) 64)) := ok_iconst dJ17_numberOfTrailingZeros_63 rfl
theorem kJ17_numberOfTrailingZeros_64 (z : XKT) : XOi z xInf Y_J17_numberOfTrailingZeros 64 (.inl (i_icmp (fun x y => x ≤ y) 74 67)) := ok_icmp_le dJ17_numberOfTrailingZeros_64 rfl
theorem kJ17_numberOfTrailingZeros_67 (z : XKT) : XOi z xInf Y_J17_numberOfTrailingZeros 67 (.inl (i_iinc 1 2 70)) := ok_iinc dJ17_numberOfTrailingZeros_67 rfl
theorem kJ17_numberOfTrailingZeros_70 (z : XKT) : XOi z xInf Y_J17_numberOfTrailingZeros 70 (.inl (i_iload 0 71)) := ok_iload_n dJ17_numberOfTrailingZeros_70 rfl
theorem kJ17_numberOfTrailingZeros_71 (z : XKT) : XOi z xInf Y_J17_numberOfTrailingZeros 71 (.inl (i_push (vI 2) 72)) := ok_iconst dJ17_numberOfTrailingZeros_71 rfl
theorem kJ17_numberOfTrailingZeros_72 (z : XKT) : XOi z xInf Y_J17_numberOfTrailingZeros 72 (.inl (i_bin (fun x y => (x.toUInt32 >>> (y.toUInt32 &&& Int32.toUInt32 31)).toInt32) 73)) := ok_iushr dJ17_numberOfTrailingZeros_72
theorem kJ17_numberOfTrailingZeros_73 (z : XKT) : XOi z xInf Y_J17_numberOfTrailingZeros 73 (.inl (i_istore 0 74)) := ok_istore_n dJ17_numberOfTrailingZeros_73 rfl
theorem kJ17_numberOfTrailingZeros_74 (z : XKT) : XOi z xInf Y_J17_numberOfTrailingZeros 74 (.inl (i_iload 1 75)) := ok_iload_n dJ17_numberOfTrailingZeros_74 rfl
theorem kJ17_numberOfTrailingZeros_75 (z : XKT) : XOi z xInf Y_J17_numberOfTrailingZeros 75 (.inl (i_iload 0 76)) := ok_iload_n dJ17_numberOfTrailingZeros_75 rfl
theorem kJ17_numberOfTrailingZeros_76 (z : XKT) : XOi z xInf Y_J17_numberOfTrailingZeros 76 (.inl (i_push (vI 1) 77)) := ok_iconst dJ17_numberOfTrailingZeros_76 rfl
theorem kJ17_numberOfTrailingZeros_77 (z : XKT) : XOi z xInf Y_J17_numberOfTrailingZeros 77 (.inl (i_bin (fun x y => (x.toUInt32 >>> (y.toUInt32 &&& Int32.toUInt32 31)).toInt32) 78)) := ok_iushr dJ17_numberOfTrailingZeros_77
theorem kJ17_numberOfTrailingZeros_78 (z : XKT) : XOi z xInf Y_J17_numberOfTrailingZeros 78 (.inl (i_bin (fun x y => x + y) 79)) := ok_iadd dJ17_numberOfTrailingZeros_78
theorem kJ17_numberOfTrailingZeros_79 (z : XKT) : XOi z xInf Y_J17_numberOfTrailingZeros 79 (.inr (.inr (.inl (r_i .int)))) := show XOkR Y_J17_numberOfTrailingZeros 79 ((r_i .int)) from okr_i (q := Y_J17_numberOfTrailingZeros) (ty := .int) rfl rfl dJ17_numberOfTrailingZeros_79
theorem o_J17_numberOfTrailingZeros (z : XKT) : XMi z xInf Y_J17_numberOfTrailingZeros := XMi.mk9 (T := T_J17_numberOfTrailingZeros z) rfl (⟨kJ17_numberOfTrailingZeros_0 z, ⟨kJ17_numberOfTrailingZeros_1 z, ⟨kJ17_numberOfTrailingZeros_2 z, ⟨kJ17_numberOfTrailingZeros_3 z, ⟨kJ17_numberOfTrailingZeros_4 z, ⟨kJ17_numberOfTrailingZeros_5 z, ⟨kJ17_numberOfTrailingZeros_6 z, ⟨kJ17_numberOfTrailingZeros_7 z, ⟨kJ17_numberOfTrailingZeros_8 z, ⟨kJ17_numberOfTrailingZeros_9 z, ⟨kJ17_numberOfTrailingZeros_12 z, ⟨kJ17_numberOfTrailingZeros_13 z, ⟨kJ17_numberOfTrailingZeros_15 z, ⟨kJ17_numberOfTrailingZeros_16 z, ⟨kJ17_numberOfTrailingZeros_17 z, ⟨kJ17_numberOfTrailingZeros_18 z, ⟨kJ17_numberOfTrailingZeros_19 z, ⟨kJ17_numberOfTrailingZeros_20 z, ⟨kJ17_numberOfTrailingZeros_23 z, ⟨kJ17_numberOfTrailingZeros_26 z, ⟨kJ17_numberOfTrailingZeros_29 z, ⟨kJ17_numberOfTrailingZeros_30 z, ⟨kJ17_numberOfTrailingZeros_32 z, ⟨kJ17_numberOfTrailingZeros_33 z, ⟨kJ17_numberOfTrailingZeros_34 z, ⟨kJ17_numberOfTrailingZeros_35 z, ⟨kJ17_numberOfTrailingZeros_38 z, ⟨kJ17_numberOfTrailingZeros_41 z, ⟨kJ17_numberOfTrailingZeros_44 z, ⟨kJ17_numberOfTrailingZeros_45 z, ⟨kJ17_numberOfTrailingZeros_47 z, ⟨kJ17_numberOfTrailingZeros_48 z, ⟨kJ17_numberOfTrailingZeros_49 z, ⟨kJ17_numberOfTrailingZeros_50 z, ⟨kJ17_numberOfTrailingZeros_52 z, ⟨kJ17_numberOfTrailingZeros_55 z, ⟨kJ17_numberOfTrailingZeros_58 z, ⟨kJ17_numberOfTrailingZeros_59 z, ⟨kJ17_numberOfTrailingZeros_60 z, ⟨kJ17_numberOfTrailingZeros_61 z, ⟨kJ17_numberOfTrailingZeros_62 z, ⟨kJ17_numberOfTrailingZeros_63 z, ⟨kJ17_numberOfTrailingZeros_64 z, ⟨kJ17_numberOfTrailingZeros_67 z, ⟨kJ17_numberOfTrailingZeros_70 z, ⟨kJ17_numberOfTrailingZeros_71 z, ⟨kJ17_numberOfTrailingZeros_72 z, ⟨kJ17_numberOfTrailingZeros_73 z, ⟨kJ17_numberOfTrailingZeros_74 z, ⟨kJ17_numberOfTrailingZeros_75 z, ⟨kJ17_numberOfTrailingZeros_76 z, ⟨kJ17_numberOfTrailingZeros_77 z, ⟨kJ17_numberOfTrailingZeros_78 z, ⟨kJ17_numberOfTrailingZeros_79 z, trivial⟩⟩⟩⟩⟩⟩⟩⟩⟩⟩⟩⟩⟩⟩⟩⟩⟩⟩⟩⟩⟩⟩⟩⟩⟩⟩⟩⟩⟩⟩⟩⟩⟩⟩⟩⟩⟩⟩⟩⟩⟩⟩⟩⟩⟩⟩⟩⟩⟩⟩⟩⟩⟩⟩) (hd_J17_numberOfTrailingZeros z) rfl rfl (by decide +kernel)
theorem hd_J17_stringSize (z : XKT) : XHd z Y_J17_stringSize := xHd_none rfl (xhd0 rfl)
theorem kJ17_stringSize_0 (z : XKT) : XOi z xInf Y_J17_stringSize 0 (.inl (i_push (vI 1) 1)) := ok_iconst dJ17_stringSize_0 rfl
theorem kJ17_stringSize_1 (z : XKT) : XOi z xInf Y_J17_stringSize 1 (.inl (i_istore 1 2)) := ok_istore_n dJ17_stringSize_1 rfl
theorem kJ17_stringSize_2 (z : XKT) : XOi z xInf Y_J17_stringSize 2 (.inl (i_iload 0 3)) := ok_iload_n dJ17_stringSize_2 rfl
theorem kJ17_stringSize_3 (z : XKT) : XOi z xInf Y_J17_stringSize 3 (.inl (i_if (fun x => x < 0) 11 6)) := ok_if_lt dJ17_stringSize_3 rfl
theorem kJ17_stringSize_6 (z : XKT) : XOi z xInf Y_J17_stringSize 6 (.inl (i_push (vI 0) 7)) := ok_iconst dJ17_stringSize_6 rfl
theorem kJ17_stringSize_7 (z : XKT) : XOi z xInf Y_J17_stringSize 7 (.inl (i_istore 1 8)) := ok_istore_n dJ17_stringSize_7 rfl
theorem kJ17_stringSize_8 (z : XKT) : XOi z xInf Y_J17_stringSize 8 (.inl (i_iload 0 9)) := ok_iload_n dJ17_stringSize_8 rfl
theorem kJ17_stringSize_9 (z : XKT) : XOi z xInf Y_J17_stringSize 9 (.inl (i_un (fun x => -x) 10)) := ok_ineg dJ17_stringSize_9
theorem kJ17_stringSize_10 (z : XKT) : XOi z xInf Y_J17_stringSize 10 (.inl (i_istore 0 11)) := ok_istore_n dJ17_stringSize_10 rfl
theorem kJ17_stringSize_11 (z : XKT) : XOi z xInf Y_J17_stringSize 11 (.inl (i_push (vI (-10)) 13)) := ok_bipush dJ17_stringSize_11 rfl
theorem kJ17_stringSize_13 (z : XKT) : XOi z xInf Y_J17_stringSize 13 (.inl (i_istore 2 14)) := ok_istore_n dJ17_stringSize_13 rfl
theorem kJ17_stringSize_14 (z : XKT) : XOi z xInf Y_J17_stringSize 14 (.inl (i_push (vI 1) 15)) := ok_iconst dJ17_stringSize_14 rfl
theorem kJ17_stringSize_15 (z : XKT) : XOi z xInf Y_J17_stringSize 15 (.inl (i_istore 3 16)) := ok_istore_n dJ17_stringSize_15 rfl
theorem kJ17_stringSize_16 (z : XKT) : XOi z xInf Y_J17_stringSize 16 (.inl (i_iload 3 17)) := ok_iload_n dJ17_stringSize_16 rfl
theorem kJ17_stringSize_17 (z : XKT) : XOi z xInf Y_J17_stringSize 17 (.inl (i_push (vI 10) 19)) := ok_bipush dJ17_stringSize_17 rfl
theorem kJ17_stringSize_19 (z : XKT) : XOi z xInf Y_J17_stringSize 19 (.inl (i_icmp (fun x y => y ≤ x) 42 22)) := ok_icmp_ge dJ17_stringSize_19 rfl
theorem kJ17_stringSize_22 (z : XKT) : XOi z xInf Y_J17_stringSize 22 (.inl (i_iload 0 23)) := ok_iload_n dJ17_stringSize_22 rfl
theorem kJ17_stringSize_23 (z : XKT) : XOi z xInf Y_J17_stringSize 23 (.inl (i_iload 2 24)) := ok_iload_n dJ17_stringSize_23 rfl
theorem kJ17_stringSize_24 (z : XKT) : XOi z xInf Y_J17_stringSize 24 (.inl (i_icmp (fun x y => x ≤ y) 31 27)) := ok_icmp_le dJ17_stringSize_24 rfl
theorem kJ17_stringSize_27 (z : XKT) : XOi z xInf Y_J17_stringSize 27 (.inl (i_iload 3 28)) := ok_iload_n dJ17_stringSize_27 rfl
theorem kJ17_stringSize_28 (z : XKT) : XOi z xInf Y_J17_stringSize 28 (.inl (i_iload 1 29)) := ok_iload_n dJ17_stringSize_28 rfl
theorem kJ17_stringSize_29 (z : XKT) : XOi z xInf Y_J17_stringSize 29 (.inl (i_bin (fun x y => x + y) 30)) := ok_iadd dJ17_stringSize_29
theorem kJ17_stringSize_30 (z : XKT) : XOi z xInf Y_J17_stringSize 30 (.inr (.inr (.inl (r_i .int)))) := show XOkR Y_J17_stringSize 30 ((r_i .int)) from okr_i (q := Y_J17_stringSize) (ty := .int) rfl rfl dJ17_stringSize_30
theorem kJ17_stringSize_31 (z : XKT) : XOi z xInf Y_J17_stringSize 31 (.inl (i_push (vI 10) 33)) := ok_bipush dJ17_stringSize_31 rfl
theorem kJ17_stringSize_33 (z : XKT) : XOi z xInf Y_J17_stringSize 33 (.inl (i_iload 2 34)) := ok_iload_n dJ17_stringSize_33 rfl
theorem kJ17_stringSize_34 (z : XKT) : XOi z xInf Y_J17_stringSize 34 (.inl (i_bin (fun x y => x * y) 35)) := ok_imul dJ17_stringSize_34
theorem kJ17_stringSize_35 (z : XKT) : XOi z xInf Y_J17_stringSize 35 (.inl (i_istore 2 36)) := ok_istore_n dJ17_stringSize_35 rfl
theorem kJ17_stringSize_36 (z : XKT) : XOi z xInf Y_J17_stringSize 36 (.inl (i_iinc 3 1 39)) := ok_iinc dJ17_stringSize_36 rfl
theorem kJ17_stringSize_39 (z : XKT) : XOi z xInf Y_J17_stringSize 39 (.inl (i_goto 16)) := ok_goto dJ17_stringSize_39 rfl
theorem kJ17_stringSize_42 (z : XKT) : XOi z xInf Y_J17_stringSize 42 (.inl (i_push (vI 10) 44)) := ok_bipush dJ17_stringSize_42 rfl
theorem kJ17_stringSize_44 (z : XKT) : XOi z xInf Y_J17_stringSize 44 (.inl (i_iload 1 45)) := ok_iload_n dJ17_stringSize_44 rfl
theorem kJ17_stringSize_45 (z : XKT) : XOi z xInf Y_J17_stringSize 45 (.inl (i_bin (fun x y => x + y) 46)) := ok_iadd dJ17_stringSize_45
theorem kJ17_stringSize_46 (z : XKT) : XOi z xInf Y_J17_stringSize 46 (.inr (.inr (.inl (r_i .int)))) := show XOkR Y_J17_stringSize 46 ((r_i .int)) from okr_i (q := Y_J17_stringSize) (ty := .int) rfl rfl dJ17_stringSize_46
theorem o_J17_stringSize (z : XKT) : XMi z xInf Y_J17_stringSize := XMi.mk9 (T := T_J17_stringSize z) rfl (⟨kJ17_stringSize_0 z, ⟨kJ17_stringSize_1 z, ⟨kJ17_stringSize_2 z, ⟨kJ17_stringSize_3 z, ⟨kJ17_stringSize_6 z, ⟨kJ17_stringSize_7 z, ⟨kJ17_stringSize_8 z, ⟨kJ17_stringSize_9 z, ⟨kJ17_stringSize_10 z, ⟨kJ17_stringSize_11 z, ⟨kJ17_stringSize_13 z, ⟨kJ17_stringSize_14 z, ⟨kJ17_stringSize_15 z, ⟨kJ17_stringSize_16 z, ⟨kJ17_stringSize_17 z, ⟨kJ17_stringSize_19 z, ⟨kJ17_stringSize_22 z, ⟨kJ17_stringSize_23 z, ⟨kJ17_stringSize_24 z, ⟨kJ17_stringSize_27 z, ⟨kJ17_stringSize_28 z, ⟨kJ17_stringSize_29 z, ⟨kJ17_stringSize_30 z, ⟨kJ17_stringSize_31 z, ⟨kJ17_stringSize_33 z, ⟨kJ17_stringSize_34 z, ⟨kJ17_stringSize_35 z, ⟨kJ17_stringSize_36 z, ⟨kJ17_stringSize_39 z, ⟨kJ17_stringSize_42 z, ⟨kJ17_stringSize_44 z, ⟨kJ17_stringSize_45 z, ⟨kJ17_stringSize_46 z, trivial⟩⟩⟩⟩⟩⟩⟩⟩⟩⟩⟩⟩⟩⟩⟩⟩⟩⟩⟩⟩⟩⟩⟩⟩⟩⟩⟩⟩⟩⟩⟩⟩⟩) (hd_J17_stringSize z) rfl rfl (by decide +kernel)
theorem hd_J17_valueOf (z : XKT) : XHd z Y_J17_valueOf := xHd_none rfl (xhd0 rfl)
theorem kJ17_valueOf_0 (z : XKT) : XOi z xInf Y_J17_valueOf 0 (.inl (i_iload 0 1)) := ok_iload_n dJ17_valueOf_0 rfl
theorem kJ17_valueOf_1 (z : XKT) : XOi z xInf Y_J17_valueOf 1 (.inl (i_push (vI (-128)) 3)) := ok_bipush dJ17_valueOf_1 rfl
theorem kJ17_valueOf_3 (z : XKT) : XOi z xInf Y_J17_valueOf 3 (.inl (i_icmp (fun x y => x < y) 23 6)) := ok_icmp_lt dJ17_valueOf_3 rfl
theorem kJ17_valueOf_6 (z : XKT) : XOi z xInf Y_J17_valueOf 6 (.inl (i_iload 0 7)) := ok_iload_n dJ17_valueOf_6 rfl
theorem kJ17_valueOf_7 (z : XKT) : XOi z xInf Y_J17_valueOf 7 (.inl (i_push (vI 127) 10)) := ok_getsI dJ17_valueOf_7 q1338 (List.mem_of_getElem? (l := xSti) (i := 0) rfl)
theorem kJ17_valueOf_10 (z : XKT) : XOi z xInf Y_J17_valueOf 10 (.inl (i_icmp (fun x y => y < x) 23 13)) := ok_icmp_gt dJ17_valueOf_10 rfl
theorem kJ17_valueOf_13 (z : XKT) : XOi z xInf Y_J17_valueOf 13 (.inl (i_push (vR (some (z.2.1 11))) 16)) := ok_gets dJ17_valueOf_13 q1340 (List.mem_of_getElem? (l := xSts) (i := 11) rfl)
theorem kJ17_valueOf_16 (z : XKT) : XOi z xInf Y_J17_valueOf 16 (.inl (i_iload 0 17)) := ok_iload_n dJ17_valueOf_16 rfl
theorem kJ17_valueOf_17 (z : XKT) : XOi z xInf Y_J17_valueOf 17 (.inl (i_push (vI 128) 20)) := ok_sipush dJ17_valueOf_17 rfl
theorem kJ17_valueOf_20 (z : XKT) : XOi z xInf Y_J17_valueOf 20 (.inl (i_bin (fun x y => x + y) 21)) := ok_iadd dJ17_valueOf_20
theorem kJ17_valueOf_21 (z : XKT) : XOi z xInf Y_J17_valueOf 21 (.inl (i_arld [1003, 1004, 1005, 1006, 1007] 22)) := ok_arld (by decide) dJ17_valueOf_21
theorem kJ17_valueOf_22 (z : XKT) : XOi z xInf Y_J17_valueOf 22 (.inr (.inr (.inl r_a))) := show XOkR Y_J17_valueOf 22 (r_a) from okr_a (q := Y_J17_valueOf) rfl (Or.inl ⟨_, rfl⟩) dJ17_valueOf_22
theorem kJ17_valueOf_23 (z : XKT) : XOi z xInf Y_J17_valueOf 23 (.inl (i_new 21 1 26)) := ok_new dJ17_valueOf_23 q1342 q1343 q145 (List.mem_of_getElem? (l := xCls) (i := 20) rfl) rfl in_J17 tyJ17_ok rfl (by decide) (by decide)
theorem kJ17_valueOf_26 (z : XKT) : XOi z xInf Y_J17_valueOf 26 (.inl (i_dup 27)) := ok_dup dJ17_valueOf_26
theorem kJ17_valueOf_27 (z : XKT) : XOi z xInf Y_J17_valueOf 27 (.inl (i_iload 0 28)) := ok_iload_n dJ17_valueOf_27 rfl
theorem kJ17_valueOf_28 (z : XKT) : XOi z xInf Y_J17_valueOf 28 (.inr (.inl (31, g_spec 404 1))) := show XOkC z xInf Y_J17_valueOf 28 31 (g_spec 404 1) from okc_I (q := Y_J17_valueOf) (q1 := Y_J17_init) Z_J17_init rfl rfl rfl (by decide) dJ17_valueOf_28 q1344 q1345 q145 q1346 hy_416
theorem kJ17_valueOf_31 (z : XKT) : XOi z xInf Y_J17_valueOf 31 (.inr (.inr (.inl r_a))) := show XOkR Y_J17_valueOf 31 (r_a) from okr_a (q := Y_J17_valueOf) rfl (Or.inl ⟨_, rfl⟩) dJ17_valueOf_31
theorem o_J17_valueOf (z : XKT) : XMi z xInf Y_J17_valueOf := XMi.mk9 (T := T_J17_valueOf z) rfl (⟨kJ17_valueOf_0 z, ⟨kJ17_valueOf_1 z, ⟨kJ17_valueOf_3 z, ⟨kJ17_valueOf_6 z, ⟨kJ17_valueOf_7 z, ⟨kJ17_valueOf_10 z, ⟨kJ17_valueOf_13 z, ⟨kJ17_valueOf_16 z, ⟨kJ17_valueOf_17 z, ⟨kJ17_valueOf_20 z, ⟨kJ17_valueOf_21 z, ⟨kJ17_valueOf_22 z, ⟨kJ17_valueOf_23 z, ⟨kJ17_valueOf_26 z, ⟨kJ17_valueOf_27 z, ⟨kJ17_valueOf_28 z, ⟨kJ17_valueOf_31 z, trivial⟩⟩⟩⟩⟩⟩⟩⟩⟩⟩⟩⟩⟩⟩⟩⟩⟩) (hd_J17_valueOf z) rfl rfl (by decide +kernel)
theorem hd_J18_ordinal (z : XKT) : XHd z Y_J18_ordinal := xHd_none rfl (xhd0 rfl)
theorem kJ18_ordinal_0 (z : XKT) : XOi z xInf Y_J18_ordinal 0 (.inl (i_aload 0 1)) := ok_aload_n dJ18_ordinal_0 rfl
theorem kJ18_ordinal_1 (z : XKT) : XOi z xInf Y_J18_ordinal 1 (.inl (i_geti [22, 23, 24, 25] 118 4)) := ok_geto (ref := "") dJ18_ordinal_1 q3212 (List.forall_mem_cons.mpr ⟨⟨by decide, by decide, ⟨_, List.mem_of_getElem? (l := xKds) (i := 0) rfl⟩, rfl⟩, (List.forall_mem_cons.mpr ⟨⟨by decide, by decide, ⟨_, List.mem_of_getElem? (l := xKds) (i := 1) rfl⟩, rfl⟩, (List.forall_mem_cons.mpr ⟨⟨by decide, by decide, ⟨_, List.mem_of_getElem? (l := xKds) (i := 2) rfl⟩, rfl⟩, (List.forall_mem_cons.mpr ⟨⟨by decide, by decide, ⟨_, List.mem_of_getElem? (l := xKds) (i := 3) rfl⟩, rfl⟩, (fun _ h => absurd h List.not_mem_nil)⟩)⟩)⟩)⟩)
theorem kJ18_ordinal_4 (z : XKT) : XOi z xInf Y_J18_ordinal 4 (.inr (.inr (.inl (r_i .int)))) := show XOkR Y_J18_ordinal 4 ((r_i .int)) from okr_i (q := Y_J18_ordinal) (ty := .int) rfl rfl dJ18_ordinal_4
theorem o_J18_ordinal (z : XKT) : XMi z xInf Y_J18_ordinal := XMi.mk9 (T := T_J18_ordinal z) rfl (⟨kJ18_ordinal_0 z, ⟨kJ18_ordinal_1 z, ⟨kJ18_ordinal_4 z, trivial⟩⟩⟩) (hd_J18_ordinal z) rfl rfl (by decide +kernel)
theorem hd_J19_init (z : XKT) : XHd z Y_J19_init := xHd_none rfl (xhd0 rfl)
theorem kJ19_init_0 (z : XKT) : XOi z xInf Y_J19_init 0 (.inl (i_aload 0 1)) := ok_aload_n dJ19_init_0 rfl
theorem kJ19_init_1 (z : XKT) : XOi z xInf Y_J19_init 1 (.inr (.inl (4, g_spec 341 0))) := show XOkC z xInf Y_J19_init 1 4 (g_spec 341 0) from okc_I (q := Y_J19_init) (q1 := Y_J1_init) Z_J1_init rfl rfl rfl (by decide) dJ19_init_1 q608 q199 q128 q200 hy_377
theorem kJ19_init_4 (z : XKT) : XOi z xInf Y_J19_init 4 (.inr (.inr (.inl r_v))) := show XOkR Y_J19_init 4 (r_v) from okr_v (q := Y_J19_init) rfl dJ19_init_4
theorem o_J19_init (z : XKT) : XMi z xInf Y_J19_init := XMi.mk9 (T := T_J19_init z) rfl (⟨kJ19_init_0 z, ⟨kJ19_init_1 z, ⟨kJ19_init_4 z, trivial⟩⟩⟩) (hd_J19_init z) rfl rfl (by decide +kernel)
theorem hd_J19_iterator (z : XKT) : XHd z Y_J19_iterator := xHd_none rfl (xhd0 rfl)
theorem kJ19_iterator_0 (z : XKT) : XOi z xInf Y_J19_iterator 0 (.inl (i_aload 0 1)) := ok_aload_n dJ19_iterator_0 rfl
theorem kJ19_iterator_1 (z : XKT) : XOi z xInf Y_J19_iterator 1 (.inr (.inl (4, g_virt [(13, 342)] 0))) := show XOkC z xInf Y_J19_iterator 1 4 (g_virt [(13, 342)] 0) from okc_V (q := Y_J19_iterator) (List.forall_mem_cons.mpr ⟨(show XOkV z xInf Y_J19_iterator 1 4 0 (13, 342) from okv_U (q := Y_J19_iterator) (owner := "java/util/AbstractList") (x := ⟨"java/util/AbstractSequentialList", "listIterator", "()Ljava/util/ListIterator;"⟩) (q1 := Y_J1_listIterator) Z_J1_listIterator rfl (by decide) ⟨by decide, by decide, Or.inl ⟨_, _, (List.mem_of_getElem? (l := xCls) (i := 12) rfl)⟩⟩ dJ19_iterator_1 q895 q896 (Or.inl q897) q899 q898 q128 q900 ⟨hy_417.1, hy_417.2.1⟩ (by decide +kernel)), (fun _ h => absurd h List.not_mem_nil)⟩)
theorem kJ19_iterator_4 (z : XKT) : XOi z xInf Y_J19_iterator 4 (.inr (.inr (.inl r_a))) := show XOkR Y_J19_iterator 4 (r_a) from okr_a (q := Y_J19_iterator) rfl (Or.inl ⟨_, rfl⟩) dJ19_iterator_4
theorem o_J19_iterator (z : XKT) : XMi z xInf Y_J19_iterator := XMi.mk9 (T := T_J19_iterator z) rfl (⟨kJ19_iterator_0 z, ⟨kJ19_iterator_1 z, ⟨kJ19_iterator_4 z, trivial⟩⟩⟩) (hd_J19_iterator z) rfl rfl (by decide +kernel)
theorem hd_J20_add (z : XKT) : XHd z Y_J20_add := xHd_none rfl (xhd0 rfl)
theorem kJ20_add_0 (z : XKT) : XOi z xInf Y_J20_add 0 (.inl (i_aload 0 1)) := ok_aload_n dJ20_add_0 rfl
theorem kJ20_add_1 (z : XKT) : XOi z xInf Y_J20_add 1 (.inl (i_aload 1 2)) := ok_aload_n dJ20_add_1 rfl
theorem kJ20_add_2 (z : XKT) : XOi z xInf Y_J20_add 2 (.inr (.inl (5, g_virt [(13, 423)] 1))) := show XOkC z xInf Y_J20_add 2 5 (g_virt [(13, 423)] 1) from okc_V (q := Y_J20_add) (List.forall_mem_cons.mpr ⟨(show XOkV z xInf Y_J20_add 2 5 1 (13, 423) from okv_V (q := Y_J20_add) (q1 := Y_J20_linkLast) Z_J20_linkLast rfl (by decide) ⟨by decide, by decide, Or.inl ⟨_, _, (List.mem_of_getElem? (l := xCls) (i := 12) rfl)⟩⟩ dJ20_add_2 q758 q759 q760 q150 q761 hy_418), (fun _ h => absurd h List.not_mem_nil)⟩)
theorem kJ20_add_5 (z : XKT) : XOi z xInf Y_J20_add 5 (.inl (i_push (vI 1) 6)) := ok_iconst dJ20_add_5 rfl
theorem kJ20_add_6 (z : XKT) : XOi z xInf Y_J20_add 6 (.inr (.inr (.inl (r_i .boolean)))) := show XOkR Y_J20_add 6 ((r_i .boolean)) from okr_i (q := Y_J20_add) (ty := .boolean) rfl rfl dJ20_add_6
theorem o_J20_add (z : XKT) : XMi z xInf Y_J20_add := XMi.mk9 (T := T_J20_add z) rfl (⟨kJ20_add_0 z, ⟨kJ20_add_1 z, ⟨kJ20_add_2 z, ⟨kJ20_add_5 z, ⟨kJ20_add_6 z, trivial⟩⟩⟩⟩⟩) (hd_J20_add z) rfl rfl (by decide +kernel)
theorem hd_J20_addLast (z : XKT) : XHd z Y_J20_addLast := xHd_none rfl (xhd0 rfl)
theorem kJ20_addLast_0 (z : XKT) : XOi z xInf Y_J20_addLast 0 (.inl (i_aload 0 1)) := ok_aload_n dJ20_addLast_0 rfl
theorem kJ20_addLast_1 (z : XKT) : XOi z xInf Y_J20_addLast 1 (.inl (i_aload 1 2)) := ok_aload_n dJ20_addLast_1 rfl
theorem kJ20_addLast_2 (z : XKT) : XOi z xInf Y_J20_addLast 2 (.inr (.inl (5, g_virt [(13, 423)] 1))) := show XOkC z xInf Y_J20_addLast 2 5 (g_virt [(13, 423)] 1) from okc_V (q := Y_J20_addLast) (List.forall_mem_cons.mpr ⟨(show XOkV z xInf Y_J20_addLast 2 5 1 (13, 423) from okv_V (q := Y_J20_addLast) (q1 := Y_J20_linkLast) Z_J20_linkLast rfl (by decide) ⟨by decide, by decide, Or.inl ⟨_, _, (List.mem_of_getElem? (l := xCls) (i := 12) rfl)⟩⟩ dJ20_addLast_2 q758 q759 q760 q150 q761 hy_418), (fun _ h => absurd h List.not_mem_nil)⟩)
theorem kJ20_addLast_5 (z : XKT) : XOi z xInf Y_J20_addLast 5 (.inr (.inr (.inl r_v))) := show XOkR Y_J20_addLast 5 (r_v) from okr_v (q := Y_J20_addLast) rfl dJ20_addLast_5
theorem o_J20_addLast (z : XKT) : XMi z xInf Y_J20_addLast := XMi.mk9 (T := T_J20_addLast z) rfl (⟨kJ20_addLast_0 z, ⟨kJ20_addLast_1 z, ⟨kJ20_addLast_2 z, ⟨kJ20_addLast_5 z, trivial⟩⟩⟩⟩) (hd_J20_addLast z) rfl rfl (by decide +kernel)
theorem hd_J20_checkElementIndex (z : XKT) : XHd z Y_J20_checkElementIndex := xHd_none rfl (xhd0 rfl)
theorem kJ20_checkElementIndex_0 (z : XKT) : XOi z xInf Y_J20_checkElementIndex 0 (.inl (i_aload 0 1)) := ok_aload_n dJ20_checkElementIndex_0 rfl
theorem kJ20_checkElementIndex_1 (z : XKT) : XOi z xInf Y_J20_checkElementIndex 1 (.inl (i_iload 1 2)) := ok_iload_n dJ20_checkElementIndex_1 rfl
theorem kJ20_checkElementIndex_2 (z : XKT) : XOi z xInf Y_J20_checkElementIndex 2 (.inr (.inl (5, g_virt [(13, 421)] 1))) := show XOkC z xInf Y_J20_checkElementIndex 2 5 (g_virt [(13, 421)] 1) from okc_V (q := Y_J20_checkElementIndex) (List.forall_mem_cons.mpr ⟨(show XOkV z xInf Y_J20_checkElementIndex 2 5 1 (13, 421) from okv_V (q := Y_J20_checkElementIndex) (q1 := Y_J20_isElementIndex) Z_J20_isElementIndex rfl (by decide) ⟨by decide, by decide, Or.inl ⟨_, _, (List.mem_of_getElem? (l := xCls) (i := 12) rfl)⟩⟩ dJ20_checkElementIndex_2 q1069 q1071 qs10 q150 q1072 hy_419), (fun _ h => absurd h List.not_mem_nil)⟩)
theorem kJ20_checkElementIndex_5 (z : XKT) : XOi z xInf Y_J20_checkElementIndex 5 (.inl (i_if (fun x => ¬ x = 0) 21 8)) := ok_if_ne dJ20_checkElementIndex_5 rfl
theorem kJ20_checkElementIndex_11 (z : XKT) : XOi z xInf Y_J20_checkElementIndex 11 (.inl (i_dup 12)) := ok_dup dJ20_checkElementIndex_11
theorem kJ20_checkElementIndex_12 (z : XKT) : XOi z xInf Y_J20_checkElementIndex 12 (.inl (i_aload 0 13)) := ok_aload_n dJ20_checkElementIndex_12 rfl
theorem kJ20_checkElementIndex_13 (z : XKT) : XOi z xInf Y_J20_checkElementIndex 13 (.inl (i_iload 1 14)) := ok_iload_n dJ20_checkElementIndex_13 rfl
theorem kJ20_checkElementIndex_21 (z : XKT) : XOi z xInf Y_J20_checkElementIndex 21 (.inr (.inr (.inl r_v))) := show XOkR Y_J20_checkElementIndex 21 (r_v) from okr_v (q := Y_J20_checkElementIndex) rfl dJ20_checkElementIndex_21
theorem o_J20_checkElementIndex (z : XKT) : XMi z xInf Y_J20_checkElementIndex := XMi.mk9 (T := T_J20_checkElementIndex z) rfl (⟨kJ20_checkElementIndex_0 z, ⟨kJ20_checkElementIndex_1 z, ⟨kJ20_checkElementIndex_2 z, ⟨kJ20_checkElementIndex_5 z, ⟨kJ20_checkElementIndex_11 z, ⟨kJ20_checkElementIndex_12 z, ⟨kJ20_checkElementIndex_13 z, ⟨kJ20_checkElementIndex_21 z, trivial⟩⟩⟩⟩⟩⟩⟩⟩) (hd_J20_checkElementIndex z) rfl rfl (by decide +kernel)
theorem hd_J20_checkPositionIndex (z : XKT) : XHd z Y_J20_checkPositionIndex := xHd_none rfl (xhd0 rfl)
theorem kJ20_checkPositionIndex_0 (z : XKT) : XOi z xInf Y_J20_checkPositionIndex 0 (.inl (i_aload 0 1)) := ok_aload_n dJ20_checkPositionIndex_0 rfl
theorem kJ20_checkPositionIndex_1 (z : XKT) : XOi z xInf Y_J20_checkPositionIndex 1 (.inl (i_iload 1 2)) := ok_iload_n dJ20_checkPositionIndex_1 rfl
theorem kJ20_checkPositionIndex_2 (z : XKT) : XOi z xInf Y_J20_checkPositionIndex 2 (.inr (.inl (5, g_virt [(13, 422)] 1))) := show XOkC z xInf Y_J20_checkPositionIndex 2 5 (g_virt [(13, 422)] 1) from okc_V (q := Y_J20_checkPositionIndex) (List.forall_mem_cons.mpr ⟨(show XOkV z xInf Y_J20_checkPositionIndex 2 5 1 (13, 422) from okv_V (q := Y_J20_checkPositionIndex) (q1 := Y_J20_isPositionIndex) Z_J20_isPositionIndex rfl (by decide) ⟨by decide, by decide, Or.inl ⟨_, _, (List.mem_of_getElem? (l := xCls) (i := 12) rfl)⟩⟩ dJ20_checkPositionIndex_2 q932 q934 qs8 q150 q935 hy_420), (fun _ h => absurd h List.not_mem_nil)⟩)
theorem kJ20_checkPositionIndex_5 (z : XKT) : XOi z xInf Y_J20_checkPositionIndex 5 (.inl (i_if (fun x => ¬ x = 0) 21 8)) := ok_if_ne dJ20_checkPositionIndex_5 rfl
theorem kJ20_checkPositionIndex_11 (z : XKT) : XOi z xInf Y_J20_checkPositionIndex 11 (.inl (i_dup 12)) := ok_dup dJ20_checkPositionIndex_11
theorem kJ20_checkPositionIndex_12 (z : XKT) : XOi z xInf Y_J20_checkPositionIndex 12 (.inl (i_aload 0 13)) := ok_aload_n dJ20_checkPositionIndex_12 rfl
theorem kJ20_checkPositionIndex_13 (z : XKT) : XOi z xInf Y_J20_checkPositionIndex 13 (.inl (i_iload 1 14)) := ok_iload_n dJ20_checkPositionIndex_13 rfl
theorem kJ20_checkPositionIndex_21 (z : XKT) : XOi z xInf Y_J20_checkPositionIndex 21 (.inr (.inr (.inl r_v))) := show XOkR Y_J20_checkPositionIndex 21 (r_v) from okr_v (q := Y_J20_checkPositionIndex) rfl dJ20_checkPositionIndex_21
theorem o_J20_checkPositionIndex (z : XKT) : XMi z xInf Y_J20_checkPositionIndex := XMi.mk9 (T := T_J20_checkPositionIndex z) rfl (⟨kJ20_checkPositionIndex_0 z, ⟨kJ20_checkPositionIndex_1 z, ⟨kJ20_checkPositionIndex_2 z, ⟨kJ20_checkPositionIndex_5 z, ⟨kJ20_checkPositionIndex_11 z, ⟨kJ20_checkPositionIndex_12 z, ⟨kJ20_checkPositionIndex_13 z, ⟨kJ20_checkPositionIndex_21 z, trivial⟩⟩⟩⟩⟩⟩⟩⟩) (hd_J20_checkPositionIndex z) rfl rfl (by decide +kernel)
theorem hd_J20_clear (z : XKT) : XHd z Y_J20_clear := xHd_none rfl (xhd0 rfl)
theorem kJ20_clear_0 (z : XKT) : XOi z xInf Y_J20_clear 0 (.inl (i_aload 0 1)) := ok_aload_n dJ20_clear_0 rfl
theorem kJ20_clear_1 (z : XKT) : XOi z xInf Y_J20_clear 1 (.inl (i_getr [13] 89 4)) := ok_getr dJ20_clear_1 q611 (List.forall_mem_cons.mpr ⟨⟨_, _, _, _, fd_89_13_0⟩, (fun _ h => absurd h List.not_mem_nil)⟩)
theorem kJ20_clear_4 (z : XKT) : XOi z xInf Y_J20_clear 4 (.inl (i_astore 1 5)) := ok_astore_n dJ20_clear_4 rfl
theorem kJ20_clear_5 (z : XKT) : XOi z xInf Y_J20_clear 5 (.inl (i_aload 1 6)) := ok_aload_n dJ20_clear_5 rfl
theorem kJ20_clear_6 (z : XKT) : XOi z xInf Y_J20_clear 6 (.inl (i_ifnull 34 9)) := ok_ifnull dJ20_clear_6 rfl
theorem kJ20_clear_9 (z : XKT) : XOi z xInf Y_J20_clear 9 (.inl (i_aload 1 10)) := ok_aload_n dJ20_clear_9 rfl
theorem kJ20_clear_10 (z : XKT) : XOi z xInf Y_J20_clear 10 (.inl (i_getr [14] 92 13)) := ok_getr dJ20_clear_10 q773 (List.forall_mem_cons.mpr ⟨⟨_, _, _, _, fd_92_14_0⟩, (fun _ h => absurd h List.not_mem_nil)⟩)
theorem kJ20_clear_13 (z : XKT) : XOi z xInf Y_J20_clear 13 (.inl (i_astore 2 14)) := ok_astore_n dJ20_clear_13 rfl
theorem kJ20_clear_14 (z : XKT) : XOi z xInf Y_J20_clear 14 (.inl (i_aload 1 15)) := ok_aload_n dJ20_clear_14 rfl
theorem kJ20_clear_15 (z : XKT) : XOi z xInf Y_J20_clear 15 (.inl (i_push (vR none) 16)) := ok_null dJ20_clear_15
theorem kJ20_clear_16 (z : XKT) : XOi z xInf Y_J20_clear 16 (.inl (i_putr z.1 [14] 91 19)) := ok_putr dJ20_clear_16 q770 (List.forall_mem_cons.mpr ⟨⟨_, _, _, _, tyJ21, fd_91_14_0, ⟨tyJ21_ok, nmJ21, (Or.inl rfl)⟩, (Or.inl ⟨_, rfl⟩)⟩, (fun _ h => absurd h List.not_mem_nil)⟩)
theorem kJ20_clear_19 (z : XKT) : XOi z xInf Y_J20_clear 19 (.inl (i_aload 1 20)) := ok_aload_n dJ20_clear_19 rfl
theorem kJ20_clear_20 (z : XKT) : XOi z xInf Y_J20_clear 20 (.inl (i_push (vR none) 21)) := ok_null dJ20_clear_20
theorem kJ20_clear_21 (z : XKT) : XOi z xInf Y_J20_clear 21 (.inl (i_putr z.1 [14] 92 24)) := ok_putr dJ20_clear_21 q773 (List.forall_mem_cons.mpr ⟨⟨_, _, _, _, tyJ21, fd_92_14_0, ⟨tyJ21_ok, nmJ21, (Or.inl rfl)⟩, (Or.inl ⟨_, rfl⟩)⟩, (fun _ h => absurd h List.not_mem_nil)⟩)
theorem kJ20_clear_24 (z : XKT) : XOi z xInf Y_J20_clear 24 (.inl (i_aload 1 25)) := ok_aload_n dJ20_clear_24 rfl
theorem kJ20_clear_25 (z : XKT) : XOi z xInf Y_J20_clear 25 (.inl (i_push (vR none) 26)) := ok_null dJ20_clear_25
theorem kJ20_clear_26 (z : XKT) : XOi z xInf Y_J20_clear 26 (.inl (i_putr z.1 [14] 93 29)) := ok_putr dJ20_clear_26 q775 (List.forall_mem_cons.mpr ⟨⟨_, _, _, _, tyJ21, fd_93_14_0, ⟨tyJ21_ok, nmJ21, (Or.inl rfl)⟩, (Or.inl ⟨_, rfl⟩)⟩, (fun _ h => absurd h List.not_mem_nil)⟩)
theorem kJ20_clear_29 (z : XKT) : XOi z xInf Y_J20_clear 29 (.inl (i_aload 2 30)) := ok_aload_n dJ20_clear_29 rfl
theorem kJ20_clear_30 (z : XKT) : XOi z xInf Y_J20_clear 30 (.inl (i_astore 1 31)) := ok_astore_n dJ20_clear_30 rfl
theorem kJ20_clear_31 (z : XKT) : XOi z xInf Y_J20_clear 31 (.inl (i_goto 5)) := ok_goto dJ20_clear_31 rfl
theorem kJ20_clear_34 (z : XKT) : XOi z xInf Y_J20_clear 34 (.inl (i_aload 0 35)) := ok_aload_n dJ20_clear_34 rfl
theorem kJ20_clear_35 (z : XKT) : XOi z xInf Y_J20_clear 35 (.inl (i_aload 0 36)) := ok_aload_n dJ20_clear_35 rfl
theorem kJ20_clear_36 (z : XKT) : XOi z xInf Y_J20_clear 36 (.inl (i_push (vR none) 37)) := ok_null dJ20_clear_36
theorem kJ20_clear_37 (z : XKT) : XOi z xInf Y_J20_clear 37 (.inl (i_dupx1 38)) := ok_dup_x1 dJ20_clear_37
theorem kJ20_clear_38 (z : XKT) : XOi z xInf Y_J20_clear 38 (.inl (i_putr z.1 [13] 90 41)) := ok_putr dJ20_clear_38 q612 (List.forall_mem_cons.mpr ⟨⟨_, _, _, _, tyJ20, fd_90_13_0, ⟨tyJ20_ok, nmJ20, (Or.inl rfl)⟩, (Or.inl ⟨_, rfl⟩)⟩, (fun _ h => absurd h List.not_mem_nil)⟩)
theorem kJ20_clear_41 (z : XKT) : XOi z xInf Y_J20_clear 41 (.inl (i_putr z.1 [13] 89 44)) := ok_putr dJ20_clear_41 q611 (List.forall_mem_cons.mpr ⟨⟨_, _, _, _, tyJ20, fd_89_13_0, ⟨tyJ20_ok, nmJ20, (Or.inl rfl)⟩, (Or.inl ⟨_, rfl⟩)⟩, (fun _ h => absurd h List.not_mem_nil)⟩)
theorem kJ20_clear_44 (z : XKT) : XOi z xInf Y_J20_clear 44 (.inl (i_aload 0 45)) := ok_aload_n dJ20_clear_44 rfl
theorem kJ20_clear_45 (z : XKT) : XOi z xInf Y_J20_clear 45 (.inl (i_push (vI 0) 46)) := ok_iconst dJ20_clear_45 rfl
theorem kJ20_clear_46 (z : XKT) : XOi z xInf Y_J20_clear 46 (.inl (i_puti z.1 [13] .int 88 49)) := ok_puti dJ20_clear_46 q609 rfl (List.forall_mem_cons.mpr ⟨⟨_, _, _, _, tyJ20, fd_88_13_0, ⟨tyJ20_ok, nmJ20, (Or.inl rfl)⟩, rfl⟩, (fun _ h => absurd h List.not_mem_nil)⟩)
theorem kJ20_clear_49 (z : XKT) : XOi z xInf Y_J20_clear 49 (.inl (i_aload 0 50)) := ok_aload_n dJ20_clear_49 rfl
theorem kJ20_clear_50 (z : XKT) : XOi z xInf Y_J20_clear 50 (.inl (i_dup 51)) := ok_dup dJ20_clear_50
theorem kJ20_clear_51 (z : XKT) : XOi z xInf Y_J20_clear 51 (.inl (i_geti [13] 85 54)) := ok_geti dJ20_clear_51 q535 (List.forall_mem_cons.mpr ⟨⟨_, _, _, _, fd_85_13_1⟩, (fun _ h => absurd h List.not_mem_nil)⟩)
theorem kJ20_clear_54 (z : XKT) : XOi z xInf Y_J20_clear 54 (.inl (i_push (vI 1) 55)) := ok_iconst dJ20_clear_54 rfl
theorem kJ20_clear_55 (z : XKT) : XOi z xInf Y_J20_clear 55 (.inl (i_bin (fun x y => x + y) 56)) := ok_iadd dJ20_clear_55
theorem kJ20_clear_56 (z : XKT) : XOi z xInf Y_J20_clear 56 (.inl (i_puti z.1 [13] .int 85 59)) := ok_puti dJ20_clear_56 q535 rfl (List.forall_mem_cons.mpr ⟨⟨_, _, _, _, tyJ20, fd_85_13_1, ⟨tyJ20_ok, nmJ20, (Or.inl rfl)⟩, rfl⟩, (fun _ h => absurd h List.not_mem_nil)⟩)
theorem kJ20_clear_59 (z : XKT) : XOi z xInf Y_J20_clear 59 (.inr (.inr (.inl r_v))) := show XOkR Y_J20_clear 59 (r_v) from okr_v (q := Y_J20_clear) rfl dJ20_clear_59
theorem o_J20_clear (z : XKT) : XMi z xInf Y_J20_clear := XMi.mk9 (T := T_J20_clear z) rfl (⟨kJ20_clear_0 z, ⟨kJ20_clear_1 z, ⟨kJ20_clear_4 z, ⟨kJ20_clear_5 z, ⟨kJ20_clear_6 z, ⟨kJ20_clear_9 z, ⟨kJ20_clear_10 z, ⟨kJ20_clear_13 z, ⟨kJ20_clear_14 z, ⟨kJ20_clear_15 z, ⟨kJ20_clear_16 z, ⟨kJ20_clear_19 z, ⟨kJ20_clear_20 z, ⟨kJ20_clear_21 z, ⟨kJ20_clear_24 z, ⟨kJ20_clear_25 z, ⟨kJ20_clear_26 z, ⟨kJ20_clear_29 z, ⟨kJ20_clear_30 z, ⟨kJ20_clear_31 z, ⟨kJ20_clear_34 z, ⟨kJ20_clear_35 z, ⟨kJ20_clear_36 z, ⟨kJ20_clear_37 z, ⟨kJ20_clear_38 z, ⟨kJ20_clear_41 z, ⟨kJ20_clear_44 z, ⟨kJ20_clear_45 z, ⟨kJ20_clear_46 z, ⟨kJ20_clear_49 z, ⟨kJ20_clear_50 z, ⟨kJ20_clear_51 z, ⟨kJ20_clear_54 z, ⟨kJ20_clear_55 z, ⟨kJ20_clear_56 z, ⟨kJ20_clear_59 z, trivial⟩⟩⟩⟩⟩⟩⟩⟩⟩⟩⟩⟩⟩⟩⟩⟩⟩⟩⟩⟩⟩⟩⟩⟩⟩⟩⟩⟩⟩⟩⟩⟩⟩⟩⟩⟩) (hd_J20_clear z) rfl rfl (by decide +kernel)
theorem hd_J20_contains (z : XKT) : XHd z Y_J20_contains := xHd_none rfl (xhd0 rfl)
theorem kJ20_contains_0 (z : XKT) : XOi z xInf Y_J20_contains 0 (.inl (i_aload 0 1)) := ok_aload_n dJ20_contains_0 rfl
theorem kJ20_contains_1 (z : XKT) : XOi z xInf Y_J20_contains 1 (.inl (i_aload 1 2)) := ok_aload_n dJ20_contains_1 rfl
theorem kJ20_contains_2 (z : XKT) : XOi z xInf Y_J20_contains 2 (.inr (.inl (5, g_virt [(13, 419)] 1))) := show XOkC z xInf Y_J20_contains 2 5 (g_virt [(13, 419)] 1) from okc_V (q := Y_J20_contains) (List.forall_mem_cons.mpr ⟨(show XOkV z xInf Y_J20_contains 2 5 1 (13, 419) from okv_V (q := Y_J20_contains) (q1 := Y_J20_indexOf) Z_J20_indexOf rfl (by decide) ⟨by decide, by decide, Or.inl ⟨_, _, (List.mem_of_getElem? (l := xCls) (i := 12) rfl)⟩⟩ dJ20_contains_2 q1359 q1360 q1361 q150 q1362 hy_177), (fun _ h => absurd h List.not_mem_nil)⟩)
theorem kJ20_contains_5 (z : XKT) : XOi z xInf Y_J20_contains 5 (.inl (i_if (fun x => x < 0) 12 8)) := ok_if_lt dJ20_contains_5 rfl
theorem kJ20_contains_8 (z : XKT) : XOi z xInf Y_J20_contains 8 (.inl (i_push (vI 1) 9)) := ok_iconst dJ20_contains_8 rfl
theorem kJ20_contains_9 (z : XKT) : XOi z xInf Y_J20_contains 9 (.inl (i_goto 13)) := ok_goto dJ20_contains_9 rfl
theorem kJ20_contains_12 (z : XKT) : XOi z xInf Y_J20_contains 12 (.inl (i_push (vI 0) 13)) := ok_iconst dJ20_contains_12 rfl
theorem kJ20_contains_13 (z : XKT) : XOi z xInf Y_J20_contains 13 (.inr (.inr (.inl (r_i .boolean)))) := show XOkR Y_J20_contains 13 ((r_i .boolean)) from okr_i (q := Y_J20_contains) (ty := .boolean) rfl rfl dJ20_contains_13
theorem o_J20_contains (z : XKT) : XMi z xInf Y_J20_contains := XMi.mk9 (T := T_J20_contains z) rfl (⟨kJ20_contains_0 z, ⟨kJ20_contains_1 z, ⟨kJ20_contains_2 z, ⟨kJ20_contains_5 z, ⟨kJ20_contains_8 z, ⟨kJ20_contains_9 z, ⟨kJ20_contains_12 z, ⟨kJ20_contains_13 z, trivial⟩⟩⟩⟩⟩⟩⟩⟩) (hd_J20_contains z) rfl rfl (by decide +kernel)
theorem hd_J20_get (z : XKT) : XHd z Y_J20_get := xHd_none rfl (xhd0 rfl)
theorem kJ20_get_0 (z : XKT) : XOi z xInf Y_J20_get 0 (.inl (i_aload 0 1)) := ok_aload_n dJ20_get_0 rfl
theorem kJ20_get_1 (z : XKT) : XOi z xInf Y_J20_get 1 (.inl (i_iload 1 2)) := ok_iload_n dJ20_get_1 rfl
theorem kJ20_get_2 (z : XKT) : XOi z xInf Y_J20_get 2 (.inr (.inl (5, g_virt [(13, 414)] 1))) := show XOkC z xInf Y_J20_get 2 5 (g_virt [(13, 414)] 1) from okc_V (q := Y_J20_get) (List.forall_mem_cons.mpr ⟨(show XOkV z xInf Y_J20_get 2 5 1 (13, 414) from okv_V (q := Y_J20_get) (q1 := Y_J20_checkElementIndex) Z_J20_checkElementIndex rfl (by decide) ⟨by decide, by decide, Or.inl ⟨_, _, (List.mem_of_getElem? (l := xCls) (i := 12) rfl)⟩⟩ dJ20_get_2 q1065 q1067 qs9 q150 q1068 hy_421), (fun _ h => absurd h List.not_mem_nil)⟩)
theorem kJ20_get_5 (z : XKT) : XOi z xInf Y_J20_get 5 (.inl (i_aload 0 6)) := ok_aload_n dJ20_get_5 rfl
theorem kJ20_get_6 (z : XKT) : XOi z xInf Y_J20_get 6 (.inl (i_iload 1 7)) := ok_iload_n dJ20_get_6 rfl
theorem kJ20_get_7 (z : XKT) : XOi z xInf Y_J20_get 7 (.inr (.inl (10, g_virt [(13, 425)] 1))) := show XOkC z xInf Y_J20_get 7 10 (g_virt [(13, 425)] 1) from okc_V (q := Y_J20_get) (List.forall_mem_cons.mpr ⟨(show XOkV z xInf Y_J20_get 7 10 1 (13, 425) from okv_V (q := Y_J20_get) (q1 := Y_J20_node) Z_J20_node rfl (by decide) ⟨by decide, by decide, Or.inl ⟨_, _, (List.mem_of_getElem? (l := xCls) (i := 12) rfl)⟩⟩ dJ20_get_7 q1073 q943 q944 q150 q945 hy_422), (fun _ h => absurd h List.not_mem_nil)⟩)
theorem kJ20_get_10 (z : XKT) : XOi z xInf Y_J20_get 10 (.inl (i_getr [14] 91 13)) := ok_getr dJ20_get_10 q770 (List.forall_mem_cons.mpr ⟨⟨_, _, _, _, fd_91_14_0⟩, (fun _ h => absurd h List.not_mem_nil)⟩)
theorem kJ20_get_13 (z : XKT) : XOi z xInf Y_J20_get 13 (.inr (.inr (.inl r_a))) := show XOkR Y_J20_get 13 (r_a) from okr_a (q := Y_J20_get) rfl (Or.inl ⟨_, rfl⟩) dJ20_get_13
theorem o_J20_get (z : XKT) : XMi z xInf Y_J20_get := XMi.mk9 (T := T_J20_get z) rfl (⟨kJ20_get_0 z, ⟨kJ20_get_1 z, ⟨kJ20_get_2 z, ⟨kJ20_get_5 z, ⟨kJ20_get_6 z, ⟨kJ20_get_7 z, ⟨kJ20_get_10 z, ⟨kJ20_get_13 z, trivial⟩⟩⟩⟩⟩⟩⟩⟩) (hd_J20_get z) rfl rfl (by decide +kernel)
theorem hd_J20_indexOf (z : XKT) : XHd z Y_J20_indexOf := xHd_none rfl (xhd0 rfl)
theorem kJ20_indexOf_0 (z : XKT) : XOi z xInf Y_J20_indexOf 0 (.inl (i_push (vI 0) 1)) := ok_iconst dJ20_indexOf_0 rfl
theorem kJ20_indexOf_1 (z : XKT) : XOi z xInf Y_J20_indexOf 1 (.inl (i_istore 2 2)) := ok_istore_n dJ20_indexOf_1 rfl
theorem kJ20_indexOf_2 (z : XKT) : XOi z xInf Y_J20_indexOf 2 (.inl (i_aload 1 3)) := ok_aload_n dJ20_indexOf_2 rfl
theorem kJ20_indexOf_3 (z : XKT) : XOi z xInf Y_J20_indexOf 3 (.inl (i_ifnull 6 38)) := ok_ifnonnull dJ20_indexOf_3 rfl
theorem kJ20_indexOf_6 (z : XKT) : XOi z xInf Y_J20_indexOf 6 (.inl (i_aload 0 7)) := ok_aload_n dJ20_indexOf_6 rfl
theorem kJ20_indexOf_7 (z : XKT) : XOi z xInf Y_J20_indexOf 7 (.inl (i_getr [13] 89 10)) := ok_getr dJ20_indexOf_7 q611 (List.forall_mem_cons.mpr ⟨⟨_, _, _, _, fd_89_13_0⟩, (fun _ h => absurd h List.not_mem_nil)⟩)
theorem kJ20_indexOf_10 (z : XKT) : XOi z xInf Y_J20_indexOf 10 (.inl (i_astore 3 11)) := ok_astore_n dJ20_indexOf_10 rfl
theorem kJ20_indexOf_11 (z : XKT) : XOi z xInf Y_J20_indexOf 11 (.inl (i_aload 3 12)) := ok_aload_n dJ20_indexOf_11 rfl
theorem kJ20_indexOf_12 (z : XKT) : XOi z xInf Y_J20_indexOf 12 (.inl (i_ifnull 35 15)) := ok_ifnull dJ20_indexOf_12 rfl
theorem kJ20_indexOf_15 (z : XKT) : XOi z xInf Y_J20_indexOf 15 (.inl (i_aload 3 16)) := ok_aload_n dJ20_indexOf_15 rfl
theorem kJ20_indexOf_16 (z : XKT) : XOi z xInf Y_J20_indexOf 16 (.inl (i_getr [14] 91 19)) := ok_getr dJ20_indexOf_16 q770 (List.forall_mem_cons.mpr ⟨⟨_, _, _, _, fd_91_14_0⟩, (fun _ h => absurd h List.not_mem_nil)⟩)
theorem kJ20_indexOf_19 (z : XKT) : XOi z xInf Y_J20_indexOf 19 (.inl (i_ifnull 22 24)) := ok_ifnonnull dJ20_indexOf_19 rfl
theorem kJ20_indexOf_22 (z : XKT) : XOi z xInf Y_J20_indexOf 22 (.inl (i_iload 2 23)) := ok_iload_n dJ20_indexOf_22 rfl
theorem kJ20_indexOf_23 (z : XKT) : XOi z xInf Y_J20_indexOf 23 (.inr (.inr (.inl (r_i .int)))) := show XOkR Y_J20_indexOf 23 ((r_i .int)) from okr_i (q := Y_J20_indexOf) (ty := .int) rfl rfl dJ20_indexOf_23
theorem kJ20_indexOf_24 (z : XKT) : XOi z xInf Y_J20_indexOf 24 (.inl (i_iinc 2 1 27)) := ok_iinc dJ20_indexOf_24 rfl
theorem kJ20_indexOf_27 (z : XKT) : XOi z xInf Y_J20_indexOf 27 (.inl (i_aload 3 28)) := ok_aload_n dJ20_indexOf_27 rfl
theorem kJ20_indexOf_28 (z : XKT) : XOi z xInf Y_J20_indexOf 28 (.inl (i_getr [14] 92 31)) := ok_getr dJ20_indexOf_28 q773 (List.forall_mem_cons.mpr ⟨⟨_, _, _, _, fd_92_14_0⟩, (fun _ h => absurd h List.not_mem_nil)⟩)
theorem kJ20_indexOf_31 (z : XKT) : XOi z xInf Y_J20_indexOf 31 (.inl (i_astore 3 32)) := ok_astore_n dJ20_indexOf_31 rfl
theorem kJ20_indexOf_32 (z : XKT) : XOi z xInf Y_J20_indexOf 32 (.inl (i_goto 11)) := ok_goto dJ20_indexOf_32 rfl
theorem kJ20_indexOf_35 (z : XKT) : XOi z xInf Y_J20_indexOf 35 (.inl (i_goto 71)) := ok_goto dJ20_indexOf_35 rfl
theorem kJ20_indexOf_38 (z : XKT) : XOi z xInf Y_J20_indexOf 38 (.inl (i_aload 0 39)) := ok_aload_n dJ20_indexOf_38 rfl
theorem kJ20_indexOf_39 (z : XKT) : XOi z xInf Y_J20_indexOf 39 (.inl (i_getr [13] 89 42)) := ok_getr dJ20_indexOf_39 q611 (List.forall_mem_cons.mpr ⟨⟨_, _, _, _, fd_89_13_0⟩, (fun _ h => absurd h List.not_mem_nil)⟩)
theorem kJ20_indexOf_42 (z : XKT) : XOi z xInf Y_J20_indexOf 42 (.inl (i_astore 3 43)) := ok_astore_n dJ20_indexOf_42 rfl
theorem kJ20_indexOf_43 (z : XKT) : XOi z xInf Y_J20_indexOf 43 (.inl (i_aload 3 44)) := ok_aload_n dJ20_indexOf_43 rfl
theorem kJ20_indexOf_44 (z : XKT) : XOi z xInf Y_J20_indexOf 44 (.inl (i_ifnull 71 47)) := ok_ifnull dJ20_indexOf_44 rfl
theorem kJ20_indexOf_47 (z : XKT) : XOi z xInf Y_J20_indexOf 47 (.inl (i_aload 1 48)) := ok_aload_n dJ20_indexOf_47 rfl
theorem kJ20_indexOf_48 (z : XKT) : XOi z xInf Y_J20_indexOf 48 (.inl (i_aload 3 49)) := ok_aload_n dJ20_indexOf_48 rfl
theorem kJ20_indexOf_49 (z : XKT) : XOi z xInf Y_J20_indexOf 49 (.inl (i_getr [14] 91 52)) := ok_getr dJ20_indexOf_49 q770 (List.forall_mem_cons.mpr ⟨⟨_, _, _, _, fd_91_14_0⟩, (fun _ h => absurd h List.not_mem_nil)⟩)
theorem kJ20_indexOf_52 (z : XKT) : XOi z xInf Y_J20_indexOf 52 (.inr (.inl (55, g_virt [(21, 402)] 1))) := show XOkC z xInf Y_J20_indexOf 52 55 (g_virt [(21, 402)] 1) from okc_V (q := Y_J20_indexOf) (List.forall_mem_cons.mpr ⟨(show XOkV z xInf Y_J20_indexOf 52 55 1 (21, 402) from okv_U (q := Y_J20_indexOf) (owner := "java/lang/Object") (x := ⟨"java/lang/Object", "equals", "(Ljava/lang/Object;)Z"⟩) (q1 := Y_J17_equals) Z_J17_equals rfl (by decide) ⟨by decide, by decide, Or.inl ⟨_, _, (List.mem_of_getElem? (l := xCls) (i := 20) rfl)⟩⟩ dJ20_indexOf_52 q1364 q1366 (Or.inl q1363) q1393 q1392 q145 q1394 ⟨hy_423.1, hy_423.2.1⟩ (by decide +kernel)), (fun _ h => absurd h List.not_mem_nil)⟩)
theorem kJ20_indexOf_55 (z : XKT) : XOi z xInf Y_J20_indexOf 55 (.inl (i_if (fun x => x = 0) 60 58)) := ok_if_eq dJ20_indexOf_55 rfl
theorem kJ20_indexOf_58 (z : XKT) : XOi z xInf Y_J20_indexOf 58 (.inl (i_iload 2 59)) := ok_iload_n dJ20_indexOf_58 rfl
theorem kJ20_indexOf_59 (z : XKT) : XOi z xInf Y_J20_indexOf 59 (.inr (.inr (.inl (r_i .int)))) := show XOkR Y_J20_indexOf 59 ((r_i .int)) from okr_i (q := Y_J20_indexOf) (ty := .int) rfl rfl dJ20_indexOf_59
theorem kJ20_indexOf_60 (z : XKT) : XOi z xInf Y_J20_indexOf 60 (.inl (i_iinc 2 1 63)) := ok_iinc dJ20_indexOf_60 rfl
theorem kJ20_indexOf_63 (z : XKT) : XOi z xInf Y_J20_indexOf 63 (.inl (i_aload 3 64)) := ok_aload_n dJ20_indexOf_63 rfl
theorem kJ20_indexOf_64 (z : XKT) : XOi z xInf Y_J20_indexOf 64 (.inl (i_getr [14] 92 67)) := ok_getr dJ20_indexOf_64 q773 (List.forall_mem_cons.mpr ⟨⟨_, _, _, _, fd_92_14_0⟩, (fun _ h => absurd h List.not_mem_nil)⟩)
theorem kJ20_indexOf_67 (z : XKT) : XOi z xInf Y_J20_indexOf 67 (.inl (i_astore 3 68)) := ok_astore_n dJ20_indexOf_67 rfl
theorem kJ20_indexOf_68 (z : XKT) : XOi z xInf Y_J20_indexOf 68 (.inl (i_goto 43)) := ok_goto dJ20_indexOf_68 rfl
theorem kJ20_indexOf_71 (z : XKT) : XOi z xInf Y_J20_indexOf 71 (.inl (i_push (vI (-1)) 72)) := ok_iconst dJ20_indexOf_71 rfl
theorem kJ20_indexOf_72 (z : XKT) : XOi z xInf Y_J20_indexOf 72 (.inr (.inr (.inl (r_i .int)))) := show XOkR Y_J20_indexOf 72 ((r_i .int)) from okr_i (q := Y_J20_indexOf) (ty := .int) rfl rfl dJ20_indexOf_72
theorem o_J20_indexOf (z : XKT) : XMi z xInf Y_J20_indexOf := XMi.mk9 (T := T_J20_indexOf z) rfl (⟨kJ20_indexOf_0 z, ⟨kJ20_indexOf_1 z, ⟨kJ20_indexOf_2 z, ⟨kJ20_indexOf_3 z, ⟨kJ20_indexOf_6 z, ⟨kJ20_indexOf_7 z, ⟨kJ20_indexOf_10 z, ⟨kJ20_indexOf_11 z, ⟨kJ20_indexOf_12 z, ⟨kJ20_indexOf_15 z, ⟨kJ20_indexOf_16 z, ⟨kJ20_indexOf_19 z, ⟨kJ20_indexOf_22 z, ⟨kJ20_indexOf_23 z, ⟨kJ20_indexOf_24 z, ⟨kJ20_indexOf_27 z, ⟨kJ20_indexOf_28 z, ⟨kJ20_indexOf_31 z, ⟨kJ20_indexOf_32 z, ⟨kJ20_indexOf_35 z, ⟨kJ20_indexOf_38 z, ⟨kJ20_indexOf_39 z, ⟨kJ20_indexOf_42 z, ⟨kJ20_indexOf_43 z, ⟨kJ20_indexOf_44 z, ⟨kJ20_indexOf_47 z, ⟨kJ20_indexOf_48 z, ⟨kJ20_indexOf_49 z, ⟨kJ20_indexOf_52 z, ⟨kJ20_indexOf_55 z, ⟨kJ20_indexOf_58 z, ⟨kJ20_indexOf_59 z, ⟨kJ20_indexOf_60 z, ⟨kJ20_indexOf_63 z, ⟨kJ20_indexOf_64 z, ⟨kJ20_indexOf_67 z, ⟨kJ20_indexOf_68 z, ⟨kJ20_indexOf_71 z, ⟨kJ20_indexOf_72 z, trivial⟩⟩⟩⟩⟩⟩⟩⟩⟩⟩⟩⟩⟩⟩⟩⟩⟩⟩⟩⟩⟩⟩⟩⟩⟩⟩⟩⟩⟩⟩⟩⟩⟩⟩⟩⟩⟩⟩⟩) (hd_J20_indexOf z) rfl rfl (by decide +kernel)
theorem hd_J20_init (z : XKT) : XHd z Y_J20_init := xHd_none rfl (xhd0 rfl)
theorem kJ20_init_0 (z : XKT) : XOi z xInf Y_J20_init 0 (.inl (i_aload 0 1)) := ok_aload_n dJ20_init_0 rfl
theorem kJ20_init_1 (z : XKT) : XOi z xInf Y_J20_init 1 (.inr (.inl (4, g_spec 410 0))) := show XOkC z xInf Y_J20_init 1 4 (g_spec 410 0) from okc_I (q := Y_J20_init) (q1 := Y_J19_init) Z_J19_init rfl rfl rfl (by decide) dJ20_init_1 q605 q606 q149 q607 hy_424
theorem kJ20_init_4 (z : XKT) : XOi z xInf Y_J20_init 4 (.inl (i_aload 0 5)) := ok_aload_n dJ20_init_4 rfl
theorem kJ20_init_5 (z : XKT) : XOi z xInf Y_J20_init 5 (.inl (i_push (vI 0) 6)) := ok_iconst dJ20_init_5 rfl
theorem kJ20_init_6 (z : XKT) : XOi z xInf Y_J20_init 6 (.inl (i_puti z.1 [13] .int 88 9)) := ok_puti dJ20_init_6 q609 rfl (List.forall_mem_cons.mpr ⟨⟨_, _, _, _, tyJ20, fd_88_13_0, ⟨tyJ20_ok, nmJ20, (Or.inl rfl)⟩, rfl⟩, (fun _ h => absurd h List.not_mem_nil)⟩)
theorem kJ20_init_9 (z : XKT) : XOi z xInf Y_J20_init 9 (.inr (.inr (.inl r_v))) := show XOkR Y_J20_init 9 (r_v) from okr_v (q := Y_J20_init) rfl dJ20_init_9
theorem o_J20_init (z : XKT) : XMi z xInf Y_J20_init := XMi.mk9 (T := T_J20_init z) rfl (⟨kJ20_init_0 z, ⟨kJ20_init_1 z, ⟨kJ20_init_4 z, ⟨kJ20_init_5 z, ⟨kJ20_init_6 z, ⟨kJ20_init_9 z, trivial⟩⟩⟩⟩⟩⟩) (hd_J20_init z) rfl rfl (by decide +kernel)
theorem hd_J20_isElementIndex (z : XKT) : XHd z Y_J20_isElementIndex := xHd_none rfl (xhd0 rfl)
theorem kJ20_isElementIndex_0 (z : XKT) : XOi z xInf Y_J20_isElementIndex 0 (.inl (i_iload 1 1)) := ok_iload_n dJ20_isElementIndex_0 rfl
theorem kJ20_isElementIndex_1 (z : XKT) : XOi z xInf Y_J20_isElementIndex 1 (.inl (i_if (fun x => x < 0) 16 4)) := ok_if_lt dJ20_isElementIndex_1 rfl
theorem kJ20_isElementIndex_4 (z : XKT) : XOi z xInf Y_J20_isElementIndex 4 (.inl (i_iload 1 5)) := ok_iload_n dJ20_isElementIndex_4 rfl
theorem kJ20_isElementIndex_5 (z : XKT) : XOi z xInf Y_J20_isElementIndex 5 (.inl (i_aload 0 6)) := ok_aload_n dJ20_isElementIndex_5 rfl
theorem kJ20_isElementIndex_6 (z : XKT) : XOi z xInf Y_J20_isElementIndex 6 (.inl (i_geti [13] 88 9)) := ok_geti dJ20_isElementIndex_6 q609 (List.forall_mem_cons.mpr ⟨⟨_, _, _, _, fd_88_13_0⟩, (fun _ h => absurd h List.not_mem_nil)⟩)
theorem kJ20_isElementIndex_9 (z : XKT) : XOi z xInf Y_J20_isElementIndex 9 (.inl (i_icmp (fun x y => y ≤ x) 16 12)) := ok_icmp_ge dJ20_isElementIndex_9 rfl
theorem kJ20_isElementIndex_12 (z : XKT) : XOi z xInf Y_J20_isElementIndex 12 (.inl (i_push (vI 1) 13)) := ok_iconst dJ20_isElementIndex_12 rfl
theorem kJ20_isElementIndex_13 (z : XKT) : XOi z xInf Y_J20_isElementIndex 13 (.inl (i_goto 17)) := ok_goto dJ20_isElementIndex_13 rfl
theorem kJ20_isElementIndex_16 (z : XKT) : XOi z xInf Y_J20_isElementIndex 16 (.inl (i_push (vI 0) 17)) := ok_iconst dJ20_isElementIndex_16 rfl
theorem kJ20_isElementIndex_17 (z : XKT) : XOi z xInf Y_J20_isElementIndex 17 (.inr (.inr (.inl (r_i .boolean)))) := show XOkR Y_J20_isElementIndex 17 ((r_i .boolean)) from okr_i (q := Y_J20_isElementIndex) (ty := .boolean) rfl rfl dJ20_isElementIndex_17
theorem o_J20_isElementIndex (z : XKT) : XMi z xInf Y_J20_isElementIndex := XMi.mk9 (T := T_J20_isElementIndex z) rfl (⟨kJ20_isElementIndex_0 z, ⟨kJ20_isElementIndex_1 z, ⟨kJ20_isElementIndex_4 z, ⟨kJ20_isElementIndex_5 z, ⟨kJ20_isElementIndex_6 z, ⟨kJ20_isElementIndex_9 z, ⟨kJ20_isElementIndex_12 z, ⟨kJ20_isElementIndex_13 z, ⟨kJ20_isElementIndex_16 z, ⟨kJ20_isElementIndex_17 z, trivial⟩⟩⟩⟩⟩⟩⟩⟩⟩⟩) (hd_J20_isElementIndex z) rfl rfl (by decide +kernel)
theorem hd_J20_isPositionIndex (z : XKT) : XHd z Y_J20_isPositionIndex := xHd_none rfl (xhd0 rfl)
theorem kJ20_isPositionIndex_0 (z : XKT) : XOi z xInf Y_J20_isPositionIndex 0 (.inl (i_iload 1 1)) := ok_iload_n dJ20_isPositionIndex_0 rfl
theorem kJ20_isPositionIndex_1 (z : XKT) : XOi z xInf Y_J20_isPositionIndex 1 (.inl (i_if (fun x => x < 0) 16 4)) := ok_if_lt dJ20_isPositionIndex_1 rfl
theorem kJ20_isPositionIndex_4 (z : XKT) : XOi z xInf Y_J20_isPositionIndex 4 (.inl (i_iload 1 5)) := ok_iload_n dJ20_isPositionIndex_4 rfl
theorem kJ20_isPositionIndex_5 (z : XKT) : XOi z xInf Y_J20_isPositionIndex 5 (.inl (i_aload 0 6)) := ok_aload_n dJ20_isPositionIndex_5 rfl
theorem kJ20_isPositionIndex_6 (z : XKT) : XOi z xInf Y_J20_isPositionIndex 6 (.inl (i_geti [13] 88 9)) := ok_geti dJ20_isPositionIndex_6 q609 (List.forall_mem_cons.mpr ⟨⟨_, _, _, _, fd_88_13_0⟩, (fun _ h => absurd h List.not_mem_nil)⟩)
theorem kJ20_isPositionIndex_9 (z : XKT) : XOi z xInf Y_J20_isPositionIndex 9 (.inl (i_icmp (fun x y => y < x) 16 12)) := ok_icmp_gt dJ20_isPositionIndex_9 rfl
theorem kJ20_isPositionIndex_12 (z : XKT) : XOi z xInf Y_J20_isPositionIndex 12 (.inl (i_push (vI 1) 13)) := ok_iconst dJ20_isPositionIndex_12 rfl
theorem kJ20_isPositionIndex_13 (z : XKT) : XOi z xInf Y_J20_isPositionIndex 13 (.inl (i_goto 17)) := ok_goto dJ20_isPositionIndex_13 rfl
theorem kJ20_isPositionIndex_16 (z : XKT) : XOi z xInf Y_J20_isPositionIndex 16 (.inl (i_push (vI 0) 17)) := ok_iconst dJ20_isPositionIndex_16 rfl
theorem kJ20_isPositionIndex_17 (z : XKT) : XOi z xInf Y_J20_isPositionIndex 17 (.inr (.inr (.inl (r_i .boolean)))) := show XOkR Y_J20_isPositionIndex 17 ((r_i .boolean)) from okr_i (q := Y_J20_isPositionIndex) (ty := .boolean) rfl rfl dJ20_isPositionIndex_17
theorem o_J20_isPositionIndex (z : XKT) : XMi z xInf Y_J20_isPositionIndex := XMi.mk9 (T := T_J20_isPositionIndex z) rfl (⟨kJ20_isPositionIndex_0 z, ⟨kJ20_isPositionIndex_1 z, ⟨kJ20_isPositionIndex_4 z, ⟨kJ20_isPositionIndex_5 z, ⟨kJ20_isPositionIndex_6 z, ⟨kJ20_isPositionIndex_9 z, ⟨kJ20_isPositionIndex_12 z, ⟨kJ20_isPositionIndex_13 z, ⟨kJ20_isPositionIndex_16 z, ⟨kJ20_isPositionIndex_17 z, trivial⟩⟩⟩⟩⟩⟩⟩⟩⟩⟩) (hd_J20_isPositionIndex z) rfl rfl (by decide +kernel)
theorem hd_J20_linkLast (z : XKT) : XHd z Y_J20_linkLast := xHd_none rfl (xhd0 rfl)
theorem kJ20_linkLast_0 (z : XKT) : XOi z xInf Y_J20_linkLast 0 (.inl (i_aload 0 1)) := ok_aload_n dJ20_linkLast_0 rfl
theorem kJ20_linkLast_1 (z : XKT) : XOi z xInf Y_J20_linkLast 1 (.inl (i_getr [13] 90 4)) := ok_getr dJ20_linkLast_1 q612 (List.forall_mem_cons.mpr ⟨⟨_, _, _, _, fd_90_13_0⟩, (fun _ h => absurd h List.not_mem_nil)⟩)
theorem kJ20_linkLast_4 (z : XKT) : XOi z xInf Y_J20_linkLast 4 (.inl (i_astore 2 5)) := ok_astore_n dJ20_linkLast_4 rfl
theorem kJ20_linkLast_5 (z : XKT) : XOi z xInf Y_J20_linkLast 5 (.inl (i_new 14 3 8)) := ok_new dJ20_linkLast_5 q762 q763 q151 (List.mem_of_getElem? (l := xCls) (i := 13) rfl) rfl in_J21 tyJ21_ok rfl (by decide) (by decide)
theorem kJ20_linkLast_8 (z : XKT) : XOi z xInf Y_J20_linkLast 8 (.inl (i_dup 9)) := ok_dup dJ20_linkLast_8
theorem kJ20_linkLast_9 (z : XKT) : XOi z xInf Y_J20_linkLast 9 (.inl (i_aload 2 10)) := ok_aload_n dJ20_linkLast_9 rfl
theorem kJ20_linkLast_10 (z : XKT) : XOi z xInf Y_J20_linkLast 10 (.inl (i_aload 1 11)) := ok_aload_n dJ20_linkLast_10 rfl
theorem kJ20_linkLast_11 (z : XKT) : XOi z xInf Y_J20_linkLast 11 (.inl (i_push (vR none) 12)) := ok_null dJ20_linkLast_11
theorem kJ20_linkLast_12 (z : XKT) : XOi z xInf Y_J20_linkLast 12 (.inr (.inl (15, g_spec 430 3))) := show XOkC z xInf Y_J20_linkLast 12 15 (g_spec 430 3) from okc_I (q := Y_J20_linkLast) (q1 := Y_J21_init) Z_J21_init rfl rfl rfl (by decide) dJ20_linkLast_12 q764 q765 q151 q766 hy_425
theorem kJ20_linkLast_15 (z : XKT) : XOi z xInf Y_J20_linkLast 15 (.inl (i_astore 3 16)) := ok_astore_n dJ20_linkLast_15 rfl
theorem kJ20_linkLast_16 (z : XKT) : XOi z xInf Y_J20_linkLast 16 (.inl (i_aload 0 17)) := ok_aload_n dJ20_linkLast_16 rfl
theorem kJ20_linkLast_17 (z : XKT) : XOi z xInf Y_J20_linkLast 17 (.inl (i_aload 3 18)) := ok_aload_n dJ20_linkLast_17 rfl
theorem kJ20_linkLast_18 (z : XKT) : XOi z xInf Y_J20_linkLast 18 (.inl (i_putr z.1 [13] 90 21)) := ok_putr dJ20_linkLast_18 q612 (List.forall_mem_cons.mpr ⟨⟨_, _, _, _, tyJ20, fd_90_13_0, ⟨tyJ20_ok, nmJ20, (Or.inl rfl)⟩, (Or.inl ⟨_, rfl⟩)⟩, (fun _ h => absurd h List.not_mem_nil)⟩)
theorem kJ20_linkLast_21 (z : XKT) : XOi z xInf Y_J20_linkLast 21 (.inl (i_aload 2 22)) := ok_aload_n dJ20_linkLast_21 rfl
theorem kJ20_linkLast_22 (z : XKT) : XOi z xInf Y_J20_linkLast 22 (.inl (i_ifnull 25 33)) := ok_ifnonnull dJ20_linkLast_22 rfl
theorem kJ20_linkLast_25 (z : XKT) : XOi z xInf Y_J20_linkLast 25 (.inl (i_aload 0 26)) := ok_aload_n dJ20_linkLast_25 rfl
theorem kJ20_linkLast_26 (z : XKT) : XOi z xInf Y_J20_linkLast 26 (.inl (i_aload 3 27)) := ok_aload_n dJ20_linkLast_26 rfl
theorem kJ20_linkLast_27 (z : XKT) : XOi z xInf Y_J20_linkLast 27 (.inl (i_putr z.1 [13] 89 30)) := ok_putr dJ20_linkLast_27 q611 (List.forall_mem_cons.mpr ⟨⟨_, _, _, _, tyJ20, fd_89_13_0, ⟨tyJ20_ok, nmJ20, (Or.inl rfl)⟩, (Or.inl ⟨_, rfl⟩)⟩, (fun _ h => absurd h List.not_mem_nil)⟩)
theorem kJ20_linkLast_30 (z : XKT) : XOi z xInf Y_J20_linkLast 30 (.inl (i_goto 38)) := ok_goto dJ20_linkLast_30 rfl
theorem kJ20_linkLast_33 (z : XKT) : XOi z xInf Y_J20_linkLast 33 (.inl (i_aload 2 34)) := ok_aload_n dJ20_linkLast_33 rfl
theorem kJ20_linkLast_34 (z : XKT) : XOi z xInf Y_J20_linkLast 34 (.inl (i_aload 3 35)) := ok_aload_n dJ20_linkLast_34 rfl
theorem kJ20_linkLast_35 (z : XKT) : XOi z xInf Y_J20_linkLast 35 (.inl (i_putr z.1 [14] 92 38)) := ok_putr dJ20_linkLast_35 q773 (List.forall_mem_cons.mpr ⟨⟨_, _, _, _, tyJ21, fd_92_14_0, ⟨tyJ21_ok, nmJ21, (Or.inl rfl)⟩, (Or.inl ⟨_, rfl⟩)⟩, (fun _ h => absurd h List.not_mem_nil)⟩)
theorem kJ20_linkLast_38 (z : XKT) : XOi z xInf Y_J20_linkLast 38 (.inl (i_aload 0 39)) := ok_aload_n dJ20_linkLast_38 rfl
theorem kJ20_linkLast_39 (z : XKT) : XOi z xInf Y_J20_linkLast 39 (.inl (i_dup 40)) := ok_dup dJ20_linkLast_39
theorem kJ20_linkLast_40 (z : XKT) : XOi z xInf Y_J20_linkLast 40 (.inl (i_geti [13] 88 43)) := ok_geti dJ20_linkLast_40 q609 (List.forall_mem_cons.mpr ⟨⟨_, _, _, _, fd_88_13_0⟩, (fun _ h => absurd h List.not_mem_nil)⟩)
theorem kJ20_linkLast_43 (z : XKT) : XOi z xInf Y_J20_linkLast 43 (.inl (i_push (vI 1) 44)) := ok_iconst dJ20_linkLast_43 rfl
theorem kJ20_linkLast_44 (z : XKT) : XOi z xInf Y_J20_linkLast 44 (.inl (i_bin (fun x y => x + y) 45)) := ok_iadd dJ20_linkLast_44
theorem kJ20_linkLast_45 (z : XKT) : XOi z xInf Y_J20_linkLast 45 (.inl (i_puti z.1 [13] .int 88 48)) := ok_puti dJ20_linkLast_45 q609 rfl (List.forall_mem_cons.mpr ⟨⟨_, _, _, _, tyJ20, fd_88_13_0, ⟨tyJ20_ok, nmJ20, (Or.inl rfl)⟩, rfl⟩, (fun _ h => absurd h List.not_mem_nil)⟩)
theorem kJ20_linkLast_48 (z : XKT) : XOi z xInf Y_J20_linkLast 48 (.inl (i_aload 0 49)) := ok_aload_n dJ20_linkLast_48 rfl
theorem kJ20_linkLast_49 (z : XKT) : XOi z xInf Y_J20_linkLast 49 (.inl (i_dup 50)) := ok_dup dJ20_linkLast_49
theorem kJ20_linkLast_50 (z : XKT) : XOi z xInf Y_J20_linkLast 50 (.inl (i_geti [13] 85 53)) := ok_geti dJ20_linkLast_50 q535 (List.forall_mem_cons.mpr ⟨⟨_, _, _, _, fd_85_13_1⟩, (fun _ h => absurd h List.not_mem_nil)⟩)
theorem kJ20_linkLast_53 (z : XKT) : XOi z xInf Y_J20_linkLast 53 (.inl (i_push (vI 1) 54)) := ok_iconst dJ20_linkLast_53 rfl
theorem kJ20_linkLast_54 (z : XKT) : XOi z xInf Y_J20_linkLast 54 (.inl (i_bin (fun x y => x + y) 55)) := ok_iadd dJ20_linkLast_54
theorem kJ20_linkLast_55 (z : XKT) : XOi z xInf Y_J20_linkLast 55 (.inl (i_puti z.1 [13] .int 85 58)) := ok_puti dJ20_linkLast_55 q535 rfl (List.forall_mem_cons.mpr ⟨⟨_, _, _, _, tyJ20, fd_85_13_1, ⟨tyJ20_ok, nmJ20, (Or.inl rfl)⟩, rfl⟩, (fun _ h => absurd h List.not_mem_nil)⟩)
theorem kJ20_linkLast_58 (z : XKT) : XOi z xInf Y_J20_linkLast 58 (.inr (.inr (.inl r_v))) := show XOkR Y_J20_linkLast 58 (r_v) from okr_v (q := Y_J20_linkLast) rfl dJ20_linkLast_58
theorem o_J20_linkLast (z : XKT) : XMi z xInf Y_J20_linkLast := XMi.mk9 (T := T_J20_linkLast z) rfl (⟨kJ20_linkLast_0 z, ⟨kJ20_linkLast_1 z, ⟨kJ20_linkLast_4 z, ⟨kJ20_linkLast_5 z, ⟨kJ20_linkLast_8 z, ⟨kJ20_linkLast_9 z, ⟨kJ20_linkLast_10 z, ⟨kJ20_linkLast_11 z, ⟨kJ20_linkLast_12 z, ⟨kJ20_linkLast_15 z, ⟨kJ20_linkLast_16 z, ⟨kJ20_linkLast_17 z, ⟨kJ20_linkLast_18 z, ⟨kJ20_linkLast_21 z, ⟨kJ20_linkLast_22 z, ⟨kJ20_linkLast_25 z, ⟨kJ20_linkLast_26 z, ⟨kJ20_linkLast_27 z, ⟨kJ20_linkLast_30 z, ⟨kJ20_linkLast_33 z, ⟨kJ20_linkLast_34 z, ⟨kJ20_linkLast_35 z, ⟨kJ20_linkLast_38 z, ⟨kJ20_linkLast_39 z, ⟨kJ20_linkLast_40 z, ⟨kJ20_linkLast_43 z, ⟨kJ20_linkLast_44 z, ⟨kJ20_linkLast_45 z, ⟨kJ20_linkLast_48 z, ⟨kJ20_linkLast_49 z, ⟨kJ20_linkLast_50 z, ⟨kJ20_linkLast_53 z, ⟨kJ20_linkLast_54 z, ⟨kJ20_linkLast_55 z, ⟨kJ20_linkLast_58 z, trivial⟩⟩⟩⟩⟩⟩⟩⟩⟩⟩⟩⟩⟩⟩⟩⟩⟩⟩⟩⟩⟩⟩⟩⟩⟩⟩⟩⟩⟩⟩⟩⟩⟩⟩⟩) (hd_J20_linkLast z) rfl rfl (by decide +kernel)
theorem hd_J20_listIterator (z : XKT) : XHd z Y_J20_listIterator := xHd_none rfl (xhd0 rfl)
theorem kJ20_listIterator_0 (z : XKT) : XOi z xInf Y_J20_listIterator 0 (.inl (i_aload 0 1)) := ok_aload_n dJ20_listIterator_0 rfl
theorem kJ20_listIterator_1 (z : XKT) : XOi z xInf Y_J20_listIterator 1 (.inl (i_iload 1 2)) := ok_iload_n dJ20_listIterator_1 rfl
theorem kJ20_listIterator_2 (z : XKT) : XOi z xInf Y_J20_listIterator 2 (.inr (.inl (5, g_virt [(13, 415)] 1))) := show XOkC z xInf Y_J20_listIterator 2 5 (g_virt [(13, 415)] 1) from okc_V (q := Y_J20_listIterator) (List.forall_mem_cons.mpr ⟨(show XOkV z xInf Y_J20_listIterator 2 5 1 (13, 415) from okv_V (q := Y_J20_listIterator) (q1 := Y_J20_checkPositionIndex) Z_J20_checkPositionIndex rfl (by decide) ⟨by decide, by decide, Or.inl ⟨_, _, (List.mem_of_getElem? (l := xCls) (i := 12) rfl)⟩⟩ dJ20_listIterator_2 q928 q930 qs7 q150 q931 hy_426), (fun _ h => absurd h List.not_mem_nil)⟩)
theorem kJ20_listIterator_5 (z : XKT) : XOi z xInf Y_J20_listIterator 5 (.inl (i_new 17 5 8)) := ok_new dJ20_listIterator_5 q936 q937 q161 (List.mem_of_getElem? (l := xCls) (i := 16) rfl) rfl in_J26 tyJ26_ok rfl (by decide) (by decide)
theorem kJ20_listIterator_8 (z : XKT) : XOi z xInf Y_J20_listIterator 8 (.inl (i_dup 9)) := ok_dup dJ20_listIterator_8
theorem kJ20_listIterator_9 (z : XKT) : XOi z xInf Y_J20_listIterator 9 (.inl (i_aload 0 10)) := ok_aload_n dJ20_listIterator_9 rfl
theorem kJ20_listIterator_10 (z : XKT) : XOi z xInf Y_J20_listIterator 10 (.inl (i_iload 1 11)) := ok_iload_n dJ20_listIterator_10 rfl
theorem kJ20_listIterator_11 (z : XKT) : XOi z xInf Y_J20_listIterator 11 (.inr (.inl (14, g_spec 451 2))) := show XOkC z xInf Y_J20_listIterator 11 14 (g_spec 451 2) from okc_I (q := Y_J20_listIterator) (q1 := Y_J26_init) Z_J26_init rfl rfl rfl (by decide) dJ20_listIterator_11 q938 q939 q161 q940 hy_427
theorem kJ20_listIterator_14 (z : XKT) : XOi z xInf Y_J20_listIterator 14 (.inr (.inr (.inl r_a))) := show XOkR Y_J20_listIterator 14 (r_a) from okr_a (q := Y_J20_listIterator) rfl (Or.inl ⟨_, rfl⟩) dJ20_listIterator_14
theorem o_J20_listIterator (z : XKT) : XMi z xInf Y_J20_listIterator := XMi.mk9 (T := T_J20_listIterator z) rfl (⟨kJ20_listIterator_0 z, ⟨kJ20_listIterator_1 z, ⟨kJ20_listIterator_2 z, ⟨kJ20_listIterator_5 z, ⟨kJ20_listIterator_8 z, ⟨kJ20_listIterator_9 z, ⟨kJ20_listIterator_10 z, ⟨kJ20_listIterator_11 z, ⟨kJ20_listIterator_14 z, trivial⟩⟩⟩⟩⟩⟩⟩⟩⟩) (hd_J20_listIterator z) rfl rfl (by decide +kernel)
theorem hd_J20_node (z : XKT) : XHd z Y_J20_node := xHd_none rfl (xhd0 rfl)
theorem kJ20_node_0 (z : XKT) : XOi z xInf Y_J20_node 0 (.inl (i_iload 1 1)) := ok_iload_n dJ20_node_0 rfl
theorem kJ20_node_1 (z : XKT) : XOi z xInf Y_J20_node 1 (.inl (i_aload 0 2)) := ok_aload_n dJ20_node_1 rfl
theorem kJ20_node_2 (z : XKT) : XOi z xInf Y_J20_node 2 (.inl (i_geti [13] 88 5)) := ok_geti dJ20_node_2 q609 (List.forall_mem_cons.mpr ⟨⟨_, _, _, _, fd_88_13_0⟩, (fun _ h => absurd h List.not_mem_nil)⟩)
theorem kJ20_node_5 (z : XKT) : XOi z xInf Y_J20_node 5 (.inl (i_push (vI 1) 6)) := ok_iconst dJ20_node_5 rfl
theorem kJ20_node_6 (z : XKT) : XOi z xInf Y_J20_node 6 (.inl (i_bin (fun x y => x >>> (y &&& 31)) 7)) := ok_ishr dJ20_node_6
theorem kJ20_node_7 (z : XKT) : XOi z xInf Y_J20_node 7 (.inl (i_icmp (fun x y => y ≤ x) 35 10)) := ok_icmp_ge dJ20_node_7 rfl
theorem kJ20_node_10 (z : XKT) : XOi z xInf Y_J20_node 10 (.inl (i_aload 0 11)) := ok_aload_n dJ20_node_10 rfl
theorem kJ20_node_11 (z : XKT) : XOi z xInf Y_J20_node 11 (.inl (i_getr [13] 89 14)) := ok_getr dJ20_node_11 q611 (List.forall_mem_cons.mpr ⟨⟨_, _, _, _, fd_89_13_0⟩, (fun _ h => absurd h List.not_mem_nil)⟩)
theorem kJ20_node_14 (z : XKT) : XOi z xInf Y_J20_node 14 (.inl (i_astore 2 15)) := ok_astore_n dJ20_node_14 rfl
theorem kJ20_node_15 (z : XKT) : XOi z xInf Y_J20_node 15 (.inl (i_push (vI 0) 16)) := ok_iconst dJ20_node_15 rfl
theorem kJ20_node_16 (z : XKT) : XOi z xInf Y_J20_node 16 (.inl (i_istore 3 17)) := ok_istore_n dJ20_node_16 rfl
theorem kJ20_node_17 (z : XKT) : XOi z xInf Y_J20_node 17 (.inl (i_iload 3 18)) := ok_iload_n dJ20_node_17 rfl
theorem kJ20_node_18 (z : XKT) : XOi z xInf Y_J20_node 18 (.inl (i_iload 1 19)) := ok_iload_n dJ20_node_18 rfl
theorem kJ20_node_19 (z : XKT) : XOi z xInf Y_J20_node 19 (.inl (i_icmp (fun x y => y ≤ x) 33 22)) := ok_icmp_ge dJ20_node_19 rfl
theorem kJ20_node_22 (z : XKT) : XOi z xInf Y_J20_node 22 (.inl (i_aload 2 23)) := ok_aload_n dJ20_node_22 rfl
theorem kJ20_node_23 (z : XKT) : XOi z xInf Y_J20_node 23 (.inl (i_getr [14] 92 26)) := ok_getr dJ20_node_23 q773 (List.forall_mem_cons.mpr ⟨⟨_, _, _, _, fd_92_14_0⟩, (fun _ h => absurd h List.not_mem_nil)⟩)
theorem kJ20_node_26 (z : XKT) : XOi z xInf Y_J20_node 26 (.inl (i_astore 2 27)) := ok_astore_n dJ20_node_26 rfl
theorem kJ20_node_27 (z : XKT) : XOi z xInf Y_J20_node 27 (.inl (i_iinc 3 1 30)) := ok_iinc dJ20_node_27 rfl
theorem kJ20_node_30 (z : XKT) : XOi z xInf Y_J20_node 30 (.inl (i_goto 17)) := ok_goto dJ20_node_30 rfl
theorem kJ20_node_33 (z : XKT) : XOi z xInf Y_J20_node 33 (.inl (i_aload 2 34)) := ok_aload_n dJ20_node_33 rfl
theorem kJ20_node_34 (z : XKT) : XOi z xInf Y_J20_node 34 (.inr (.inr (.inl r_a))) := show XOkR Y_J20_node 34 (r_a) from okr_a (q := Y_J20_node) rfl (Or.inl ⟨_, rfl⟩) dJ20_node_34
theorem kJ20_node_35 (z : XKT) : XOi z xInf Y_J20_node 35 (.inl (i_aload 0 36)) := ok_aload_n dJ20_node_35 rfl
theorem kJ20_node_36 (z : XKT) : XOi z xInf Y_J20_node 36 (.inl (i_getr [13] 90 39)) := ok_getr dJ20_node_36 q612 (List.forall_mem_cons.mpr ⟨⟨_, _, _, _, fd_90_13_0⟩, (fun _ h => absurd h List.not_mem_nil)⟩)
theorem kJ20_node_39 (z : XKT) : XOi z xInf Y_J20_node 39 (.inl (i_astore 2 40)) := ok_astore_n dJ20_node_39 rfl
theorem kJ20_node_40 (z : XKT) : XOi z xInf Y_J20_node 40 (.inl (i_aload 0 41)) := ok_aload_n dJ20_node_40 rfl
theorem kJ20_node_41 (z : XKT) : XOi z xInf Y_J20_node 41 (.inl (i_geti [13] 88 44)) := ok_geti dJ20_node_41 q609 (List.forall_mem_cons.mpr ⟨⟨_, _, _, _, fd_88_13_0⟩, (fun _ h => absurd h List.not_mem_nil)⟩)
theorem kJ20_node_44 (z : XKT) : XOi z xInf Y_J20_node 44 (.inl (i_push (vI 1) 45)) := ok_iconst dJ20_node_44 rfl
theorem kJ20_node_45 (z : XKT) : XOi z xInf Y_J20_node 45 (.inl (i_bin (fun x y => x - y) 46)) := ok_isub dJ20_node_45
theorem kJ20_node_46 (z : XKT) : XOi z xInf Y_J20_node 46 (.inl (i_istore 3 47)) := ok_istore_n dJ20_node_46 rfl
theorem kJ20_node_47 (z : XKT) : XOi z xInf Y_J20_node 47 (.inl (i_iload 3 48)) := ok_iload_n dJ20_node_47 rfl
theorem kJ20_node_48 (z : XKT) : XOi z xInf Y_J20_node 48 (.inl (i_iload 1 49)) := ok_iload_n dJ20_node_48 rfl
theorem kJ20_node_49 (z : XKT) : XOi z xInf Y_J20_node 49 (.inl (i_icmp (fun x y => x ≤ y) 63 52)) := ok_icmp_le dJ20_node_49 rfl
theorem kJ20_node_52 (z : XKT) : XOi z xInf Y_J20_node 52 (.inl (i_aload 2 53)) := ok_aload_n dJ20_node_52 rfl
theorem kJ20_node_53 (z : XKT) : XOi z xInf Y_J20_node 53 (.inl (i_getr [14] 93 56)) := ok_getr dJ20_node_53 q775 (List.forall_mem_cons.mpr ⟨⟨_, _, _, _, fd_93_14_0⟩, (fun _ h => absurd h List.not_mem_nil)⟩)
theorem kJ20_node_56 (z : XKT) : XOi z xInf Y_J20_node 56 (.inl (i_astore 2 57)) := ok_astore_n dJ20_node_56 rfl
theorem kJ20_node_57 (z : XKT) : XOi z xInf Y_J20_node 57 (.inl (i_iinc 3 (-1) 60)) := ok_iinc dJ20_node_57 rfl
theorem kJ20_node_60 (z : XKT) : XOi z xInf Y_J20_node 60 (.inl (i_goto 47)) := ok_goto dJ20_node_60 rfl
theorem kJ20_node_63 (z : XKT) : XOi z xInf Y_J20_node 63 (.inl (i_aload 2 64)) := ok_aload_n dJ20_node_63 rfl
theorem kJ20_node_64 (z : XKT) : XOi z xInf Y_J20_node 64 (.inr (.inr (.inl r_a))) := show XOkR Y_J20_node 64 (r_a) from okr_a (q := Y_J20_node) rfl (Or.inl ⟨_, rfl⟩) dJ20_node_64
theorem o_J20_node (z : XKT) : XMi z xInf Y_J20_node := XMi.mk9 (T := T_J20_node z) rfl (⟨kJ20_node_0 z, ⟨kJ20_node_1 z, ⟨kJ20_node_2 z, ⟨kJ20_node_5 z, ⟨kJ20_node_6 z, ⟨kJ20_node_7 z, ⟨kJ20_node_10 z, ⟨kJ20_node_11 z, ⟨kJ20_node_14 z, ⟨kJ20_node_15 z, ⟨kJ20_node_16 z, ⟨kJ20_node_17 z, ⟨kJ20_node_18 z, ⟨kJ20_node_19 z, ⟨kJ20_node_22 z, ⟨kJ20_node_23 z, ⟨kJ20_node_26 z, ⟨kJ20_node_27 z, ⟨kJ20_node_30 z, ⟨kJ20_node_33 z, ⟨kJ20_node_34 z, ⟨kJ20_node_35 z, ⟨kJ20_node_36 z, ⟨kJ20_node_39 z, ⟨kJ20_node_40 z, ⟨kJ20_node_41 z, ⟨kJ20_node_44 z, ⟨kJ20_node_45 z, ⟨kJ20_node_46 z, ⟨kJ20_node_47 z, ⟨kJ20_node_48 z, ⟨kJ20_node_49 z, ⟨kJ20_node_52 z, ⟨kJ20_node_53 z, ⟨kJ20_node_56 z, ⟨kJ20_node_57 z, ⟨kJ20_node_60 z, ⟨kJ20_node_63 z, ⟨kJ20_node_64 z, trivial⟩⟩⟩⟩⟩⟩⟩⟩⟩⟩⟩⟩⟩⟩⟩⟩⟩⟩⟩⟩⟩⟩⟩⟩⟩⟩⟩⟩⟩⟩⟩⟩⟩⟩⟩⟩⟩⟩⟩) (hd_J20_node z) rfl rfl (by decide +kernel)
theorem hd_J20_remove (z : XKT) : XHd z Y_J20_remove := xHd_none rfl (xhd0 rfl)
theorem kJ20_remove_0 (z : XKT) : XOi z xInf Y_J20_remove 0 (.inl (i_aload 1 1)) := ok_aload_n dJ20_remove_0 rfl
theorem kJ20_remove_1 (z : XKT) : XOi z xInf Y_J20_remove 1 (.inl (i_ifnull 4 39)) := ok_ifnonnull dJ20_remove_1 rfl
theorem kJ20_remove_4 (z : XKT) : XOi z xInf Y_J20_remove 4 (.inl (i_aload 0 5)) := ok_aload_n dJ20_remove_4 rfl
theorem kJ20_remove_5 (z : XKT) : XOi z xInf Y_J20_remove 5 (.inl (i_getr [13] 89 8)) := ok_getr dJ20_remove_5 q611 (List.forall_mem_cons.mpr ⟨⟨_, _, _, _, fd_89_13_0⟩, (fun _ h => absurd h List.not_mem_nil)⟩)
theorem kJ20_remove_8 (z : XKT) : XOi z xInf Y_J20_remove 8 (.inl (i_astore 2 9)) := ok_astore_n dJ20_remove_8 rfl
theorem kJ20_remove_9 (z : XKT) : XOi z xInf Y_J20_remove 9 (.inl (i_aload 2 10)) := ok_aload_n dJ20_remove_9 rfl
theorem kJ20_remove_10 (z : XKT) : XOi z xInf Y_J20_remove 10 (.inl (i_ifnull 36 13)) := ok_ifnull dJ20_remove_10 rfl
theorem kJ20_remove_13 (z : XKT) : XOi z xInf Y_J20_remove 13 (.inl (i_aload 2 14)) := ok_aload_n dJ20_remove_13 rfl
theorem kJ20_remove_14 (z : XKT) : XOi z xInf Y_J20_remove 14 (.inl (i_getr [14] 91 17)) := ok_getr dJ20_remove_14 q770 (List.forall_mem_cons.mpr ⟨⟨_, _, _, _, fd_91_14_0⟩, (fun _ h => absurd h List.not_mem_nil)⟩)
theorem kJ20_remove_17 (z : XKT) : XOi z xInf Y_J20_remove 17 (.inl (i_ifnull 20 28)) := ok_ifnonnull dJ20_remove_17 rfl
theorem kJ20_remove_20 (z : XKT) : XOi z xInf Y_J20_remove 20 (.inl (i_aload 0 21)) := ok_aload_n dJ20_remove_20 rfl
theorem kJ20_remove_21 (z : XKT) : XOi z xInf Y_J20_remove 21 (.inl (i_aload 2 22)) := ok_aload_n dJ20_remove_21 rfl
theorem kJ20_remove_22 (z : XKT) : XOi z xInf Y_J20_remove 22 (.inr (.inl (25, g_virt [(13, 429)] 1))) := show XOkC z xInf Y_J20_remove 22 25 (g_virt [(13, 429)] 1) from okc_V (q := Y_J20_remove) (List.forall_mem_cons.mpr ⟨(show XOkV z xInf Y_J20_remove 22 25 1 (13, 429) from okv_V (q := Y_J20_remove) (q1 := Y_J20_unlink) Z_J20_unlink rfl (by decide) ⟨by decide, by decide, Or.inl ⟨_, _, (List.mem_of_getElem? (l := xCls) (i := 12) rfl)⟩⟩ dJ20_remove_22 q1443 q1444 q1445 q150 q1446 hy_428), (fun _ h => absurd h List.not_mem_nil)⟩)
theorem kJ20_remove_25 (z : XKT) : XOi z xInf Y_J20_remove 25 (.inl (i_pop 26)) := ok_pop dJ20_remove_25
theorem kJ20_remove_26 (z : XKT) : XOi z xInf Y_J20_remove 26 (.inl (i_push (vI 1) 27)) := ok_iconst dJ20_remove_26 rfl
theorem kJ20_remove_27 (z : XKT) : XOi z xInf Y_J20_remove 27 (.inr (.inr (.inl (r_i .boolean)))) := show XOkR Y_J20_remove 27 ((r_i .boolean)) from okr_i (q := Y_J20_remove) (ty := .boolean) rfl rfl dJ20_remove_27
theorem kJ20_remove_28 (z : XKT) : XOi z xInf Y_J20_remove 28 (.inl (i_aload 2 29)) := ok_aload_n dJ20_remove_28 rfl
theorem kJ20_remove_29 (z : XKT) : XOi z xInf Y_J20_remove 29 (.inl (i_getr [14] 92 32)) := ok_getr dJ20_remove_29 q773 (List.forall_mem_cons.mpr ⟨⟨_, _, _, _, fd_92_14_0⟩, (fun _ h => absurd h List.not_mem_nil)⟩)
theorem kJ20_remove_32 (z : XKT) : XOi z xInf Y_J20_remove 32 (.inl (i_astore 2 33)) := ok_astore_n dJ20_remove_32 rfl
theorem kJ20_remove_33 (z : XKT) : XOi z xInf Y_J20_remove 33 (.inl (i_goto 9)) := ok_goto dJ20_remove_33 rfl
theorem kJ20_remove_36 (z : XKT) : XOi z xInf Y_J20_remove 36 (.inl (i_goto 75)) := ok_goto dJ20_remove_36 rfl
theorem kJ20_remove_39 (z : XKT) : XOi z xInf Y_J20_remove 39 (.inl (i_aload 0 40)) := ok_aload_n dJ20_remove_39 rfl
theorem kJ20_remove_40 (z : XKT) : XOi z xInf Y_J20_remove 40 (.inl (i_getr [13] 89 43)) := ok_getr dJ20_remove_40 q611 (List.forall_mem_cons.mpr ⟨⟨_, _, _, _, fd_89_13_0⟩, (fun _ h => absurd h List.not_mem_nil)⟩)
theorem kJ20_remove_43 (z : XKT) : XOi z xInf Y_J20_remove 43 (.inl (i_astore 2 44)) := ok_astore_n dJ20_remove_43 rfl
theorem kJ20_remove_44 (z : XKT) : XOi z xInf Y_J20_remove 44 (.inl (i_aload 2 45)) := ok_aload_n dJ20_remove_44 rfl
theorem kJ20_remove_45 (z : XKT) : XOi z xInf Y_J20_remove 45 (.inl (i_ifnull 75 48)) := ok_ifnull dJ20_remove_45 rfl
theorem kJ20_remove_48 (z : XKT) : XOi z xInf Y_J20_remove 48 (.inl (i_aload 1 49)) := ok_aload_n dJ20_remove_48 rfl
theorem kJ20_remove_49 (z : XKT) : XOi z xInf Y_J20_remove 49 (.inl (i_aload 2 50)) := ok_aload_n dJ20_remove_49 rfl
theorem kJ20_remove_50 (z : XKT) : XOi z xInf Y_J20_remove 50 (.inl (i_getr [14] 91 53)) := ok_getr dJ20_remove_50 q770 (List.forall_mem_cons.mpr ⟨⟨_, _, _, _, fd_91_14_0⟩, (fun _ h => absurd h List.not_mem_nil)⟩)
theorem kJ20_remove_53 (z : XKT) : XOi z xInf Y_J20_remove 53 (.inr (.inl (56, g_virt [(21, 402)] 1))) := show XOkC z xInf Y_J20_remove 53 56 (g_virt [(21, 402)] 1) from okc_V (q := Y_J20_remove) (List.forall_mem_cons.mpr ⟨(show XOkV z xInf Y_J20_remove 53 56 1 (21, 402) from okv_U (q := Y_J20_remove) (owner := "java/lang/Object") (x := ⟨"java/lang/Object", "equals", "(Ljava/lang/Object;)Z"⟩) (q1 := Y_J17_equals) Z_J17_equals rfl (by decide) ⟨by decide, by decide, Or.inl ⟨_, _, (List.mem_of_getElem? (l := xCls) (i := 20) rfl)⟩⟩ dJ20_remove_53 q1364 q1366 (Or.inl q1363) q1393 q1392 q145 q1394 ⟨hy_423.1, hy_423.2.1⟩ (by decide +kernel)), (fun _ h => absurd h List.not_mem_nil)⟩)
theorem kJ20_remove_56 (z : XKT) : XOi z xInf Y_J20_remove 56 (.inl (i_if (fun x => x = 0) 67 59)) := ok_if_eq dJ20_remove_56 rfl
theorem kJ20_remove_59 (z : XKT) : XOi z xInf Y_J20_remove 59 (.inl (i_aload 0 60)) := ok_aload_n dJ20_remove_59 rfl
theorem kJ20_remove_60 (z : XKT) : XOi z xInf Y_J20_remove 60 (.inl (i_aload 2 61)) := ok_aload_n dJ20_remove_60 rfl
theorem kJ20_remove_61 (z : XKT) : XOi z xInf Y_J20_remove 61 (.inr (.inl (64, g_virt [(13, 429)] 1))) := show XOkC z xInf Y_J20_remove 61 64 (g_virt [(13, 429)] 1) from okc_V (q := Y_J20_remove) (List.forall_mem_cons.mpr ⟨(show XOkV z xInf Y_J20_remove 61 64 1 (13, 429) from okv_V (q := Y_J20_remove) (q1 := Y_J20_unlink) Z_J20_unlink rfl (by decide) ⟨by decide, by decide, Or.inl ⟨_, _, (List.mem_of_getElem? (l := xCls) (i := 12) rfl)⟩⟩ dJ20_remove_61 q1443 q1444 q1445 q150 q1446 hy_428), (fun _ h => absurd h List.not_mem_nil)⟩)
theorem kJ20_remove_64 (z : XKT) : XOi z xInf Y_J20_remove 64 (.inl (i_pop 65)) := ok_pop dJ20_remove_64
theorem kJ20_remove_65 (z : XKT) : XOi z xInf Y_J20_remove 65 (.inl (i_push (vI 1) 66)) := ok_iconst dJ20_remove_65 rfl
theorem kJ20_remove_66 (z : XKT) : XOi z xInf Y_J20_remove 66 (.inr (.inr (.inl (r_i .boolean)))) := show XOkR Y_J20_remove 66 ((r_i .boolean)) from okr_i (q := Y_J20_remove) (ty := .boolean) rfl rfl dJ20_remove_66
theorem kJ20_remove_67 (z : XKT) : XOi z xInf Y_J20_remove 67 (.inl (i_aload 2 68)) := ok_aload_n dJ20_remove_67 rfl
theorem kJ20_remove_68 (z : XKT) : XOi z xInf Y_J20_remove 68 (.inl (i_getr [14] 92 71)) := ok_getr dJ20_remove_68 q773 (List.forall_mem_cons.mpr ⟨⟨_, _, _, _, fd_92_14_0⟩, (fun _ h => absurd h List.not_mem_nil)⟩)
theorem kJ20_remove_71 (z : XKT) : XOi z xInf Y_J20_remove 71 (.inl (i_astore 2 72)) := ok_astore_n dJ20_remove_71 rfl
theorem kJ20_remove_72 (z : XKT) : XOi z xInf Y_J20_remove 72 (.inl (i_goto 44)) := ok_goto dJ20_remove_72 rfl
theorem kJ20_remove_75 (z : XKT) : XOi z xInf Y_J20_remove 75 (.inl (i_push (vI 0) 76)) := ok_iconst dJ20_remove_75 rfl
theorem kJ20_remove_76 (z : XKT) : XOi z xInf Y_J20_remove 76 (.inr (.inr (.inl (r_i .boolean)))) := show XOkR Y_J20_remove 76 ((r_i .boolean)) from okr_i (q := Y_J20_remove) (ty := .boolean) rfl rfl dJ20_remove_76
theorem o_J20_remove (z : XKT) : XMi z xInf Y_J20_remove := XMi.mk9 (T := T_J20_remove z) rfl (⟨kJ20_remove_0 z, ⟨kJ20_remove_1 z, ⟨kJ20_remove_4 z, ⟨kJ20_remove_5 z, ⟨kJ20_remove_8 z, ⟨kJ20_remove_9 z, ⟨kJ20_remove_10 z, ⟨kJ20_remove_13 z, ⟨kJ20_remove_14 z, ⟨kJ20_remove_17 z, ⟨kJ20_remove_20 z, ⟨kJ20_remove_21 z, ⟨kJ20_remove_22 z, ⟨kJ20_remove_25 z, ⟨kJ20_remove_26 z, ⟨kJ20_remove_27 z, ⟨kJ20_remove_28 z, ⟨kJ20_remove_29 z, ⟨kJ20_remove_32 z, ⟨kJ20_remove_33 z, ⟨kJ20_remove_36 z, ⟨kJ20_remove_39 z, ⟨kJ20_remove_40 z, ⟨kJ20_remove_43 z, ⟨kJ20_remove_44 z, ⟨kJ20_remove_45 z, ⟨kJ20_remove_48 z, ⟨kJ20_remove_49 z, ⟨kJ20_remove_50 z, ⟨kJ20_remove_53 z, ⟨kJ20_remove_56 z, ⟨kJ20_remove_59 z, ⟨kJ20_remove_60 z, ⟨kJ20_remove_61 z, ⟨kJ20_remove_64 z, ⟨kJ20_remove_65 z, ⟨kJ20_remove_66 z, ⟨kJ20_remove_67 z, ⟨kJ20_remove_68 z, ⟨kJ20_remove_71 z, ⟨kJ20_remove_72 z, ⟨kJ20_remove_75 z, ⟨kJ20_remove_76 z, trivial⟩⟩⟩⟩⟩⟩⟩⟩⟩⟩⟩⟩⟩⟩⟩⟩⟩⟩⟩⟩⟩⟩⟩⟩⟩⟩⟩⟩⟩⟩⟩⟩⟩⟩⟩⟩⟩⟩⟩⟩⟩⟩⟩) (hd_J20_remove z) rfl rfl (by decide +kernel)
theorem hd_J20_removeFirstOccurrence (z : XKT) : XHd z Y_J20_removeFirstOccurrence := xHd_none rfl (xhd0 rfl)
theorem kJ20_removeFirstOccurrence_0 (z : XKT) : XOi z xInf Y_J20_removeFirstOccurrence 0 (.inl (i_aload 0 1)) := ok_aload_n dJ20_removeFirstOccurrence_0 rfl
theorem kJ20_removeFirstOccurrence_1 (z : XKT) : XOi z xInf Y_J20_removeFirstOccurrence 1 (.inl (i_aload 1 2)) := ok_aload_n dJ20_removeFirstOccurrence_1 rfl
theorem kJ20_removeFirstOccurrence_2 (z : XKT) : XOi z xInf Y_J20_removeFirstOccurrence 2 (.inr (.inl (5, g_virt [(13, 426)] 1))) := show XOkC z xInf Y_J20_removeFirstOccurrence 2 5 (g_virt [(13, 426)] 1) from okc_V (q := Y_J20_removeFirstOccurrence) (List.forall_mem_cons.mpr ⟨(show XOkV z xInf Y_J20_removeFirstOccurrence 2 5 1 (13, 426) from okv_V (q := Y_J20_removeFirstOccurrence) (q1 := Y_J20_remove) Z_J20_remove rfl (by decide) ⟨by decide, by decide, Or.inl ⟨_, _, (List.mem_of_getElem? (l := xCls) (i := 12) rfl)⟩⟩ dJ20_removeFirstOccurrence_2 q1439 q1440 q1441 q150 q1442 hy_429), (fun _ h => absurd h List.not_mem_nil)⟩)
theorem kJ20_removeFirstOccurrence_5 (z : XKT) : XOi z xInf Y_J20_removeFirstOccurrence 5 (.inr (.inr (.inl (r_i .boolean)))) := show XOkR Y_J20_removeFirstOccurrence 5 ((r_i .boolean)) from okr_i (q := Y_J20_removeFirstOccurrence) (ty := .boolean) rfl rfl dJ20_removeFirstOccurrence_5
theorem o_J20_removeFirstOccurrence (z : XKT) : XMi z xInf Y_J20_removeFirstOccurrence := XMi.mk9 (T := T_J20_removeFirstOccurrence z) rfl (⟨kJ20_removeFirstOccurrence_0 z, ⟨kJ20_removeFirstOccurrence_1 z, ⟨kJ20_removeFirstOccurrence_2 z, ⟨kJ20_removeFirstOccurrence_5 z, trivial⟩⟩⟩⟩) (hd_J20_removeFirstOccurrence z) rfl rfl (by decide +kernel)
theorem hd_J20_size (z : XKT) : XHd z Y_J20_size := xHd_none rfl (xhd0 rfl)
theorem kJ20_size_0 (z : XKT) : XOi z xInf Y_J20_size 0 (.inl (i_aload 0 1)) := ok_aload_n dJ20_size_0 rfl
theorem kJ20_size_1 (z : XKT) : XOi z xInf Y_J20_size 1 (.inl (i_geti [13] 88 4)) := ok_geti dJ20_size_1 q609 (List.forall_mem_cons.mpr ⟨⟨_, _, _, _, fd_88_13_0⟩, (fun _ h => absurd h List.not_mem_nil)⟩)
theorem kJ20_size_4 (z : XKT) : XOi z xInf Y_J20_size 4 (.inr (.inr (.inl (r_i .int)))) := show XOkR Y_J20_size 4 ((r_i .int)) from okr_i (q := Y_J20_size) (ty := .int) rfl rfl dJ20_size_4
theorem o_J20_size (z : XKT) : XMi z xInf Y_J20_size := XMi.mk9 (T := T_J20_size z) rfl (⟨kJ20_size_0 z, ⟨kJ20_size_1 z, ⟨kJ20_size_4 z, trivial⟩⟩⟩) (hd_J20_size z) rfl rfl (by decide +kernel)
theorem hd_J20_unlink (z : XKT) : XHd z Y_J20_unlink := xHd_none rfl (xhd0 rfl)
theorem kJ20_unlink_0 (z : XKT) : XOi z xInf Y_J20_unlink 0 (.inl (i_aload 1 1)) := ok_aload_n dJ20_unlink_0 rfl
theorem kJ20_unlink_1 (z : XKT) : XOi z xInf Y_J20_unlink 1 (.inl (i_getr [14] 91 4)) := ok_getr dJ20_unlink_1 q770 (List.forall_mem_cons.mpr ⟨⟨_, _, _, _, fd_91_14_0⟩, (fun _ h => absurd h List.not_mem_nil)⟩)
theorem kJ20_unlink_4 (z : XKT) : XOi z xInf Y_J20_unlink 4 (.inl (i_astore 2 5)) := ok_astore_n dJ20_unlink_4 rfl
theorem kJ20_unlink_5 (z : XKT) : XOi z xInf Y_J20_unlink 5 (.inl (i_aload 1 6)) := ok_aload_n dJ20_unlink_5 rfl
theorem kJ20_unlink_6 (z : XKT) : XOi z xInf Y_J20_unlink 6 (.inl (i_getr [14] 92 9)) := ok_getr dJ20_unlink_6 q773 (List.forall_mem_cons.mpr ⟨⟨_, _, _, _, fd_92_14_0⟩, (fun _ h => absurd h List.not_mem_nil)⟩)
theorem kJ20_unlink_9 (z : XKT) : XOi z xInf Y_J20_unlink 9 (.inl (i_astore 3 10)) := ok_astore_n dJ20_unlink_9 rfl
theorem kJ20_unlink_10 (z : XKT) : XOi z xInf Y_J20_unlink 10 (.inl (i_aload 1 11)) := ok_aload_n dJ20_unlink_10 rfl
theorem kJ20_unlink_11 (z : XKT) : XOi z xInf Y_J20_unlink 11 (.inl (i_getr [14] 93 14)) := ok_getr dJ20_unlink_11 q775 (List.forall_mem_cons.mpr ⟨⟨_, _, _, _, fd_93_14_0⟩, (fun _ h => absurd h List.not_mem_nil)⟩)
theorem kJ20_unlink_14 (z : XKT) : XOi z xInf Y_J20_unlink 14 (.inl (i_astore 4 16)) := ok_astore dJ20_unlink_14
theorem kJ20_unlink_16 (z : XKT) : XOi z xInf Y_J20_unlink 16 (.inl (i_aload 4 18)) := ok_aload dJ20_unlink_16
theorem kJ20_unlink_18 (z : XKT) : XOi z xInf Y_J20_unlink 18 (.inl (i_ifnull 21 29)) := ok_ifnonnull dJ20_unlink_18 rfl
theorem kJ20_unlink_21 (z : XKT) : XOi z xInf Y_J20_unlink 21 (.inl (i_aload 0 22)) := ok_aload_n dJ20_unlink_21 rfl
theorem kJ20_unlink_22 (z : XKT) : XOi z xInf Y_J20_unlink 22 (.inl (i_aload 3 23)) := ok_aload_n dJ20_unlink_22 rfl
theorem kJ20_unlink_23 (z : XKT) : XOi z xInf Y_J20_unlink 23 (.inl (i_putr z.1 [13] 89 26)) := ok_putr dJ20_unlink_23 q611 (List.forall_mem_cons.mpr ⟨⟨_, _, _, _, tyJ20, fd_89_13_0, ⟨tyJ20_ok, nmJ20, (Or.inl rfl)⟩, (Or.inl ⟨_, rfl⟩)⟩, (fun _ h => absurd h List.not_mem_nil)⟩)
theorem kJ20_unlink_26 (z : XKT) : XOi z xInf Y_J20_unlink 26 (.inl (i_goto 40)) := ok_goto dJ20_unlink_26 rfl
theorem kJ20_unlink_29 (z : XKT) : XOi z xInf Y_J20_unlink 29 (.inl (i_aload 4 31)) := ok_aload dJ20_unlink_29
theorem kJ20_unlink_31 (z : XKT) : XOi z xInf Y_J20_unlink 31 (.inl (i_aload 3 32)) := ok_aload_n dJ20_unlink_31 rfl
theorem kJ20_unlink_32 (z : XKT) : XOi z xInf Y_J20_unlink 32 (.inl (i_putr z.1 [14] 92 35)) := ok_putr dJ20_unlink_32 q773 (List.forall_mem_cons.mpr ⟨⟨_, _, _, _, tyJ21, fd_92_14_0, ⟨tyJ21_ok, nmJ21, (Or.inl rfl)⟩, (Or.inl ⟨_, rfl⟩)⟩, (fun _ h => absurd h List.not_mem_nil)⟩)
theorem kJ20_unlink_35 (z : XKT) : XOi z xInf Y_J20_unlink 35 (.inl (i_aload 1 36)) := ok_aload_n dJ20_unlink_35 rfl
theorem kJ20_unlink_36 (z : XKT) : XOi z xInf Y_J20_unlink 36 (.inl (i_push (vR none) 37)) := ok_null dJ20_unlink_36
theorem kJ20_unlink_37 (z : XKT) : XOi z xInf Y_J20_unlink 37 (.inl (i_putr z.1 [14] 93 40)) := ok_putr dJ20_unlink_37 q775 (List.forall_mem_cons.mpr ⟨⟨_, _, _, _, tyJ21, fd_93_14_0, ⟨tyJ21_ok, nmJ21, (Or.inl rfl)⟩, (Or.inl ⟨_, rfl⟩)⟩, (fun _ h => absurd h List.not_mem_nil)⟩)
theorem kJ20_unlink_40 (z : XKT) : XOi z xInf Y_J20_unlink 40 (.inl (i_aload 3 41)) := ok_aload_n dJ20_unlink_40 rfl
theorem kJ20_unlink_41 (z : XKT) : XOi z xInf Y_J20_unlink 41 (.inl (i_ifnull 44 53)) := ok_ifnonnull dJ20_unlink_41 rfl
theorem kJ20_unlink_44 (z : XKT) : XOi z xInf Y_J20_unlink 44 (.inl (i_aload 0 45)) := ok_aload_n dJ20_unlink_44 rfl
theorem kJ20_unlink_45 (z : XKT) : XOi z xInf Y_J20_unlink 45 (.inl (i_aload 4 47)) := ok_aload dJ20_unlink_45
theorem kJ20_unlink_47 (z : XKT) : XOi z xInf Y_J20_unlink 47 (.inl (i_putr z.1 [13] 90 50)) := ok_putr dJ20_unlink_47 q612 (List.forall_mem_cons.mpr ⟨⟨_, _, _, _, tyJ20, fd_90_13_0, ⟨tyJ20_ok, nmJ20, (Or.inl rfl)⟩, (Or.inl ⟨_, rfl⟩)⟩, (fun _ h => absurd h List.not_mem_nil)⟩)
theorem kJ20_unlink_50 (z : XKT) : XOi z xInf Y_J20_unlink 50 (.inl (i_goto 64)) := ok_goto dJ20_unlink_50 rfl
theorem kJ20_unlink_53 (z : XKT) : XOi z xInf Y_J20_unlink 53 (.inl (i_aload 3 54)) := ok_aload_n dJ20_unlink_53 rfl
theorem kJ20_unlink_54 (z : XKT) : XOi z xInf Y_J20_unlink 54 (.inl (i_aload 4 56)) := ok_aload dJ20_unlink_54
theorem kJ20_unlink_56 (z : XKT) : XOi z xInf Y_J20_unlink 56 (.inl (i_putr z.1 [14] 93 59)) := ok_putr dJ20_unlink_56 q775 (List.forall_mem_cons.mpr ⟨⟨_, _, _, _, tyJ21, fd_93_14_0, ⟨tyJ21_ok, nmJ21, (Or.inl rfl)⟩, (Or.inl ⟨_, rfl⟩)⟩, (fun _ h => absurd h List.not_mem_nil)⟩)
theorem kJ20_unlink_59 (z : XKT) : XOi z xInf Y_J20_unlink 59 (.inl (i_aload 1 60)) := ok_aload_n dJ20_unlink_59 rfl
theorem kJ20_unlink_60 (z : XKT) : XOi z xInf Y_J20_unlink 60 (.inl (i_push (vR none) 61)) := ok_null dJ20_unlink_60
theorem kJ20_unlink_61 (z : XKT) : XOi z xInf Y_J20_unlink 61 (.inl (i_putr z.1 [14] 92 64)) := ok_putr dJ20_unlink_61 q773 (List.forall_mem_cons.mpr ⟨⟨_, _, _, _, tyJ21, fd_92_14_0, ⟨tyJ21_ok, nmJ21, (Or.inl rfl)⟩, (Or.inl ⟨_, rfl⟩)⟩, (fun _ h => absurd h List.not_mem_nil)⟩)
theorem kJ20_unlink_64 (z : XKT) : XOi z xInf Y_J20_unlink 64 (.inl (i_aload 1 65)) := ok_aload_n dJ20_unlink_64 rfl
theorem kJ20_unlink_65 (z : XKT) : XOi z xInf Y_J20_unlink 65 (.inl (i_push (vR none) 66)) := ok_null dJ20_unlink_65
theorem kJ20_unlink_66 (z : XKT) : XOi z xInf Y_J20_unlink 66 (.inl (i_putr z.1 [14] 91 69)) := ok_putr dJ20_unlink_66 q770 (List.forall_mem_cons.mpr ⟨⟨_, _, _, _, tyJ21, fd_91_14_0, ⟨tyJ21_ok, nmJ21, (Or.inl rfl)⟩, (Or.inl ⟨_, rfl⟩)⟩, (fun _ h => absurd h List.not_mem_nil)⟩)
theorem kJ20_unlink_69 (z : XKT) : XOi z xInf Y_J20_unlink 69 (.inl (i_aload 0 70)) := ok_aload_n dJ20_unlink_69 rfl
theorem kJ20_unlink_70 (z : XKT) : XOi z xInf Y_J20_unlink 70 (.inl (i_dup 71)) := ok_dup dJ20_unlink_70
theorem kJ20_unlink_71 (z : XKT) : XOi z xInf Y_J20_unlink 71 (.inl (i_geti [13] 88 74)) := ok_geti dJ20_unlink_71 q609 (List.forall_mem_cons.mpr ⟨⟨_, _, _, _, fd_88_13_0⟩, (fun _ h => absurd h List.not_mem_nil)⟩)
theorem kJ20_unlink_74 (z : XKT) : XOi z xInf Y_J20_unlink 74 (.inl (i_push (vI 1) 75)) := ok_iconst dJ20_unlink_74 rfl
theorem kJ20_unlink_75 (z : XKT) : XOi z xInf Y_J20_unlink 75 (.inl (i_bin (fun x y => x - y) 76)) := ok_isub dJ20_unlink_75
theorem kJ20_unlink_76 (z : XKT) : XOi z xInf Y_J20_unlink 76 (.inl (i_puti z.1 [13] .int 88 79)) := ok_puti dJ20_unlink_76 q609 rfl (List.forall_mem_cons.mpr ⟨⟨_, _, _, _, tyJ20, fd_88_13_0, ⟨tyJ20_ok, nmJ20, (Or.inl rfl)⟩, rfl⟩, (fun _ h => absurd h List.not_mem_nil)⟩)
theorem kJ20_unlink_79 (z : XKT) : XOi z xInf Y_J20_unlink 79 (.inl (i_aload 0 80)) := ok_aload_n dJ20_unlink_79 rfl
theorem kJ20_unlink_80 (z : XKT) : XOi z xInf Y_J20_unlink 80 (.inl (i_dup 81)) := ok_dup dJ20_unlink_80
theorem kJ20_unlink_81 (z : XKT) : XOi z xInf Y_J20_unlink 81 (.inl (i_geti [13] 85 84)) := ok_geti dJ20_unlink_81 q535 (List.forall_mem_cons.mpr ⟨⟨_, _, _, _, fd_85_13_1⟩, (fun _ h => absurd h List.not_mem_nil)⟩)
theorem kJ20_unlink_84 (z : XKT) : XOi z xInf Y_J20_unlink 84 (.inl (i_push (vI 1) 85)) := ok_iconst dJ20_unlink_84 rfl
theorem kJ20_unlink_85 (z : XKT) : XOi z xInf Y_J20_unlink 85 (.inl (i_bin (fun x y => x + y) 86)) := ok_iadd dJ20_unlink_85
theorem kJ20_unlink_86 (z : XKT) : XOi z xInf Y_J20_unlink 86 (.inl (i_puti z.1 [13] .int 85 89)) := ok_puti dJ20_unlink_86 q535 rfl (List.forall_mem_cons.mpr ⟨⟨_, _, _, _, tyJ20, fd_85_13_1, ⟨tyJ20_ok, nmJ20, (Or.inl rfl)⟩, rfl⟩, (fun _ h => absurd h List.not_mem_nil)⟩)
theorem kJ20_unlink_89 (z : XKT) : XOi z xInf Y_J20_unlink 89 (.inl (i_aload 2 90)) := ok_aload_n dJ20_unlink_89 rfl
theorem kJ20_unlink_90 (z : XKT) : XOi z xInf Y_J20_unlink 90 (.inr (.inr (.inl r_a))) := show XOkR Y_J20_unlink 90 (r_a) from okr_a (q := Y_J20_unlink) rfl (Or.inl ⟨_, rfl⟩) dJ20_unlink_90
theorem o_J20_unlink (z : XKT) : XMi z xInf Y_J20_unlink := XMi.mk9 (T := T_J20_unlink z) rfl (⟨kJ20_unlink_0 z, ⟨kJ20_unlink_1 z, ⟨kJ20_unlink_4 z, ⟨kJ20_unlink_5 z, ⟨kJ20_unlink_6 z, ⟨kJ20_unlink_9 z, ⟨kJ20_unlink_10 z, ⟨kJ20_unlink_11 z, ⟨kJ20_unlink_14 z, ⟨kJ20_unlink_16 z, ⟨kJ20_unlink_18 z, ⟨kJ20_unlink_21 z, ⟨kJ20_unlink_22 z, ⟨kJ20_unlink_23 z, ⟨kJ20_unlink_26 z, ⟨kJ20_unlink_29 z, ⟨kJ20_unlink_31 z, ⟨kJ20_unlink_32 z, ⟨kJ20_unlink_35 z, ⟨kJ20_unlink_36 z, ⟨kJ20_unlink_37 z, ⟨kJ20_unlink_40 z, ⟨kJ20_unlink_41 z, ⟨kJ20_unlink_44 z, ⟨kJ20_unlink_45 z, ⟨kJ20_unlink_47 z, ⟨kJ20_unlink_50 z, ⟨kJ20_unlink_53 z, ⟨kJ20_unlink_54 z, ⟨kJ20_unlink_56 z, ⟨kJ20_unlink_59 z, ⟨kJ20_unlink_60 z, ⟨kJ20_unlink_61 z, ⟨kJ20_unlink_64 z, ⟨kJ20_unlink_65 z, ⟨kJ20_unlink_66 z, ⟨kJ20_unlink_69 z, ⟨kJ20_unlink_70 z, ⟨kJ20_unlink_71 z, ⟨kJ20_unlink_74 z, ⟨kJ20_unlink_75 z, ⟨kJ20_unlink_76 z, ⟨kJ20_unlink_79 z, ⟨kJ20_unlink_80 z, ⟨kJ20_unlink_81 z, ⟨kJ20_unlink_84 z, ⟨kJ20_unlink_85 z, ⟨kJ20_unlink_86 z, ⟨kJ20_unlink_89 z, ⟨kJ20_unlink_90 z, trivial⟩⟩⟩⟩⟩⟩⟩⟩⟩⟩⟩⟩⟩⟩⟩⟩⟩⟩⟩⟩⟩⟩⟩⟩⟩⟩⟩⟩⟩⟩⟩⟩⟩⟩⟩⟩⟩⟩⟩⟩⟩⟩⟩⟩⟩⟩⟩⟩⟩⟩) (hd_J20_unlink z) rfl rfl (by decide +kernel)
theorem hd_J21_init (z : XKT) : XHd z Y_J21_init := xHd_none rfl (xhd0 rfl)
theorem kJ21_init_0 (z : XKT) : XOi z xInf Y_J21_init 0 (.inl (i_aload 0 1)) := ok_aload_n dJ21_init_0 rfl
theorem kJ21_init_1 (z : XKT) : XOi z xInf Y_J21_init 1 (.inl (i_oinit 4)) := ok_oinit dJ21_init_1 q767 q179 q180
theorem kJ21_init_4 (z : XKT) : XOi z xInf Y_J21_init 4 (.inl (i_aload 0 5)) := ok_aload_n dJ21_init_4 rfl
theorem kJ21_init_5 (z : XKT) : XOi z xInf Y_J21_init 5 (.inl (i_aload 2 6)) := ok_aload_n dJ21_init_5 rfl
theorem kJ21_init_6 (z : XKT) : XOi z xInf Y_J21_init 6 (.inl (i_putr z.1 [14] 91 9)) := ok_putr dJ21_init_6 q768 (List.forall_mem_cons.mpr ⟨⟨_, _, _, _, tyJ21, fd_91_14_0, ⟨tyJ21_ok, nmJ21, (Or.inl rfl)⟩, (Or.inl ⟨_, rfl⟩)⟩, (fun _ h => absurd h List.not_mem_nil)⟩)
theorem kJ21_init_9 (z : XKT) : XOi z xInf Y_J21_init 9 (.inl (i_aload 0 10)) := ok_aload_n dJ21_init_9 rfl
theorem kJ21_init_10 (z : XKT) : XOi z xInf Y_J21_init 10 (.inl (i_aload 3 11)) := ok_aload_n dJ21_init_10 rfl
theorem kJ21_init_11 (z : XKT) : XOi z xInf Y_J21_init 11 (.inl (i_putr z.1 [14] 92 14)) := ok_putr dJ21_init_11 q771 (List.forall_mem_cons.mpr ⟨⟨_, _, _, _, tyJ21, fd_92_14_0, ⟨tyJ21_ok, nmJ21, (Or.inl rfl)⟩, (Or.inl ⟨_, rfl⟩)⟩, (fun _ h => absurd h List.not_mem_nil)⟩)
theorem kJ21_init_14 (z : XKT) : XOi z xInf Y_J21_init 14 (.inl (i_aload 0 15)) := ok_aload_n dJ21_init_14 rfl
theorem kJ21_init_15 (z : XKT) : XOi z xInf Y_J21_init 15 (.inl (i_aload 1 16)) := ok_aload_n dJ21_init_15 rfl
theorem kJ21_init_16 (z : XKT) : XOi z xInf Y_J21_init 16 (.inl (i_putr z.1 [14] 93 19)) := ok_putr dJ21_init_16 q774 (List.forall_mem_cons.mpr ⟨⟨_, _, _, _, tyJ21, fd_93_14_0, ⟨tyJ21_ok, nmJ21, (Or.inl rfl)⟩, (Or.inl ⟨_, rfl⟩)⟩, (fun _ h => absurd h List.not_mem_nil)⟩)
theorem kJ21_init_19 (z : XKT) : XOi z xInf Y_J21_init 19 (.inr (.inr (.inl r_v))) := show XOkR Y_J21_init 19 (r_v) from okr_v (q := Y_J21_init) rfl dJ21_init_19
theorem o_J21_init (z : XKT) : XMi z xInf Y_J21_init := XMi.mk9 (T := T_J21_init z) rfl (⟨kJ21_init_0 z, ⟨kJ21_init_1 z, ⟨kJ21_init_4 z, ⟨kJ21_init_5 z, ⟨kJ21_init_6 z, ⟨kJ21_init_9 z, ⟨kJ21_init_10 z, ⟨kJ21_init_11 z, ⟨kJ21_init_14 z, ⟨kJ21_init_15 z, ⟨kJ21_init_16 z, ⟨kJ21_init_19 z, trivial⟩⟩⟩⟩⟩⟩⟩⟩⟩⟩⟩⟩) (hd_J21_init z) rfl rfl (by decide +kernel)
theorem hd_J22_addLast (z : XKT) : XHd z Y_J22_addLast := xHd_none rfl (xhd0 rfl)
theorem kJ22_addLast_0 (z : XKT) : XOi z xInf Y_J22_addLast 0 (.inl (i_aload 1 1)) := ok_aload_n dJ22_addLast_0 rfl
theorem kJ22_addLast_1 (z : XKT) : XOi z xInf Y_J22_addLast 1 (.inl (i_ifnull 4 12)) := ok_ifnonnull dJ22_addLast_1 rfl
theorem kJ22_addLast_7 (z : XKT) : XOi z xInf Y_J22_addLast 7 (.inl (i_dup 8)) := ok_dup dJ22_addLast_7
theorem kJ22_addLast_12 (z : XKT) : XOi z xInf Y_J22_addLast 12 (.inl (i_aload 0 13)) := ok_aload_n dJ22_addLast_12 rfl
theorem kJ22_addLast_13 (z : XKT) : XOi z xInf Y_J22_addLast 13 (.inl (i_getr [15] 94 16)) := ok_getr dJ22_addLast_13 q790 (List.forall_mem_cons.mpr ⟨⟨_, _, _, _, fd_94_15_0⟩, (fun _ h => absurd h List.not_mem_nil)⟩)
theorem kJ22_addLast_16 (z : XKT) : XOi z xInf Y_J22_addLast 16 (.inl (i_astore 2 17)) := ok_astore_n dJ22_addLast_16 rfl
theorem kJ22_addLast_17 (z : XKT) : XOi z xInf Y_J22_addLast 17 (.inl (i_aload 2 18)) := ok_aload_n dJ22_addLast_17 rfl
theorem kJ22_addLast_18 (z : XKT) : XOi z xInf Y_J22_addLast 18 (.inl (i_aload 0 19)) := ok_aload_n dJ22_addLast_18 rfl
theorem kJ22_addLast_19 (z : XKT) : XOi z xInf Y_J22_addLast 19 (.inl (i_geti [15] 96 22)) := ok_geti dJ22_addLast_19 q792 (List.forall_mem_cons.mpr ⟨⟨_, _, _, _, fd_96_15_0⟩, (fun _ h => absurd h List.not_mem_nil)⟩)
theorem kJ22_addLast_22 (z : XKT) : XOi z xInf Y_J22_addLast 22 (.inl (i_aload 1 23)) := ok_aload_n dJ22_addLast_22 rfl
theorem kJ22_addLast_23 (z : XKT) : XOi z xInf Y_J22_addLast 23 (.inl (i_arst z.1 1003 [2, 3, 7, 8, 9] 24)) := ok_arst (E := "java/lang/Object") dJ22_addLast_23 (List.forall_mem_cons.mpr ⟨⟨by decide, by decide, (List.mem_of_getElem? (l := xArs) (i := 3) rfl), _, _, _, (List.mem_of_getElem? (l := xCls) (i := 1) rfl), (Or.inr q3159)⟩, (List.forall_mem_cons.mpr ⟨⟨by decide, by decide, (List.mem_of_getElem? (l := xArs) (i := 3) rfl), _, _, _, (List.mem_of_getElem? (l := xCls) (i := 2) rfl), (Or.inr q3163)⟩, (List.forall_mem_cons.mpr ⟨⟨by decide, by decide, (List.mem_of_getElem? (l := xArs) (i := 3) rfl), _, _, _, (List.mem_of_getElem? (l := xCls) (i := 6) rfl), (Or.inr q3183)⟩, (List.forall_mem_cons.mpr ⟨⟨by decide, by decide, (List.mem_of_getElem? (l := xArs) (i := 3) rfl), _, _, _, (List.mem_of_getElem? (l := xCls) (i := 7) rfl), (Or.inr q3182)⟩, (List.forall_mem_cons.mpr ⟨⟨by decide, by decide, (List.mem_of_getElem? (l := xArs) (i := 3) rfl), _, _, _, (List.mem_of_getElem? (l := xCls) (i := 8) rfl), (Or.inr q3184)⟩, (fun _ h => absurd h List.not_mem_nil)⟩)⟩)⟩)⟩)⟩) (List.mem_of_getElem? (l := xArs) (i := 3) rfl) (by decide)
theorem kJ22_addLast_24 (z : XKT) : XOi z xInf Y_J22_addLast 24 (.inl (i_aload 0 25)) := ok_aload_n dJ22_addLast_24 rfl
theorem kJ22_addLast_25 (z : XKT) : XOi z xInf Y_J22_addLast 25 (.inl (i_geti [15] 95 28)) := ok_geti dJ22_addLast_25 q791 (List.forall_mem_cons.mpr ⟨⟨_, _, _, _, fd_95_15_0⟩, (fun _ h => absurd h List.not_mem_nil)⟩)
theorem kJ22_addLast_28 (z : XKT) : XOi z xInf Y_J22_addLast 28 (.inl (i_aload 0 29)) := ok_aload_n dJ22_addLast_28 rfl
theorem kJ22_addLast_29 (z : XKT) : XOi z xInf Y_J22_addLast 29 (.inl (i_aload 0 30)) := ok_aload_n dJ22_addLast_29 rfl
theorem kJ22_addLast_30 (z : XKT) : XOi z xInf Y_J22_addLast 30 (.inl (i_geti [15] 96 33)) := ok_geti dJ22_addLast_30 q792 (List.forall_mem_cons.mpr ⟨⟨_, _, _, _, fd_96_15_0⟩, (fun _ h => absurd h List.not_mem_nil)⟩)
theorem kJ22_addLast_33 (z : XKT) : XOi z xInf Y_J22_addLast 33 (.inl (i_aload 2 34)) := ok_aload_n dJ22_addLast_33 rfl
theorem kJ22_addLast_34 (z : XKT) : XOi z xInf Y_J22_addLast 34 (.inl (i_alen 35)) := ok_alen dJ22_addLast_34
theorem kJ22_addLast_35 (z : XKT) : XOi z xInf Y_J22_addLast 35 (.inr (.inl (38, g_stat 436 2))) := show XOkC z xInf Y_J22_addLast 35 38 (g_stat 436 2) from okc_S (q := Y_J22_addLast) (q1 := Y_J22_inc) Z_J22_inc rfl (by decide) dJ22_addLast_35 q1510 q1511 q152 q1512 hy_430
theorem kJ22_addLast_38 (z : XKT) : XOi z xInf Y_J22_addLast 38 (.inl (i_dupx1 39)) := ok_dup_x1 dJ22_addLast_38
theorem kJ22_addLast_39 (z : XKT) : XOi z xInf Y_J22_addLast 39 (.inl (i_puti z.1 [15] .int 96 42)) := ok_puti dJ22_addLast_39 q792 rfl (List.forall_mem_cons.mpr ⟨⟨_, _, _, _, tyJ22, fd_96_15_0, ⟨tyJ22_ok, nmJ22, (Or.inl rfl)⟩, rfl⟩, (fun _ h => absurd h List.not_mem_nil)⟩)
theorem kJ22_addLast_42 (z : XKT) : XOi z xInf Y_J22_addLast 42 (.inl (i_icmp (fun x y => ¬ x = y) 50 45)) := ok_icmp_ne dJ22_addLast_42 rfl
theorem kJ22_addLast_45 (z : XKT) : XOi z xInf Y_J22_addLast 45 (.inl (i_aload 0 46)) := ok_aload_n dJ22_addLast_45 rfl
theorem kJ22_addLast_46 (z : XKT) : XOi z xInf Y_J22_addLast 46 (.inl (i_push (vI 1) 47)) := ok_iconst dJ22_addLast_46 rfl
theorem kJ22_addLast_50 (z : XKT) : XOi z xInf Y_J22_addLast 50 (.inr (.inr (.inl r_v))) := show XOkR Y_J22_addLast 50 (r_v) from okr_v (q := Y_J22_addLast) rfl dJ22_addLast_50
theorem o_J22_addLast (z : XKT) : XMi z xInf Y_J22_addLast := XMi.mk9 (T := T_J22_addLast z) rfl (⟨kJ22_addLast_0 z, ⟨kJ22_addLast_1 z, ⟨kJ22_addLast_7 z, ⟨kJ22_addLast_12 z, ⟨kJ22_addLast_13 z, ⟨kJ22_addLast_16 z, ⟨kJ22_addLast_17 z, ⟨kJ22_addLast_18 z, ⟨kJ22_addLast_19 z, ⟨kJ22_addLast_22 z, ⟨kJ22_addLast_23 z, ⟨kJ22_addLast_24 z, ⟨kJ22_addLast_25 z, ⟨kJ22_addLast_28 z, ⟨kJ22_addLast_29 z, ⟨kJ22_addLast_30 z, ⟨kJ22_addLast_33 z, ⟨kJ22_addLast_34 z, ⟨kJ22_addLast_35 z, ⟨kJ22_addLast_38 z, ⟨kJ22_addLast_39 z, ⟨kJ22_addLast_42 z, ⟨kJ22_addLast_45 z, ⟨kJ22_addLast_46 z, ⟨kJ22_addLast_50 z, trivial⟩⟩⟩⟩⟩⟩⟩⟩⟩⟩⟩⟩⟩⟩⟩⟩⟩⟩⟩⟩⟩⟩⟩⟩⟩) (hd_J22_addLast z) rfl rfl (by decide +kernel)
theorem hd_J22_circularClear (z : XKT) : XHd z Y_J22_circularClear := xHd_none rfl (xhd0 rfl)
theorem kJ22_circularClear_0 (z : XKT) : XOi z xInf Y_J22_circularClear 0 (.inl (i_iload 1 1)) := ok_iload_n dJ22_circularClear_0 rfl
theorem kJ22_circularClear_1 (z : XKT) : XOi z xInf Y_J22_circularClear 1 (.inl (i_iload 2 2)) := ok_iload_n dJ22_circularClear_1 rfl
theorem kJ22_circularClear_2 (z : XKT) : XOi z xInf Y_J22_circularClear 2 (.inl (i_icmp (fun x y => y < x) 9 5)) := ok_icmp_gt dJ22_circularClear_2 rfl
theorem kJ22_circularClear_5 (z : XKT) : XOi z xInf Y_J22_circularClear 5 (.inl (i_iload 2 6)) := ok_iload_n dJ22_circularClear_5 rfl
theorem kJ22_circularClear_6 (z : XKT) : XOi z xInf Y_J22_circularClear 6 (.inl (i_goto 11)) := ok_goto dJ22_circularClear_6 rfl
theorem kJ22_circularClear_9 (z : XKT) : XOi z xInf Y_J22_circularClear 9 (.inl (i_aload 0 10)) := ok_aload_n dJ22_circularClear_9 rfl
theorem kJ22_circularClear_10 (z : XKT) : XOi z xInf Y_J22_circularClear 10 (.inl (i_alen 11)) := ok_alen dJ22_circularClear_10
theorem kJ22_circularClear_11 (z : XKT) : XOi z xInf Y_J22_circularClear 11 (.inl (i_istore 3 12)) := ok_istore_n dJ22_circularClear_11 rfl
theorem kJ22_circularClear_12 (z : XKT) : XOi z xInf Y_J22_circularClear 12 (.inl (i_iload 1 13)) := ok_iload_n dJ22_circularClear_12 rfl
theorem kJ22_circularClear_13 (z : XKT) : XOi z xInf Y_J22_circularClear 13 (.inl (i_iload 3 14)) := ok_iload_n dJ22_circularClear_13 rfl
theorem kJ22_circularClear_14 (z : XKT) : XOi z xInf Y_J22_circularClear 14 (.inl (i_icmp (fun x y => y ≤ x) 27 17)) := ok_icmp_ge dJ22_circularClear_14 rfl
theorem kJ22_circularClear_17 (z : XKT) : XOi z xInf Y_J22_circularClear 17 (.inl (i_aload 0 18)) := ok_aload_n dJ22_circularClear_17 rfl
theorem kJ22_circularClear_18 (z : XKT) : XOi z xInf Y_J22_circularClear 18 (.inl (i_iload 1 19)) := ok_iload_n dJ22_circularClear_18 rfl
theorem kJ22_circularClear_19 (z : XKT) : XOi z xInf Y_J22_circularClear 19 (.inl (i_push (vR none) 20)) := ok_null dJ22_circularClear_19
theorem kJ22_circularClear_20 (z : XKT) : XOi z xInf Y_J22_circularClear 20 (.inl (i_arst z.1 1003 [2, 3, 7, 8, 9] 21)) := ok_arst (E := "java/lang/Object") dJ22_circularClear_20 (List.forall_mem_cons.mpr ⟨⟨by decide, by decide, (List.mem_of_getElem? (l := xArs) (i := 3) rfl), _, _, _, (List.mem_of_getElem? (l := xCls) (i := 1) rfl), (Or.inr q3159)⟩, (List.forall_mem_cons.mpr ⟨⟨by decide, by decide, (List.mem_of_getElem? (l := xArs) (i := 3) rfl), _, _, _, (List.mem_of_getElem? (l := xCls) (i := 2) rfl), (Or.inr q3163)⟩, (List.forall_mem_cons.mpr ⟨⟨by decide, by decide, (List.mem_of_getElem? (l := xArs) (i := 3) rfl), _, _, _, (List.mem_of_getElem? (l := xCls) (i := 6) rfl), (Or.inr q3183)⟩, (List.forall_mem_cons.mpr ⟨⟨by decide, by decide, (List.mem_of_getElem? (l := xArs) (i := 3) rfl), _, _, _, (List.mem_of_getElem? (l := xCls) (i := 7) rfl), (Or.inr q3182)⟩, (List.forall_mem_cons.mpr ⟨⟨by decide, by decide, (List.mem_of_getElem? (l := xArs) (i := 3) rfl), _, _, _, (List.mem_of_getElem? (l := xCls) (i := 8) rfl), (Or.inr q3184)⟩, (fun _ h => absurd h List.not_mem_nil)⟩)⟩)⟩)⟩)⟩) (List.mem_of_getElem? (l := xArs) (i := 3) rfl) (by decide)
theorem kJ22_circularClear_21 (z : XKT) : XOi z xInf Y_J22_circularClear 21 (.inl (i_iinc 1 1 24)) := ok_iinc dJ22_circularClear_21 rfl
theorem kJ22_circularClear_24 (z : XKT) : XOi z xInf Y_J22_circularClear 24 (.inl (i_goto 12)) := ok_goto dJ22_circularClear_24 rfl
theorem kJ22_circularClear_27 (z : XKT) : XOi z xInf Y_J22_circularClear 27 (.inl (i_iload 3 28)) := ok_iload_n dJ22_circularClear_27 rfl
theorem kJ22_circularClear_28 (z : XKT) : XOi z xInf Y_J22_circularClear 28 (.inl (i_iload 2 29)) := ok_iload_n dJ22_circularClear_28 rfl
theorem kJ22_circularClear_29 (z : XKT) : XOi z xInf Y_J22_circularClear 29 (.inl (i_icmp (fun x y => ¬ x = y) 35 32)) := ok_icmp_ne dJ22_circularClear_29 rfl
theorem kJ22_circularClear_32 (z : XKT) : XOi z xInf Y_J22_circularClear 32 (.inl (i_goto 42)) := ok_goto dJ22_circularClear_32 rfl
theorem kJ22_circularClear_35 (z : XKT) : XOi z xInf Y_J22_circularClear 35 (.inl (i_push (vI 0) 36)) := ok_iconst dJ22_circularClear_35 rfl
theorem kJ22_circularClear_36 (z : XKT) : XOi z xInf Y_J22_circularClear 36 (.inl (i_istore 1 37)) := ok_istore_n dJ22_circularClear_36 rfl
theorem kJ22_circularClear_37 (z : XKT) : XOi z xInf Y_J22_circularClear 37 (.inl (i_iload 2 38)) := ok_iload_n dJ22_circularClear_37 rfl
theorem kJ22_circularClear_38 (z : XKT) : XOi z xInf Y_J22_circularClear 38 (.inl (i_istore 3 39)) := ok_istore_n dJ22_circularClear_38 rfl
theorem kJ22_circularClear_39 (z : XKT) : XOi z xInf Y_J22_circularClear 39 (.inl (i_goto 12)) := ok_goto dJ22_circularClear_39 rfl
theorem kJ22_circularClear_42 (z : XKT) : XOi z xInf Y_J22_circularClear 42 (.inr (.inr (.inl r_v))) := show XOkR Y_J22_circularClear 42 (r_v) from okr_v (q := Y_J22_circularClear) rfl dJ22_circularClear_42
theorem o_J22_circularClear (z : XKT) : XMi z xInf Y_J22_circularClear := XMi.mk9 (T := T_J22_circularClear z) rfl (⟨kJ22_circularClear_0 z, ⟨kJ22_circularClear_1 z, ⟨kJ22_circularClear_2 z, ⟨kJ22_circularClear_5 z, ⟨kJ22_circularClear_6 z, ⟨kJ22_circularClear_9 z, ⟨kJ22_circularClear_10 z, ⟨kJ22_circularClear_11 z, ⟨kJ22_circularClear_12 z, ⟨kJ22_circularClear_13 z, ⟨kJ22_circularClear_14 z, ⟨kJ22_circularClear_17 z, ⟨kJ22_circularClear_18 z, ⟨kJ22_circularClear_19 z, ⟨kJ22_circularClear_20 z, ⟨kJ22_circularClear_21 z, ⟨kJ22_circularClear_24 z, ⟨kJ22_circularClear_27 z, ⟨kJ22_circularClear_28 z, ⟨kJ22_circularClear_29 z, ⟨kJ22_circularClear_32 z, ⟨kJ22_circularClear_35 z, ⟨kJ22_circularClear_36 z, ⟨kJ22_circularClear_37 z, ⟨kJ22_circularClear_38 z, ⟨kJ22_circularClear_39 z, ⟨kJ22_circularClear_42 z, trivial⟩⟩⟩⟩⟩⟩⟩⟩⟩⟩⟩⟩⟩⟩⟩⟩⟩⟩⟩⟩⟩⟩⟩⟩⟩⟩⟩) (hd_J22_circularClear z) rfl rfl (by decide +kernel)
theorem hd_J22_clear (z : XKT) : XHd z Y_J22_clear := xHd_none rfl (xhd0 rfl)
theorem kJ22_clear_0 (z : XKT) : XOi z xInf Y_J22_clear 0 (.inl (i_aload 0 1)) := ok_aload_n dJ22_clear_0 rfl
theorem kJ22_clear_1 (z : XKT) : XOi z xInf Y_J22_clear 1 (.inl (i_getr [15] 94 4)) := ok_getr dJ22_clear_1 q790 (List.forall_mem_cons.mpr ⟨⟨_, _, _, _, fd_94_15_0⟩, (fun _ h => absurd h List.not_mem_nil)⟩)
theorem kJ22_clear_4 (z : XKT) : XOi z xInf Y_J22_clear 4 (.inl (i_aload 0 5)) := ok_aload_n dJ22_clear_4 rfl
theorem kJ22_clear_5 (z : XKT) : XOi z xInf Y_J22_clear 5 (.inl (i_geti [15] 95 8)) := ok_geti dJ22_clear_5 q791 (List.forall_mem_cons.mpr ⟨⟨_, _, _, _, fd_95_15_0⟩, (fun _ h => absurd h List.not_mem_nil)⟩)
theorem kJ22_clear_8 (z : XKT) : XOi z xInf Y_J22_clear 8 (.inl (i_aload 0 9)) := ok_aload_n dJ22_clear_8 rfl
theorem kJ22_clear_9 (z : XKT) : XOi z xInf Y_J22_clear 9 (.inl (i_geti [15] 96 12)) := ok_geti dJ22_clear_9 q792 (List.forall_mem_cons.mpr ⟨⟨_, _, _, _, fd_96_15_0⟩, (fun _ h => absurd h List.not_mem_nil)⟩)
theorem kJ22_clear_12 (z : XKT) : XOi z xInf Y_J22_clear 12 (.inr (.inl (15, g_stat 432 3))) := show XOkC z xInf Y_J22_clear 12 15 (g_stat 432 3) from okc_S (q := Y_J22_clear) (q1 := Y_J22_circularClear) Z_J22_circularClear rfl (by decide) dJ22_clear_12 q1744 q1745 q152 q1746 hy_431
theorem kJ22_clear_15 (z : XKT) : XOi z xInf Y_J22_clear 15 (.inl (i_aload 0 16)) := ok_aload_n dJ22_clear_15 rfl
theorem kJ22_clear_16 (z : XKT) : XOi z xInf Y_J22_clear 16 (.inl (i_aload 0 17)) := ok_aload_n dJ22_clear_16 rfl
theorem kJ22_clear_17 (z : XKT) : XOi z xInf Y_J22_clear 17 (.inl (i_push (vI 0) 18)) := ok_iconst dJ22_clear_17 rfl
theorem kJ22_clear_18 (z : XKT) : XOi z xInf Y_J22_clear 18 (.inl (i_dupx1 19)) := ok_dup_x1 dJ22_clear_18
theorem kJ22_clear_19 (z : XKT) : XOi z xInf Y_J22_clear 19 (.inl (i_puti z.1 [15] .int 96 22)) := ok_puti dJ22_clear_19 q792 rfl (List.forall_mem_cons.mpr ⟨⟨_, _, _, _, tyJ22, fd_96_15_0, ⟨tyJ22_ok, nmJ22, (Or.inl rfl)⟩, rfl⟩, (fun _ h => absurd h List.not_mem_nil)⟩)
theorem kJ22_clear_22 (z : XKT) : XOi z xInf Y_J22_clear 22 (.inl (i_puti z.1 [15] .int 95 25)) := ok_puti dJ22_clear_22 q791 rfl (List.forall_mem_cons.mpr ⟨⟨_, _, _, _, tyJ22, fd_95_15_0, ⟨tyJ22_ok, nmJ22, (Or.inl rfl)⟩, rfl⟩, (fun _ h => absurd h List.not_mem_nil)⟩)
theorem kJ22_clear_25 (z : XKT) : XOi z xInf Y_J22_clear 25 (.inr (.inr (.inl r_v))) := show XOkR Y_J22_clear 25 (r_v) from okr_v (q := Y_J22_clear) rfl dJ22_clear_25
theorem o_J22_clear (z : XKT) : XMi z xInf Y_J22_clear := XMi.mk9 (T := T_J22_clear z) rfl (⟨kJ22_clear_0 z, ⟨kJ22_clear_1 z, ⟨kJ22_clear_4 z, ⟨kJ22_clear_5 z, ⟨kJ22_clear_8 z, ⟨kJ22_clear_9 z, ⟨kJ22_clear_12 z, ⟨kJ22_clear_15 z, ⟨kJ22_clear_16 z, ⟨kJ22_clear_17 z, ⟨kJ22_clear_18 z, ⟨kJ22_clear_19 z, ⟨kJ22_clear_22 z, ⟨kJ22_clear_25 z, trivial⟩⟩⟩⟩⟩⟩⟩⟩⟩⟩⟩⟩⟩⟩) (hd_J22_clear z) rfl rfl (by decide +kernel)
theorem hd_J22_dec (z : XKT) : XHd z Y_J22_dec := xHd_none rfl (xhd0 rfl)
theorem kJ22_dec_0 (z : XKT) : XOi z xInf Y_J22_dec 0 (.inl (i_iinc 0 (-1) 3)) := ok_iinc dJ22_dec_0 rfl
theorem kJ22_dec_3 (z : XKT) : XOi z xInf Y_J22_dec 3 (.inl (i_iload 0 4)) := ok_iload_n dJ22_dec_3 rfl
theorem kJ22_dec_4 (z : XKT) : XOi z xInf Y_J22_dec 4 (.inl (i_if (fun x => 0 ≤ x) 11 7)) := ok_if_ge dJ22_dec_4 rfl
theorem kJ22_dec_7 (z : XKT) : XOi z xInf Y_J22_dec 7 (.inl (i_iload 1 8)) := ok_iload_n dJ22_dec_7 rfl
theorem kJ22_dec_8 (z : XKT) : XOi z xInf Y_J22_dec 8 (.inl (i_push (vI 1) 9)) := ok_iconst dJ22_dec_8 rfl
theorem kJ22_dec_9 (z : XKT) : XOi z xInf Y_J22_dec 9 (.inl (i_bin (fun x y => x - y) 10)) := ok_isub dJ22_dec_9
theorem kJ22_dec_10 (z : XKT) : XOi z xInf Y_J22_dec 10 (.inl (i_istore 0 11)) := ok_istore_n dJ22_dec_10 rfl
theorem kJ22_dec_11 (z : XKT) : XOi z xInf Y_J22_dec 11 (.inl (i_iload 0 12)) := ok_iload_n dJ22_dec_11 rfl
theorem kJ22_dec_12 (z : XKT) : XOi z xInf Y_J22_dec 12 (.inr (.inr (.inl (r_i .int)))) := show XOkR Y_J22_dec 12 ((r_i .int)) from okr_i (q := Y_J22_dec) (ty := .int) rfl rfl dJ22_dec_12
theorem o_J22_dec (z : XKT) : XMi z xInf Y_J22_dec := XMi.mk9 (T := T_J22_dec z) rfl (⟨kJ22_dec_0 z, ⟨kJ22_dec_3 z, ⟨kJ22_dec_4 z, ⟨kJ22_dec_7 z, ⟨kJ22_dec_8 z, ⟨kJ22_dec_9 z, ⟨kJ22_dec_10 z, ⟨kJ22_dec_11 z, ⟨kJ22_dec_12 z, trivial⟩⟩⟩⟩⟩⟩⟩⟩⟩) (hd_J22_dec z) rfl rfl (by decide +kernel)
theorem hd_J22_elementAt (z : XKT) : XHd z Y_J22_elementAt := xHd_none rfl (xhd0 rfl)
theorem kJ22_elementAt_0 (z : XKT) : XOi z xInf Y_J22_elementAt 0 (.inl (i_aload 0 1)) := ok_aload_n dJ22_elementAt_0 rfl
theorem kJ22_elementAt_1 (z : XKT) : XOi z xInf Y_J22_elementAt 1 (.inl (i_iload 1 2)) := ok_iload_n dJ22_elementAt_1 rfl
theorem kJ22_elementAt_2 (z : XKT) : XOi z xInf Y_J22_elementAt 2 (.inl (i_arld [1003, 1004, 1005, 1006, 1007] 3)) := ok_arld (by decide) dJ22_elementAt_2
theorem kJ22_elementAt_3 (z : XKT) : XOi z xInf Y_J22_elementAt 3 (.inr (.inr (.inl r_a))) := show XOkR Y_J22_elementAt 3 (r_a) from okr_a (q := Y_J22_elementAt) rfl (Or.inl ⟨_, rfl⟩) dJ22_elementAt_3
theorem o_J22_elementAt (z : XKT) : XMi z xInf Y_J22_elementAt := XMi.mk9 (T := T_J22_elementAt z) rfl (⟨kJ22_elementAt_0 z, ⟨kJ22_elementAt_1 z, ⟨kJ22_elementAt_2 z, ⟨kJ22_elementAt_3 z, trivial⟩⟩⟩⟩) (hd_J22_elementAt z) rfl rfl (by decide +kernel)
theorem hd_J22_inc (z : XKT) : XHd z Y_J22_inc := xHd_none rfl (xhd0 rfl)
theorem kJ22_inc_0 (z : XKT) : XOi z xInf Y_J22_inc 0 (.inl (i_iinc 0 1 3)) := ok_iinc dJ22_inc_0 rfl
theorem kJ22_inc_3 (z : XKT) : XOi z xInf Y_J22_inc 3 (.inl (i_iload 0 4)) := ok_iload_n dJ22_inc_3 rfl
theorem kJ22_inc_4 (z : XKT) : XOi z xInf Y_J22_inc 4 (.inl (i_iload 1 5)) := ok_iload_n dJ22_inc_4 rfl
theorem kJ22_inc_5 (z : XKT) : XOi z xInf Y_J22_inc 5 (.inl (i_icmp (fun x y => x < y) 10 8)) := ok_icmp_lt dJ22_inc_5 rfl
theorem kJ22_inc_8 (z : XKT) : XOi z xInf Y_J22_inc 8 (.inl (i_push (vI 0) 9)) := ok_iconst dJ22_inc_8 rfl
theorem kJ22_inc_9 (z : XKT) : XOi z xInf Y_J22_inc 9 (.inl (i_istore 0 10)) := ok_istore_n dJ22_inc_9 rfl
theorem kJ22_inc_10 (z : XKT) : XOi z xInf Y_J22_inc 10 (.inl (i_iload 0 11)) := ok_iload_n dJ22_inc_10 rfl
theorem kJ22_inc_11 (z : XKT) : XOi z xInf Y_J22_inc 11 (.inr (.inr (.inl (r_i .int)))) := show XOkR Y_J22_inc 11 ((r_i .int)) from okr_i (q := Y_J22_inc) (ty := .int) rfl rfl dJ22_inc_11
theorem o_J22_inc (z : XKT) : XMi z xInf Y_J22_inc := XMi.mk9 (T := T_J22_inc z) rfl (⟨kJ22_inc_0 z, ⟨kJ22_inc_3 z, ⟨kJ22_inc_4 z, ⟨kJ22_inc_5 z, ⟨kJ22_inc_8 z, ⟨kJ22_inc_9 z, ⟨kJ22_inc_10 z, ⟨kJ22_inc_11 z, trivial⟩⟩⟩⟩⟩⟩⟩⟩) (hd_J22_inc z) rfl rfl (by decide +kernel)
theorem hd_J22_init (z : XKT) : XHd z Y_J22_init := xHd_none rfl (xhd0 rfl)
theorem kJ22_init_0 (z : XKT) : XOi z xInf Y_J22_init 0 (.inl (i_aload 0 1)) := ok_aload_n dJ22_init_0 rfl
theorem kJ22_init_1 (z : XKT) : XOi z xInf Y_J22_init 1 (.inr (.inl (4, g_spec 340 0))) := show XOkC z xInf Y_J22_init 1 4 (g_spec 340 0) from okc_I (q := Y_J22_init) (q1 := Y_J0_init) Z_J0_init rfl rfl rfl (by decide) dJ22_init_1 q788 q202 q127 q203 hy_369
theorem kJ22_init_4 (z : XKT) : XOi z xInf Y_J22_init 4 (.inl (i_aload 0 5)) := ok_aload_n dJ22_init_4 rfl
theorem kJ22_init_5 (z : XKT) : XOi z xInf Y_J22_init 5 (.inl (i_push (vI 17) 7)) := ok_bipush dJ22_init_5 rfl
theorem kJ22_init_7 (z : XKT) : XOi z xInf Y_J22_init 7 (.inl (i_nar 1003 10)) := ok_nar dJ22_init_7 q789 q206 (List.mem_of_getElem? (l := xArs) (i := 3) rfl) (by decide)
theorem kJ22_init_10 (z : XKT) : XOi z xInf Y_J22_init 10 (.inl (i_putr z.1 [15] 94 13)) := ok_putr dJ22_init_10 q790 (List.forall_mem_cons.mpr ⟨⟨_, _, _, _, tyJ22, fd_94_15_0, ⟨tyJ22_ok, nmJ22, (Or.inl rfl)⟩, (Or.inr ⟨_, rfl⟩)⟩, (fun _ h => absurd h List.not_mem_nil)⟩)
theorem kJ22_init_13 (z : XKT) : XOi z xInf Y_J22_init 13 (.inr (.inr (.inl r_v))) := show XOkR Y_J22_init 13 (r_v) from okr_v (q := Y_J22_init) rfl dJ22_init_13
theorem o_J22_init (z : XKT) : XMi z xInf Y_J22_init := XMi.mk9 (T := T_J22_init z) rfl (⟨kJ22_init_0 z, ⟨kJ22_init_1 z, ⟨kJ22_init_4 z, ⟨kJ22_init_5 z, ⟨kJ22_init_7 z, ⟨kJ22_init_10 z, ⟨kJ22_init_13 z, trivial⟩⟩⟩⟩⟩⟩⟩) (hd_J22_init z) rfl rfl (by decide +kernel)
theorem hd_J22_isEmpty (z : XKT) : XHd z Y_J22_isEmpty := xHd_none rfl (xhd0 rfl)
theorem kJ22_isEmpty_0 (z : XKT) : XOi z xInf Y_J22_isEmpty 0 (.inl (i_aload 0 1)) := ok_aload_n dJ22_isEmpty_0 rfl
theorem kJ22_isEmpty_1 (z : XKT) : XOi z xInf Y_J22_isEmpty 1 (.inl (i_geti [15] 95 4)) := ok_geti dJ22_isEmpty_1 q791 (List.forall_mem_cons.mpr ⟨⟨_, _, _, _, fd_95_15_0⟩, (fun _ h => absurd h List.not_mem_nil)⟩)
theorem kJ22_isEmpty_4 (z : XKT) : XOi z xInf Y_J22_isEmpty 4 (.inl (i_aload 0 5)) := ok_aload_n dJ22_isEmpty_4 rfl
theorem kJ22_isEmpty_5 (z : XKT) : XOi z xInf Y_J22_isEmpty 5 (.inl (i_geti [15] 96 8)) := ok_geti dJ22_isEmpty_5 q792 (List.forall_mem_cons.mpr ⟨⟨_, _, _, _, fd_96_15_0⟩, (fun _ h => absurd h List.not_mem_nil)⟩)
theorem kJ22_isEmpty_8 (z : XKT) : XOi z xInf Y_J22_isEmpty 8 (.inl (i_icmp (fun x y => ¬ x = y) 15 11)) := ok_icmp_ne dJ22_isEmpty_8 rfl
theorem kJ22_isEmpty_11 (z : XKT) : XOi z xInf Y_J22_isEmpty 11 (.inl (i_push (vI 1) 12)) := ok_iconst dJ22_isEmpty_11 rfl
theorem kJ22_isEmpty_12 (z : XKT) : XOi z xInf Y_J22_isEmpty 12 (.inl (i_goto 16)) := ok_goto dJ22_isEmpty_12 rfl
theorem kJ22_isEmpty_15 (z : XKT) : XOi z xInf Y_J22_isEmpty 15 (.inl (i_push (vI 0) 16)) := ok_iconst dJ22_isEmpty_15 rfl
theorem kJ22_isEmpty_16 (z : XKT) : XOi z xInf Y_J22_isEmpty 16 (.inr (.inr (.inl (r_i .boolean)))) := show XOkR Y_J22_isEmpty 16 ((r_i .boolean)) from okr_i (q := Y_J22_isEmpty) (ty := .boolean) rfl rfl dJ22_isEmpty_16
theorem o_J22_isEmpty (z : XKT) : XMi z xInf Y_J22_isEmpty := XMi.mk9 (T := T_J22_isEmpty z) rfl (⟨kJ22_isEmpty_0 z, ⟨kJ22_isEmpty_1 z, ⟨kJ22_isEmpty_4 z, ⟨kJ22_isEmpty_5 z, ⟨kJ22_isEmpty_8 z, ⟨kJ22_isEmpty_11 z, ⟨kJ22_isEmpty_12 z, ⟨kJ22_isEmpty_15 z, ⟨kJ22_isEmpty_16 z, trivial⟩⟩⟩⟩⟩⟩⟩⟩⟩) (hd_J22_isEmpty z) rfl rfl (by decide +kernel)
theorem hd_J22_pollFirst (z : XKT) : XHd z Y_J22_pollFirst := xHd_none rfl (xhd0 rfl)
theorem kJ22_pollFirst_0 (z : XKT) : XOi z xInf Y_J22_pollFirst 0 (.inl (i_aload 0 1)) := ok_aload_n dJ22_pollFirst_0 rfl
theorem kJ22_pollFirst_1 (z : XKT) : XOi z xInf Y_J22_pollFirst 1 (.inl (i_getr [15] 94 4)) := ok_getr dJ22_pollFirst_1 q790 (List.forall_mem_cons.mpr ⟨⟨_, _, _, _, fd_94_15_0⟩, (fun _ h => absurd h List.not_mem_nil)⟩)
theorem kJ22_pollFirst_4 (z : XKT) : XOi z xInf Y_J22_pollFirst 4 (.inl (i_dup 5)) := ok_dup dJ22_pollFirst_4
theorem kJ22_pollFirst_5 (z : XKT) : XOi z xInf Y_J22_pollFirst 5 (.inl (i_astore 1 6)) := ok_astore_n dJ22_pollFirst_5 rfl
theorem kJ22_pollFirst_6 (z : XKT) : XOi z xInf Y_J22_pollFirst 6 (.inl (i_aload 0 7)) := ok_aload_n dJ22_pollFirst_6 rfl
theorem kJ22_pollFirst_7 (z : XKT) : XOi z xInf Y_J22_pollFirst 7 (.inl (i_geti [15] 95 10)) := ok_geti dJ22_pollFirst_7 q791 (List.forall_mem_cons.mpr ⟨⟨_, _, _, _, fd_95_15_0⟩, (fun _ h => absurd h List.not_mem_nil)⟩)
theorem kJ22_pollFirst_10 (z : XKT) : XOi z xInf Y_J22_pollFirst 10 (.inl (i_dup 11)) := ok_dup dJ22_pollFirst_10
theorem kJ22_pollFirst_11 (z : XKT) : XOi z xInf Y_J22_pollFirst 11 (.inl (i_istore 2 12)) := ok_istore_n dJ22_pollFirst_11 rfl
theorem kJ22_pollFirst_12 (z : XKT) : XOi z xInf Y_J22_pollFirst 12 (.inr (.inl (15, g_stat 435 2))) := show XOkC z xInf Y_J22_pollFirst 12 15 (g_stat 435 2) from okc_S (q := Y_J22_pollFirst) (q1 := Y_J22_elementAt) Z_J22_elementAt rfl (by decide) dJ22_pollFirst_12 q1507 q1508 q152 q1509 hy_432
theorem kJ22_pollFirst_15 (z : XKT) : XOi z xInf Y_J22_pollFirst 15 (.inl (i_astore 3 16)) := ok_astore_n dJ22_pollFirst_15 rfl
theorem kJ22_pollFirst_16 (z : XKT) : XOi z xInf Y_J22_pollFirst 16 (.inl (i_aload 3 17)) := ok_aload_n dJ22_pollFirst_16 rfl
theorem kJ22_pollFirst_17 (z : XKT) : XOi z xInf Y_J22_pollFirst 17 (.inl (i_ifnull 34 20)) := ok_ifnull dJ22_pollFirst_17 rfl
theorem kJ22_pollFirst_20 (z : XKT) : XOi z xInf Y_J22_pollFirst 20 (.inl (i_aload 1 21)) := ok_aload_n dJ22_pollFirst_20 rfl
theorem kJ22_pollFirst_21 (z : XKT) : XOi z xInf Y_J22_pollFirst 21 (.inl (i_iload 2 22)) := ok_iload_n dJ22_pollFirst_21 rfl
theorem kJ22_pollFirst_22 (z : XKT) : XOi z xInf Y_J22_pollFirst 22 (.inl (i_push (vR none) 23)) := ok_null dJ22_pollFirst_22
theorem kJ22_pollFirst_23 (z : XKT) : XOi z xInf Y_J22_pollFirst 23 (.inl (i_arst z.1 1003 [2, 3, 7, 8, 9] 24)) := ok_arst (E := "java/lang/Object") dJ22_pollFirst_23 (List.forall_mem_cons.mpr ⟨⟨by decide, by decide, (List.mem_of_getElem? (l := xArs) (i := 3) rfl), _, _, _, (List.mem_of_getElem? (l := xCls) (i := 1) rfl), (Or.inr q3159)⟩, (List.forall_mem_cons.mpr ⟨⟨by decide, by decide, (List.mem_of_getElem? (l := xArs) (i := 3) rfl), _, _, _, (List.mem_of_getElem? (l := xCls) (i := 2) rfl), (Or.inr q3163)⟩, (List.forall_mem_cons.mpr ⟨⟨by decide, by decide, (List.mem_of_getElem? (l := xArs) (i := 3) rfl), _, _, _, (List.mem_of_getElem? (l := xCls) (i := 6) rfl), (Or.inr q3183)⟩, (List.forall_mem_cons.mpr ⟨⟨by decide, by decide, (List.mem_of_getElem? (l := xArs) (i := 3) rfl), _, _, _, (List.mem_of_getElem? (l := xCls) (i := 7) rfl), (Or.inr q3182)⟩, (List.forall_mem_cons.mpr ⟨⟨by decide, by decide, (List.mem_of_getElem? (l := xArs) (i := 3) rfl), _, _, _, (List.mem_of_getElem? (l := xCls) (i := 8) rfl), (Or.inr q3184)⟩, (fun _ h => absurd h List.not_mem_nil)⟩)⟩)⟩)⟩)⟩) (List.mem_of_getElem? (l := xArs) (i := 3) rfl) (by decide)
theorem kJ22_pollFirst_24 (z : XKT) : XOi z xInf Y_J22_pollFirst 24 (.inl (i_aload 0 25)) := ok_aload_n dJ22_pollFirst_24 rfl
theorem kJ22_pollFirst_25 (z : XKT) : XOi z xInf Y_J22_pollFirst 25 (.inl (i_iload 2 26)) := ok_iload_n dJ22_pollFirst_25 rfl
theorem kJ22_pollFirst_26 (z : XKT) : XOi z xInf Y_J22_pollFirst 26 (.inl (i_aload 1 27)) := ok_aload_n dJ22_pollFirst_26 rfl
theorem kJ22_pollFirst_27 (z : XKT) : XOi z xInf Y_J22_pollFirst 27 (.inl (i_alen 28)) := ok_alen dJ22_pollFirst_27
theorem kJ22_pollFirst_28 (z : XKT) : XOi z xInf Y_J22_pollFirst 28 (.inr (.inl (31, g_stat 436 2))) := show XOkC z xInf Y_J22_pollFirst 28 31 (g_stat 436 2) from okc_S (q := Y_J22_pollFirst) (q1 := Y_J22_inc) Z_J22_inc rfl (by decide) dJ22_pollFirst_28 q1510 q1511 q152 q1512 hy_430
theorem kJ22_pollFirst_31 (z : XKT) : XOi z xInf Y_J22_pollFirst 31 (.inl (i_puti z.1 [15] .int 95 34)) := ok_puti dJ22_pollFirst_31 q791 rfl (List.forall_mem_cons.mpr ⟨⟨_, _, _, _, tyJ22, fd_95_15_0, ⟨tyJ22_ok, nmJ22, (Or.inl rfl)⟩, rfl⟩, (fun _ h => absurd h List.not_mem_nil)⟩)
theorem kJ22_pollFirst_34 (z : XKT) : XOi z xInf Y_J22_pollFirst 34 (.inl (i_aload 3 35)) := ok_aload_n dJ22_pollFirst_34 rfl
theorem kJ22_pollFirst_35 (z : XKT) : XOi z xInf Y_J22_pollFirst 35 (.inr (.inr (.inl r_a))) := show XOkR Y_J22_pollFirst 35 (r_a) from okr_a (q := Y_J22_pollFirst) rfl (Or.inl ⟨_, rfl⟩) dJ22_pollFirst_35
theorem o_J22_pollFirst (z : XKT) : XMi z xInf Y_J22_pollFirst := XMi.mk9 (T := T_J22_pollFirst z) rfl (⟨kJ22_pollFirst_0 z, ⟨kJ22_pollFirst_1 z, ⟨kJ22_pollFirst_4 z, ⟨kJ22_pollFirst_5 z, ⟨kJ22_pollFirst_6 z, ⟨kJ22_pollFirst_7 z, ⟨kJ22_pollFirst_10 z, ⟨kJ22_pollFirst_11 z, ⟨kJ22_pollFirst_12 z, ⟨kJ22_pollFirst_15 z, ⟨kJ22_pollFirst_16 z, ⟨kJ22_pollFirst_17 z, ⟨kJ22_pollFirst_20 z, ⟨kJ22_pollFirst_21 z, ⟨kJ22_pollFirst_22 z, ⟨kJ22_pollFirst_23 z, ⟨kJ22_pollFirst_24 z, ⟨kJ22_pollFirst_25 z, ⟨kJ22_pollFirst_26 z, ⟨kJ22_pollFirst_27 z, ⟨kJ22_pollFirst_28 z, ⟨kJ22_pollFirst_31 z, ⟨kJ22_pollFirst_34 z, ⟨kJ22_pollFirst_35 z, trivial⟩⟩⟩⟩⟩⟩⟩⟩⟩⟩⟩⟩⟩⟩⟩⟩⟩⟩⟩⟩⟩⟩⟩⟩) (hd_J22_pollFirst z) rfl rfl (by decide +kernel)
theorem hd_J22_pollLast (z : XKT) : XHd z Y_J22_pollLast := xHd_none rfl (xhd0 rfl)
theorem kJ22_pollLast_0 (z : XKT) : XOi z xInf Y_J22_pollLast 0 (.inl (i_aload 0 1)) := ok_aload_n dJ22_pollLast_0 rfl
theorem kJ22_pollLast_1 (z : XKT) : XOi z xInf Y_J22_pollLast 1 (.inl (i_getr [15] 94 4)) := ok_getr dJ22_pollLast_1 q790 (List.forall_mem_cons.mpr ⟨⟨_, _, _, _, fd_94_15_0⟩, (fun _ h => absurd h List.not_mem_nil)⟩)
theorem kJ22_pollLast_4 (z : XKT) : XOi z xInf Y_J22_pollLast 4 (.inl (i_dup 5)) := ok_dup dJ22_pollLast_4
theorem kJ22_pollLast_5 (z : XKT) : XOi z xInf Y_J22_pollLast 5 (.inl (i_astore 1 6)) := ok_astore_n dJ22_pollLast_5 rfl
theorem kJ22_pollLast_6 (z : XKT) : XOi z xInf Y_J22_pollLast 6 (.inl (i_aload 0 7)) := ok_aload_n dJ22_pollLast_6 rfl
theorem kJ22_pollLast_7 (z : XKT) : XOi z xInf Y_J22_pollLast 7 (.inl (i_geti [15] 96 10)) := ok_geti dJ22_pollLast_7 q792 (List.forall_mem_cons.mpr ⟨⟨_, _, _, _, fd_96_15_0⟩, (fun _ h => absurd h List.not_mem_nil)⟩)
theorem kJ22_pollLast_10 (z : XKT) : XOi z xInf Y_J22_pollLast 10 (.inl (i_aload 1 11)) := ok_aload_n dJ22_pollLast_10 rfl
theorem kJ22_pollLast_11 (z : XKT) : XOi z xInf Y_J22_pollLast 11 (.inl (i_alen 12)) := ok_alen dJ22_pollLast_11
theorem kJ22_pollLast_12 (z : XKT) : XOi z xInf Y_J22_pollLast 12 (.inr (.inl (15, g_stat 434 2))) := show XOkC z xInf Y_J22_pollLast 12 15 (g_stat 434 2) from okc_S (q := Y_J22_pollLast) (q1 := Y_J22_dec) Z_J22_dec rfl (by decide) dJ22_pollLast_12 q1729 q1730 q152 q1731 hy_433
theorem kJ22_pollLast_15 (z : XKT) : XOi z xInf Y_J22_pollLast 15 (.inl (i_dup 16)) := ok_dup dJ22_pollLast_15
theorem kJ22_pollLast_16 (z : XKT) : XOi z xInf Y_J22_pollLast 16 (.inl (i_istore 2 17)) := ok_istore_n dJ22_pollLast_16 rfl
theorem kJ22_pollLast_17 (z : XKT) : XOi z xInf Y_J22_pollLast 17 (.inr (.inl (20, g_stat 435 2))) := show XOkC z xInf Y_J22_pollLast 17 20 (g_stat 435 2) from okc_S (q := Y_J22_pollLast) (q1 := Y_J22_elementAt) Z_J22_elementAt rfl (by decide) dJ22_pollLast_17 q1507 q1508 q152 q1509 hy_432
theorem kJ22_pollLast_20 (z : XKT) : XOi z xInf Y_J22_pollLast 20 (.inl (i_astore 3 21)) := ok_astore_n dJ22_pollLast_20 rfl
theorem kJ22_pollLast_21 (z : XKT) : XOi z xInf Y_J22_pollLast 21 (.inl (i_aload 3 22)) := ok_aload_n dJ22_pollLast_21 rfl
theorem kJ22_pollLast_22 (z : XKT) : XOi z xInf Y_J22_pollLast 22 (.inl (i_ifnull 34 25)) := ok_ifnull dJ22_pollLast_22 rfl
theorem kJ22_pollLast_25 (z : XKT) : XOi z xInf Y_J22_pollLast 25 (.inl (i_aload 1 26)) := ok_aload_n dJ22_pollLast_25 rfl
theorem kJ22_pollLast_26 (z : XKT) : XOi z xInf Y_J22_pollLast 26 (.inl (i_aload 0 27)) := ok_aload_n dJ22_pollLast_26 rfl
theorem kJ22_pollLast_27 (z : XKT) : XOi z xInf Y_J22_pollLast 27 (.inl (i_iload 2 28)) := ok_iload_n dJ22_pollLast_27 rfl
theorem kJ22_pollLast_28 (z : XKT) : XOi z xInf Y_J22_pollLast 28 (.inl (i_dupx1 29)) := ok_dup_x1 dJ22_pollLast_28
theorem kJ22_pollLast_29 (z : XKT) : XOi z xInf Y_J22_pollLast 29 (.inl (i_puti z.1 [15] .int 96 32)) := ok_puti dJ22_pollLast_29 q792 rfl (List.forall_mem_cons.mpr ⟨⟨_, _, _, _, tyJ22, fd_96_15_0, ⟨tyJ22_ok, nmJ22, (Or.inl rfl)⟩, rfl⟩, (fun _ h => absurd h List.not_mem_nil)⟩)
theorem kJ22_pollLast_32 (z : XKT) : XOi z xInf Y_J22_pollLast 32 (.inl (i_push (vR none) 33)) := ok_null dJ22_pollLast_32
theorem kJ22_pollLast_33 (z : XKT) : XOi z xInf Y_J22_pollLast 33 (.inl (i_arst z.1 1003 [2, 3, 7, 8, 9] 34)) := ok_arst (E := "java/lang/Object") dJ22_pollLast_33 (List.forall_mem_cons.mpr ⟨⟨by decide, by decide, (List.mem_of_getElem? (l := xArs) (i := 3) rfl), _, _, _, (List.mem_of_getElem? (l := xCls) (i := 1) rfl), (Or.inr q3159)⟩, (List.forall_mem_cons.mpr ⟨⟨by decide, by decide, (List.mem_of_getElem? (l := xArs) (i := 3) rfl), _, _, _, (List.mem_of_getElem? (l := xCls) (i := 2) rfl), (Or.inr q3163)⟩, (List.forall_mem_cons.mpr ⟨⟨by decide, by decide, (List.mem_of_getElem? (l := xArs) (i := 3) rfl), _, _, _, (List.mem_of_getElem? (l := xCls) (i := 6) rfl), (Or.inr q3183)⟩, (List.forall_mem_cons.mpr ⟨⟨by decide, by decide, (List.mem_of_getElem? (l := xArs) (i := 3) rfl), _, _, _, (List.mem_of_getElem? (l := xCls) (i := 7) rfl), (Or.inr q3182)⟩, (List.forall_mem_cons.mpr ⟨⟨by decide, by decide, (List.mem_of_getElem? (l := xArs) (i := 3) rfl), _, _, _, (List.mem_of_getElem? (l := xCls) (i := 8) rfl), (Or.inr q3184)⟩, (fun _ h => absurd h List.not_mem_nil)⟩)⟩)⟩)⟩)⟩) (List.mem_of_getElem? (l := xArs) (i := 3) rfl) (by decide)
theorem kJ22_pollLast_34 (z : XKT) : XOi z xInf Y_J22_pollLast 34 (.inl (i_aload 3 35)) := ok_aload_n dJ22_pollLast_34 rfl
theorem kJ22_pollLast_35 (z : XKT) : XOi z xInf Y_J22_pollLast 35 (.inr (.inr (.inl r_a))) := show XOkR Y_J22_pollLast 35 (r_a) from okr_a (q := Y_J22_pollLast) rfl (Or.inl ⟨_, rfl⟩) dJ22_pollLast_35
theorem o_J22_pollLast (z : XKT) : XMi z xInf Y_J22_pollLast := XMi.mk9 (T := T_J22_pollLast z) rfl (⟨kJ22_pollLast_0 z, ⟨kJ22_pollLast_1 z, ⟨kJ22_pollLast_4 z, ⟨kJ22_pollLast_5 z, ⟨kJ22_pollLast_6 z, ⟨kJ22_pollLast_7 z, ⟨kJ22_pollLast_10 z, ⟨kJ22_pollLast_11 z, ⟨kJ22_pollLast_12 z, ⟨kJ22_pollLast_15 z, ⟨kJ22_pollLast_16 z, ⟨kJ22_pollLast_17 z, ⟨kJ22_pollLast_20 z, ⟨kJ22_pollLast_21 z, ⟨kJ22_pollLast_22 z, ⟨kJ22_pollLast_25 z, ⟨kJ22_pollLast_26 z, ⟨kJ22_pollLast_27 z, ⟨kJ22_pollLast_28 z, ⟨kJ22_pollLast_29 z, ⟨kJ22_pollLast_32 z, ⟨kJ22_pollLast_33 z, ⟨kJ22_pollLast_34 z, ⟨kJ22_pollLast_35 z, trivial⟩⟩⟩⟩⟩⟩⟩⟩⟩⟩⟩⟩⟩⟩⟩⟩⟩⟩⟩⟩⟩⟩⟩⟩) (hd_J22_pollLast z) rfl rfl (by decide +kernel)
theorem hd_J22_removeFirst (z : XKT) : XHd z Y_J22_removeFirst := xHd_none rfl (xhd0 rfl)
theorem kJ22_removeFirst_0 (z : XKT) : XOi z xInf Y_J22_removeFirst 0 (.inl (i_aload 0 1)) := ok_aload_n dJ22_removeFirst_0 rfl
theorem kJ22_removeFirst_1 (z : XKT) : XOi z xInf Y_J22_removeFirst 1 (.inr (.inl (4, g_virt [(15, 439)] 0))) := show XOkC z xInf Y_J22_removeFirst 1 4 (g_virt [(15, 439)] 0) from okc_V (q := Y_J22_removeFirst) (List.forall_mem_cons.mpr ⟨(show XOkV z xInf Y_J22_removeFirst 1 4 0 (15, 439) from okv_V (q := Y_J22_removeFirst) (q1 := Y_J22_pollFirst) Z_J22_pollFirst rfl (by decide) ⟨by decide, by decide, Or.inl ⟨_, _, (List.mem_of_getElem? (l := xCls) (i := 14) rfl)⟩⟩ dJ22_removeFirst_1 q1503 q1504 q1505 q152 q1506 hy_434), (fun _ h => absurd h List.not_mem_nil)⟩)
theorem kJ22_removeFirst_4 (z : XKT) : XOi z xInf Y_J22_removeFirst 4 (.inl (i_astore 1 5)) := ok_astore_n dJ22_removeFirst_4 rfl
theorem kJ22_removeFirst_5 (z : XKT) : XOi z xInf Y_J22_removeFirst 5 (.inl (i_aload 1 6)) := ok_aload_n dJ22_removeFirst_5 rfl
theorem kJ22_removeFirst_6 (z : XKT) : XOi z xInf Y_J22_removeFirst 6 (.inl (i_ifnull 9 17)) := ok_ifnonnull dJ22_removeFirst_6 rfl
theorem kJ22_removeFirst_9 (z : XKT) : XOi z xInf Y_J22_removeFirst 9 (.inr (.inr (.inr (h_new 27 6)))) := show XOkT z Y_J22_removeFirst 9 ((h_new 27 6)) from okt_new (q := Y_J22_removeFirst) (cls := "java/util/NoSuchElementException") (names := ["java/lang/RuntimeException", "java/lang/Exception"]) (List.mem_of_getElem? (l := xCls) (i := 21) rfl) rfl (by decide) (by decide) (by decide) (by decide) (by decide) q1513 q162 at_J22_99 (by decide +kernel) dJ22_removeFirst_9 dJ22_removeFirst_12 dJ22_removeFirst_13 dJ22_removeFirst_16 (fun x hx => absurd hx List.not_mem_nil) ⟨by decide +kernel, by decide +kernel⟩
theorem kJ22_removeFirst_12 (z : XKT) : XOi z xInf Y_J22_removeFirst 12 (.inl (i_dup 13)) := ok_dup dJ22_removeFirst_12
theorem kJ22_removeFirst_17 (z : XKT) : XOi z xInf Y_J22_removeFirst 17 (.inl (i_aload 1 18)) := ok_aload_n dJ22_removeFirst_17 rfl
theorem kJ22_removeFirst_18 (z : XKT) : XOi z xInf Y_J22_removeFirst 18 (.inr (.inr (.inl r_a))) := show XOkR Y_J22_removeFirst 18 (r_a) from okr_a (q := Y_J22_removeFirst) rfl (Or.inl ⟨_, rfl⟩) dJ22_removeFirst_18
theorem o_J22_removeFirst (z : XKT) : XMi z xInf Y_J22_removeFirst := XMi.mk9 (T := T_J22_removeFirst z) rfl (⟨kJ22_removeFirst_0 z, ⟨kJ22_removeFirst_1 z, ⟨kJ22_removeFirst_4 z, ⟨kJ22_removeFirst_5 z, ⟨kJ22_removeFirst_6 z, ⟨kJ22_removeFirst_9 z, ⟨kJ22_removeFirst_12 z, ⟨kJ22_removeFirst_17 z, ⟨kJ22_removeFirst_18 z, trivial⟩⟩⟩⟩⟩⟩⟩⟩⟩) (hd_J22_removeFirst z) rfl rfl (by decide +kernel)
theorem hd_J22_removeLast (z : XKT) : XHd z Y_J22_removeLast := xHd_none rfl (xhd0 rfl)
theorem kJ22_removeLast_0 (z : XKT) : XOi z xInf Y_J22_removeLast 0 (.inl (i_aload 0 1)) := ok_aload_n dJ22_removeLast_0 rfl
theorem kJ22_removeLast_1 (z : XKT) : XOi z xInf Y_J22_removeLast 1 (.inr (.inl (4, g_virt [(15, 440)] 0))) := show XOkC z xInf Y_J22_removeLast 1 4 (g_virt [(15, 440)] 0) from okc_V (q := Y_J22_removeLast) (List.forall_mem_cons.mpr ⟨(show XOkV z xInf Y_J22_removeLast 1 4 0 (15, 440) from okv_V (q := Y_J22_removeLast) (q1 := Y_J22_pollLast) Z_J22_pollLast rfl (by decide) ⟨by decide, by decide, Or.inl ⟨_, _, (List.mem_of_getElem? (l := xCls) (i := 14) rfl)⟩⟩ dJ22_removeLast_1 q1725 q1726 q1727 q152 q1728 hy_435), (fun _ h => absurd h List.not_mem_nil)⟩)
theorem kJ22_removeLast_4 (z : XKT) : XOi z xInf Y_J22_removeLast 4 (.inl (i_astore 1 5)) := ok_astore_n dJ22_removeLast_4 rfl
theorem kJ22_removeLast_5 (z : XKT) : XOi z xInf Y_J22_removeLast 5 (.inl (i_aload 1 6)) := ok_aload_n dJ22_removeLast_5 rfl
theorem kJ22_removeLast_6 (z : XKT) : XOi z xInf Y_J22_removeLast 6 (.inl (i_ifnull 9 17)) := ok_ifnonnull dJ22_removeLast_6 rfl
theorem kJ22_removeLast_9 (z : XKT) : XOi z xInf Y_J22_removeLast 9 (.inr (.inr (.inr (h_new 27 6)))) := show XOkT z Y_J22_removeLast 9 ((h_new 27 6)) from okt_new (q := Y_J22_removeLast) (cls := "java/util/NoSuchElementException") (names := ["java/lang/RuntimeException", "java/lang/Exception"]) (List.mem_of_getElem? (l := xCls) (i := 21) rfl) rfl (by decide) (by decide) (by decide) (by decide) (by decide) q1513 q162 at_J22_99 (by decide +kernel) dJ22_removeLast_9 dJ22_removeLast_12 dJ22_removeLast_13 dJ22_removeLast_16 (fun x hx => absurd hx List.not_mem_nil) ⟨by decide +kernel, by decide +kernel⟩
theorem kJ22_removeLast_12 (z : XKT) : XOi z xInf Y_J22_removeLast 12 (.inl (i_dup 13)) := ok_dup dJ22_removeLast_12
theorem kJ22_removeLast_17 (z : XKT) : XOi z xInf Y_J22_removeLast 17 (.inl (i_aload 1 18)) := ok_aload_n dJ22_removeLast_17 rfl
theorem kJ22_removeLast_18 (z : XKT) : XOi z xInf Y_J22_removeLast 18 (.inr (.inr (.inl r_a))) := show XOkR Y_J22_removeLast 18 (r_a) from okr_a (q := Y_J22_removeLast) rfl (Or.inl ⟨_, rfl⟩) dJ22_removeLast_18
theorem o_J22_removeLast (z : XKT) : XMi z xInf Y_J22_removeLast := XMi.mk9 (T := T_J22_removeLast z) rfl (⟨kJ22_removeLast_0 z, ⟨kJ22_removeLast_1 z, ⟨kJ22_removeLast_4 z, ⟨kJ22_removeLast_5 z, ⟨kJ22_removeLast_6 z, ⟨kJ22_removeLast_9 z, ⟨kJ22_removeLast_12 z, ⟨kJ22_removeLast_17 z, ⟨kJ22_removeLast_18 z, trivial⟩⟩⟩⟩⟩⟩⟩⟩⟩) (hd_J22_removeLast z) rfl rfl (by decide +kernel)
theorem hd_J22_size (z : XKT) : XHd z Y_J22_size := xHd_none rfl (xhd0 rfl)
theorem kJ22_size_0 (z : XKT) : XOi z xInf Y_J22_size 0 (.inl (i_aload 0 1)) := ok_aload_n dJ22_size_0 rfl
theorem kJ22_size_1 (z : XKT) : XOi z xInf Y_J22_size 1 (.inl (i_geti [15] 96 4)) := ok_geti dJ22_size_1 q792 (List.forall_mem_cons.mpr ⟨⟨_, _, _, _, fd_96_15_0⟩, (fun _ h => absurd h List.not_mem_nil)⟩)
theorem kJ22_size_4 (z : XKT) : XOi z xInf Y_J22_size 4 (.inl (i_aload 0 5)) := ok_aload_n dJ22_size_4 rfl
theorem kJ22_size_5 (z : XKT) : XOi z xInf Y_J22_size 5 (.inl (i_geti [15] 95 8)) := ok_geti dJ22_size_5 q791 (List.forall_mem_cons.mpr ⟨⟨_, _, _, _, fd_95_15_0⟩, (fun _ h => absurd h List.not_mem_nil)⟩)
theorem kJ22_size_8 (z : XKT) : XOi z xInf Y_J22_size 8 (.inl (i_aload 0 9)) := ok_aload_n dJ22_size_8 rfl
theorem kJ22_size_9 (z : XKT) : XOi z xInf Y_J22_size 9 (.inl (i_getr [15] 94 12)) := ok_getr dJ22_size_9 q790 (List.forall_mem_cons.mpr ⟨⟨_, _, _, _, fd_94_15_0⟩, (fun _ h => absurd h List.not_mem_nil)⟩)
theorem kJ22_size_12 (z : XKT) : XOi z xInf Y_J22_size 12 (.inl (i_alen 13)) := ok_alen dJ22_size_12
theorem kJ22_size_13 (z : XKT) : XOi z xInf Y_J22_size 13 (.inr (.inl (16, g_stat 444 3))) := show XOkC z xInf Y_J22_size 13 16 (g_stat 444 3) from okc_S (q := Y_J22_size) (q1 := Y_J22_sub) Z_J22_sub rfl (by decide) dJ22_size_13 q1496 q1497 q152 q1498 hy_436
theorem kJ22_size_16 (z : XKT) : XOi z xInf Y_J22_size 16 (.inr (.inr (.inl (r_i .int)))) := show XOkR Y_J22_size 16 ((r_i .int)) from okr_i (q := Y_J22_size) (ty := .int) rfl rfl dJ22_size_16
theorem o_J22_size (z : XKT) : XMi z xInf Y_J22_size := XMi.mk9 (T := T_J22_size z) rfl (⟨kJ22_size_0 z, ⟨kJ22_size_1 z, ⟨kJ22_size_4 z, ⟨kJ22_size_5 z, ⟨kJ22_size_8 z, ⟨kJ22_size_9 z, ⟨kJ22_size_12 z, ⟨kJ22_size_13 z, ⟨kJ22_size_16 z, trivial⟩⟩⟩⟩⟩⟩⟩⟩⟩) (hd_J22_size z) rfl rfl (by decide +kernel)
theorem hd_J22_sub (z : XKT) : XHd z Y_J22_sub := xHd_none rfl (xhd0 rfl)
theorem kJ22_sub_0 (z : XKT) : XOi z xInf Y_J22_sub 0 (.inl (i_iload 0 1)) := ok_iload_n dJ22_sub_0 rfl
theorem kJ22_sub_1 (z : XKT) : XOi z xInf Y_J22_sub 1 (.inl (i_iload 1 2)) := ok_iload_n dJ22_sub_1 rfl
theorem kJ22_sub_2 (z : XKT) : XOi z xInf Y_J22_sub 2 (.inl (i_bin (fun x y => x - y) 3)) := ok_isub dJ22_sub_2
theorem kJ22_sub_3 (z : XKT) : XOi z xInf Y_J22_sub 3 (.inl (i_dup 4)) := ok_dup dJ22_sub_3
theorem kJ22_sub_4 (z : XKT) : XOi z xInf Y_J22_sub 4 (.inl (i_istore 0 5)) := ok_istore_n dJ22_sub_4 rfl
theorem kJ22_sub_5 (z : XKT) : XOi z xInf Y_J22_sub 5 (.inl (i_if (fun x => 0 ≤ x) 12 8)) := ok_if_ge dJ22_sub_5 rfl
theorem kJ22_sub_8 (z : XKT) : XOi z xInf Y_J22_sub 8 (.inl (i_iload 0 9)) := ok_iload_n dJ22_sub_8 rfl
theorem kJ22_sub_9 (z : XKT) : XOi z xInf Y_J22_sub 9 (.inl (i_iload 2 10)) := ok_iload_n dJ22_sub_9 rfl
theorem kJ22_sub_10 (z : XKT) : XOi z xInf Y_J22_sub 10 (.inl (i_bin (fun x y => x + y) 11)) := ok_iadd dJ22_sub_10
theorem kJ22_sub_11 (z : XKT) : XOi z xInf Y_J22_sub 11 (.inl (i_istore 0 12)) := ok_istore_n dJ22_sub_11 rfl
theorem kJ22_sub_12 (z : XKT) : XOi z xInf Y_J22_sub 12 (.inl (i_iload 0 13)) := ok_iload_n dJ22_sub_12 rfl
theorem kJ22_sub_13 (z : XKT) : XOi z xInf Y_J22_sub 13 (.inr (.inr (.inl (r_i .int)))) := show XOkR Y_J22_sub 13 ((r_i .int)) from okr_i (q := Y_J22_sub) (ty := .int) rfl rfl dJ22_sub_13
theorem o_J22_sub (z : XKT) : XMi z xInf Y_J22_sub := XMi.mk9 (T := T_J22_sub z) rfl (⟨kJ22_sub_0 z, ⟨kJ22_sub_1 z, ⟨kJ22_sub_2 z, ⟨kJ22_sub_3 z, ⟨kJ22_sub_4 z, ⟨kJ22_sub_5 z, ⟨kJ22_sub_8 z, ⟨kJ22_sub_9 z, ⟨kJ22_sub_10 z, ⟨kJ22_sub_11 z, ⟨kJ22_sub_12 z, ⟨kJ22_sub_13 z, trivial⟩⟩⟩⟩⟩⟩⟩⟩⟩⟩⟩⟩) (hd_J22_sub z) rfl rfl (by decide +kernel)
theorem hd_J23_checkForComodification (z : XKT) : XHd z Y_J23_checkForComodification := xHd_none rfl (xhd0 rfl)
theorem kJ23_checkForComodification_0 (z : XKT) : XOi z xInf Y_J23_checkForComodification 0 (.inl (i_aload 0 1)) := ok_aload_n dJ23_checkForComodification_0 rfl
theorem kJ23_checkForComodification_1 (z : XKT) : XOi z xInf Y_J23_checkForComodification 1 (.inl (i_getr [16] 100 4)) := ok_getr dJ23_checkForComodification_1 q880 (List.forall_mem_cons.mpr ⟨⟨_, _, _, _, fd_100_16_0⟩, (fun _ h => absurd h List.not_mem_nil)⟩)
theorem kJ23_checkForComodification_4 (z : XKT) : XOi z xInf Y_J23_checkForComodification 4 (.inl (i_geti [12] 85 7)) := ok_geti dJ23_checkForComodification_4 q532 (List.forall_mem_cons.mpr ⟨⟨_, _, _, _, fd_85_12_1⟩, (fun _ h => absurd h List.not_mem_nil)⟩)
theorem kJ23_checkForComodification_7 (z : XKT) : XOi z xInf Y_J23_checkForComodification 7 (.inl (i_aload 0 8)) := ok_aload_n dJ23_checkForComodification_7 rfl
theorem kJ23_checkForComodification_8 (z : XKT) : XOi z xInf Y_J23_checkForComodification 8 (.inl (i_geti [16] 99 11)) := ok_geti dJ23_checkForComodification_8 q879 (List.forall_mem_cons.mpr ⟨⟨_, _, _, _, fd_99_16_0⟩, (fun _ h => absurd h List.not_mem_nil)⟩)
theorem kJ23_checkForComodification_11 (z : XKT) : XOi z xInf Y_J23_checkForComodification 11 (.inl (i_icmp (fun x y => x = y) 22 14)) := ok_icmp_eq dJ23_checkForComodification_11 rfl
theorem kJ23_checkForComodification_17 (z : XKT) : XOi z xInf Y_J23_checkForComodification 17 (.inl (i_dup 18)) := ok_dup dJ23_checkForComodification_17
theorem kJ23_checkForComodification_22 (z : XKT) : XOi z xInf Y_J23_checkForComodification 22 (.inr (.inr (.inl r_v))) := show XOkR Y_J23_checkForComodification 22 (r_v) from okr_v (q := Y_J23_checkForComodification) rfl dJ23_checkForComodification_22
theorem o_J23_checkForComodification (z : XKT) : XMi z xInf Y_J23_checkForComodification := XMi.mk9 (T := T_J23_checkForComodification z) rfl (⟨kJ23_checkForComodification_0 z, ⟨kJ23_checkForComodification_1 z, ⟨kJ23_checkForComodification_4 z, ⟨kJ23_checkForComodification_7 z, ⟨kJ23_checkForComodification_8 z, ⟨kJ23_checkForComodification_11 z, ⟨kJ23_checkForComodification_17 z, ⟨kJ23_checkForComodification_22 z, trivial⟩⟩⟩⟩⟩⟩⟩⟩) (hd_J23_checkForComodification z) rfl rfl (by decide +kernel)
theorem hd_J23_hasNext (z : XKT) : XHd z Y_J23_hasNext := xHd_none rfl (xhd0 rfl)
theorem kJ23_hasNext_0 (z : XKT) : XOi z xInf Y_J23_hasNext 0 (.inl (i_aload 0 1)) := ok_aload_n dJ23_hasNext_0 rfl
theorem kJ23_hasNext_1 (z : XKT) : XOi z xInf Y_J23_hasNext 1 (.inl (i_geti [16] 97 4)) := ok_geti dJ23_hasNext_1 q877 (List.forall_mem_cons.mpr ⟨⟨_, _, _, _, fd_97_16_0⟩, (fun _ h => absurd h List.not_mem_nil)⟩)
theorem kJ23_hasNext_4 (z : XKT) : XOi z xInf Y_J23_hasNext 4 (.inl (i_aload 0 5)) := ok_aload_n dJ23_hasNext_4 rfl
theorem kJ23_hasNext_5 (z : XKT) : XOi z xInf Y_J23_hasNext 5 (.inl (i_getr [16] 100 8)) := ok_getr dJ23_hasNext_5 q880 (List.forall_mem_cons.mpr ⟨⟨_, _, _, _, fd_100_16_0⟩, (fun _ h => absurd h List.not_mem_nil)⟩)
theorem kJ23_hasNext_8 (z : XKT) : XOi z xInf Y_J23_hasNext 8 (.inl (i_geti [12] 87 11)) := ok_getiN dJ23_hasNext_8 q527 (List.forall_mem_cons.mpr ⟨⟨_, _, _, _, fd_87_12_0⟩, (fun _ h => absurd h List.not_mem_nil)⟩)
theorem kJ23_hasNext_11 (z : XKT) : XOi z xInf Y_J23_hasNext 11 (.inl (i_icmp (fun x y => x = y) 18 14)) := ok_icmp_eq dJ23_hasNext_11 rfl
theorem kJ23_hasNext_14 (z : XKT) : XOi z xInf Y_J23_hasNext 14 (.inl (i_push (vI 1) 15)) := ok_iconst dJ23_hasNext_14 rfl
theorem kJ23_hasNext_15 (z : XKT) : XOi z xInf Y_J23_hasNext 15 (.inl (i_goto 19)) := ok_goto dJ23_hasNext_15 rfl
theorem kJ23_hasNext_18 (z : XKT) : XOi z xInf Y_J23_hasNext 18 (.inl (i_push (vI 0) 19)) := ok_iconst dJ23_hasNext_18 rfl
theorem kJ23_hasNext_19 (z : XKT) : XOi z xInf Y_J23_hasNext 19 (.inr (.inr (.inl (r_i .boolean)))) := show XOkR Y_J23_hasNext 19 ((r_i .boolean)) from okr_i (q := Y_J23_hasNext) (ty := .boolean) rfl rfl dJ23_hasNext_19
theorem o_J23_hasNext (z : XKT) : XMi z xInf Y_J23_hasNext := XMi.mk9 (T := T_J23_hasNext z) rfl (⟨kJ23_hasNext_0 z, ⟨kJ23_hasNext_1 z, ⟨kJ23_hasNext_4 z, ⟨kJ23_hasNext_5 z, ⟨kJ23_hasNext_8 z, ⟨kJ23_hasNext_11 z, ⟨kJ23_hasNext_14 z, ⟨kJ23_hasNext_15 z, ⟨kJ23_hasNext_18 z, ⟨kJ23_hasNext_19 z, trivial⟩⟩⟩⟩⟩⟩⟩⟩⟩⟩) (hd_J23_hasNext z) rfl rfl (by decide +kernel)
theorem hd_J23_init (z : XKT) : XHd z Y_J23_init := xHd_none rfl (xhd0 rfl)
theorem kJ23_init_0 (z : XKT) : XOi z xInf Y_J23_init 0 (.inl (i_aload 0 1)) := ok_aload_n dJ23_init_0 rfl
theorem kJ23_init_1 (z : XKT) : XOi z xInf Y_J23_init 1 (.inl (i_aload 1 2)) := ok_aload_n dJ23_init_1 rfl
theorem kJ23_init_2 (z : XKT) : XOi z xInf Y_J23_init 2 (.inl (i_putr z.1 [16] 100 5)) := ok_putr dJ23_init_2 q880 (List.forall_mem_cons.mpr ⟨⟨_, _, _, _, tyJ23, fd_100_16_0, ⟨tyJ23_ok, nmJ23, (Or.inr ⟨rfl, by decide, rfl⟩)⟩, (Or.inl ⟨_, rfl⟩)⟩, (fun _ h => absurd h List.not_mem_nil)⟩)
theorem kJ23_init_5 (z : XKT) : XOi z xInf Y_J23_init 5 (.inl (i_aload 0 6)) := ok_aload_n dJ23_init_5 rfl
theorem kJ23_init_6 (z : XKT) : XOi z xInf Y_J23_init 6 (.inl (i_oinit 9)) := ok_oinit dJ23_init_6 q874 q179 q180
theorem kJ23_init_9 (z : XKT) : XOi z xInf Y_J23_init 9 (.inl (i_aload 0 10)) := ok_aload_n dJ23_init_9 rfl
theorem kJ23_init_10 (z : XKT) : XOi z xInf Y_J23_init 10 (.inl (i_push (vI (-1)) 11)) := ok_iconst dJ23_init_10 rfl
theorem kJ23_init_11 (z : XKT) : XOi z xInf Y_J23_init 11 (.inl (i_puti z.1 [16] .int 98 14)) := ok_puti dJ23_init_11 q878 rfl (List.forall_mem_cons.mpr ⟨⟨_, _, _, _, tyJ23, fd_98_16_0, ⟨tyJ23_ok, nmJ23, (Or.inl rfl)⟩, rfl⟩, (fun _ h => absurd h List.not_mem_nil)⟩)
theorem kJ23_init_14 (z : XKT) : XOi z xInf Y_J23_init 14 (.inl (i_aload 0 15)) := ok_aload_n dJ23_init_14 rfl
theorem kJ23_init_15 (z : XKT) : XOi z xInf Y_J23_init 15 (.inl (i_aload 0 16)) := ok_aload_n dJ23_init_15 rfl
theorem kJ23_init_16 (z : XKT) : XOi z xInf Y_J23_init 16 (.inl (i_getr [16] 100 19)) := ok_getr dJ23_init_16 q880 (List.forall_mem_cons.mpr ⟨⟨_, _, _, _, fd_100_16_0⟩, (fun _ h => absurd h List.not_mem_nil)⟩)
theorem kJ23_init_19 (z : XKT) : XOi z xInf Y_J23_init 19 (.inl (i_geti [12] 85 22)) := ok_geti dJ23_init_19 q532 (List.forall_mem_cons.mpr ⟨⟨_, _, _, _, fd_85_12_1⟩, (fun _ h => absurd h List.not_mem_nil)⟩)
theorem kJ23_init_22 (z : XKT) : XOi z xInf Y_J23_init 22 (.inl (i_puti z.1 [16] .int 99 25)) := ok_puti dJ23_init_22 q879 rfl (List.forall_mem_cons.mpr ⟨⟨_, _, _, _, tyJ23, fd_99_16_0, ⟨tyJ23_ok, nmJ23, (Or.inl rfl)⟩, rfl⟩, (fun _ h => absurd h List.not_mem_nil)⟩)
theorem kJ23_init_25 (z : XKT) : XOi z xInf Y_J23_init 25 (.inr (.inr (.inl r_v))) := show XOkR Y_J23_init 25 (r_v) from okr_v (q := Y_J23_init) rfl dJ23_init_25
theorem o_J23_init (z : XKT) : XMi z xInf Y_J23_init := XMi.mk9 (T := T_J23_init z) rfl (⟨kJ23_init_0 z, ⟨kJ23_init_1 z, ⟨kJ23_init_2 z, ⟨kJ23_init_5 z, ⟨kJ23_init_6 z, ⟨kJ23_init_9 z, ⟨kJ23_init_10 z, ⟨kJ23_init_11 z, ⟨kJ23_init_14 z, ⟨kJ23_init_15 z, ⟨kJ23_init_16 z, ⟨kJ23_init_19 z, ⟨kJ23_init_22 z, ⟨kJ23_init_25 z, trivial⟩⟩⟩⟩⟩⟩⟩⟩⟩⟩⟩⟩⟩⟩) (hd_J23_init z) rfl rfl (by decide +kernel)
theorem hd_J23_next (z : XKT) : XHd z Y_J23_next := xHd_none rfl (xhd0 rfl)
theorem kJ23_next_0 (z : XKT) : XOi z xInf Y_J23_next 0 (.inl (i_aload 0 1)) := ok_aload_n dJ23_next_0 rfl
theorem kJ23_next_1 (z : XKT) : XOi z xInf Y_J23_next 1 (.inr (.inl (4, g_virt [(16, 445)] 0))) := show XOkC z xInf Y_J23_next 1 4 (g_virt [(16, 445)] 0) from okc_V (q := Y_J23_next) (List.forall_mem_cons.mpr ⟨(show XOkV z xInf Y_J23_next 1 4 0 (16, 445) from okv_V (q := Y_J23_next) (q1 := Y_J23_checkForComodification) Z_J23_checkForComodification rfl (by decide) ⟨by decide, by decide, Or.inl ⟨_, _, (List.mem_of_getElem? (l := xCls) (i := 15) rfl)⟩⟩ dJ23_next_1 q1157 q1158 q1159 q157 q1162 hy_437), (fun _ h => absurd h List.not_mem_nil)⟩)
theorem kJ23_next_4 (z : XKT) : XOi z xInf Y_J23_next 4 (.inl (i_aload 0 5)) := ok_aload_n dJ23_next_4 rfl
theorem kJ23_next_5 (z : XKT) : XOi z xInf Y_J23_next 5 (.inl (i_geti [16] 97 8)) := ok_geti dJ23_next_5 q877 (List.forall_mem_cons.mpr ⟨⟨_, _, _, _, fd_97_16_0⟩, (fun _ h => absurd h List.not_mem_nil)⟩)
theorem kJ23_next_8 (z : XKT) : XOi z xInf Y_J23_next 8 (.inl (i_istore 1 9)) := ok_istore_n dJ23_next_8 rfl
theorem kJ23_next_9 (z : XKT) : XOi z xInf Y_J23_next 9 (.inl (i_iload 1 10)) := ok_iload_n dJ23_next_9 rfl
theorem kJ23_next_10 (z : XKT) : XOi z xInf Y_J23_next 10 (.inl (i_aload 0 11)) := ok_aload_n dJ23_next_10 rfl
theorem kJ23_next_11 (z : XKT) : XOi z xInf Y_J23_next 11 (.inl (i_getr [16] 100 14)) := ok_getr dJ23_next_11 q880 (List.forall_mem_cons.mpr ⟨⟨_, _, _, _, fd_100_16_0⟩, (fun _ h => absurd h List.not_mem_nil)⟩)
theorem kJ23_next_14 (z : XKT) : XOi z xInf Y_J23_next 14 (.inl (i_geti [12] 87 17)) := ok_getiN dJ23_next_14 q527 (List.forall_mem_cons.mpr ⟨⟨_, _, _, _, fd_87_12_0⟩, (fun _ h => absurd h List.not_mem_nil)⟩)
theorem kJ23_next_17 (z : XKT) : XOi z xInf Y_J23_next 17 (.inl (i_icmp (fun x y => x < y) 28 20)) := ok_icmp_lt dJ23_next_17 rfl
theorem kJ23_next_20 (z : XKT) : XOi z xInf Y_J23_next 20 (.inr (.inr (.inr (h_new 27 6)))) := show XOkT z Y_J23_next 20 ((h_new 27 6)) from okt_new (q := Y_J23_next) (cls := "java/util/NoSuchElementException") (names := ["java/lang/RuntimeException", "java/lang/Exception"]) (List.mem_of_getElem? (l := xCls) (i := 21) rfl) rfl (by decide) (by decide) (by decide) (by decide) (by decide) q1163 q162 at_J23_36 (by decide +kernel) dJ23_next_20 dJ23_next_23 dJ23_next_24 dJ23_next_27 (fun x hx => absurd hx List.not_mem_nil) ⟨by decide +kernel, by decide +kernel⟩
theorem kJ23_next_23 (z : XKT) : XOi z xInf Y_J23_next 23 (.inl (i_dup 24)) := ok_dup dJ23_next_23
theorem kJ23_next_28 (z : XKT) : XOi z xInf Y_J23_next 28 (.inl (i_aload 0 29)) := ok_aload_n dJ23_next_28 rfl
theorem kJ23_next_29 (z : XKT) : XOi z xInf Y_J23_next 29 (.inl (i_getr [16] 100 32)) := ok_getr dJ23_next_29 q880 (List.forall_mem_cons.mpr ⟨⟨_, _, _, _, fd_100_16_0⟩, (fun _ h => absurd h List.not_mem_nil)⟩)
theorem kJ23_next_32 (z : XKT) : XOi z xInf Y_J23_next 32 (.inl (i_getr [12] 86 35)) := ok_getr dJ23_next_32 q526 (List.forall_mem_cons.mpr ⟨⟨_, _, _, _, fd_86_12_0⟩, (fun _ h => absurd h List.not_mem_nil)⟩)
theorem kJ23_next_35 (z : XKT) : XOi z xInf Y_J23_next 35 (.inl (i_astore 2 36)) := ok_astore_n dJ23_next_35 rfl
theorem kJ23_next_36 (z : XKT) : XOi z xInf Y_J23_next 36 (.inl (i_iload 1 37)) := ok_iload_n dJ23_next_36 rfl
theorem kJ23_next_37 (z : XKT) : XOi z xInf Y_J23_next 37 (.inl (i_aload 2 38)) := ok_aload_n dJ23_next_37 rfl
theorem kJ23_next_38 (z : XKT) : XOi z xInf Y_J23_next 38 (.inl (i_alen 39)) := ok_alen dJ23_next_38
theorem kJ23_next_39 (z : XKT) : XOi z xInf Y_J23_next 39 (.inl (i_icmp (fun x y => x < y) 50 42)) := ok_icmp_lt dJ23_next_39 rfl
theorem kJ23_next_45 (z : XKT) : XOi z xInf Y_J23_next 45 (.inl (i_dup 46)) := ok_dup dJ23_next_45
theorem kJ23_next_50 (z : XKT) : XOi z xInf Y_J23_next 50 (.inl (i_aload 0 51)) := ok_aload_n dJ23_next_50 rfl
theorem kJ23_next_51 (z : XKT) : XOi z xInf Y_J23_next 51 (.inl (i_iload 1 52)) := ok_iload_n dJ23_next_51 rfl
theorem kJ23_next_52 (z : XKT) : XOi z xInf Y_J23_next 52 (.inl (i_push (vI 1) 53)) := ok_iconst dJ23_next_52 rfl
theorem kJ23_next_53 (z : XKT) : XOi z xInf Y_J23_next 53 (.inl (i_bin (fun x y => x + y) 54)) := ok_iadd dJ23_next_53
theorem kJ23_next_54 (z : XKT) : XOi z xInf Y_J23_next 54 (.inl (i_puti z.1 [16] .int 97 57)) := ok_puti dJ23_next_54 q877 rfl (List.forall_mem_cons.mpr ⟨⟨_, _, _, _, tyJ23, fd_97_16_0, ⟨tyJ23_ok, nmJ23, (Or.inl rfl)⟩, rfl⟩, (fun _ h => absurd h List.not_mem_nil)⟩)
theorem kJ23_next_57 (z : XKT) : XOi z xInf Y_J23_next 57 (.inl (i_aload 2 58)) := ok_aload_n dJ23_next_57 rfl
theorem kJ23_next_58 (z : XKT) : XOi z xInf Y_J23_next 58 (.inl (i_aload 0 59)) := ok_aload_n dJ23_next_58 rfl
theorem kJ23_next_59 (z : XKT) : XOi z xInf Y_J23_next 59 (.inl (i_iload 1 60)) := ok_iload_n dJ23_next_59 rfl
theorem kJ23_next_60 (z : XKT) : XOi z xInf Y_J23_next 60 (.inl (i_dupx1 61)) := ok_dup_x1 dJ23_next_60
theorem kJ23_next_61 (z : XKT) : XOi z xInf Y_J23_next 61 (.inl (i_puti z.1 [16] .int 98 64)) := ok_puti dJ23_next_61 q878 rfl (List.forall_mem_cons.mpr ⟨⟨_, _, _, _, tyJ23, fd_98_16_0, ⟨tyJ23_ok, nmJ23, (Or.inl rfl)⟩, rfl⟩, (fun _ h => absurd h List.not_mem_nil)⟩)
theorem kJ23_next_64 (z : XKT) : XOi z xInf Y_J23_next 64 (.inl (i_arld [1003, 1004, 1005, 1006, 1007] 65)) := ok_arld (by decide) dJ23_next_64
theorem kJ23_next_65 (z : XKT) : XOi z xInf Y_J23_next 65 (.inr (.inr (.inl r_a))) := show XOkR Y_J23_next 65 (r_a) from okr_a (q := Y_J23_next) rfl (Or.inl ⟨_, rfl⟩) dJ23_next_65
theorem o_J23_next (z : XKT) : XMi z xInf Y_J23_next := XMi.mk9 (T := T_J23_next z) rfl (⟨kJ23_next_0 z, ⟨kJ23_next_1 z, ⟨kJ23_next_4 z, ⟨kJ23_next_5 z, ⟨kJ23_next_8 z, ⟨kJ23_next_9 z, ⟨kJ23_next_10 z, ⟨kJ23_next_11 z, ⟨kJ23_next_14 z, ⟨kJ23_next_17 z, ⟨kJ23_next_20 z, ⟨kJ23_next_23 z, ⟨kJ23_next_28 z, ⟨kJ23_next_29 z, ⟨kJ23_next_32 z, ⟨kJ23_next_35 z, ⟨kJ23_next_36 z, ⟨kJ23_next_37 z, ⟨kJ23_next_38 z, ⟨kJ23_next_39 z, ⟨kJ23_next_45 z, ⟨kJ23_next_50 z, ⟨kJ23_next_51 z, ⟨kJ23_next_52 z, ⟨kJ23_next_53 z, ⟨kJ23_next_54 z, ⟨kJ23_next_57 z, ⟨kJ23_next_58 z, ⟨kJ23_next_59 z, ⟨kJ23_next_60 z, ⟨kJ23_next_61 z, ⟨kJ23_next_64 z, ⟨kJ23_next_65 z, trivial⟩⟩⟩⟩⟩⟩⟩⟩⟩⟩⟩⟩⟩⟩⟩⟩⟩⟩⟩⟩⟩⟩⟩⟩⟩⟩⟩⟩⟩⟩⟩⟩⟩) (hd_J23_next z) rfl rfl (by decide +kernel)
theorem hd_J26_checkForComodification (z : XKT) : XHd z Y_J26_checkForComodification := xHd_none rfl (xhd0 rfl)
theorem kJ26_checkForComodification_0 (z : XKT) : XOi z xInf Y_J26_checkForComodification 0 (.inl (i_aload 0 1)) := ok_aload_n dJ26_checkForComodification_0 rfl
theorem kJ26_checkForComodification_1 (z : XKT) : XOi z xInf Y_J26_checkForComodification 1 (.inl (i_getr [17] 105 4)) := ok_getr dJ26_checkForComodification_1 q950 (List.forall_mem_cons.mpr ⟨⟨_, _, _, _, fd_105_17_0⟩, (fun _ h => absurd h List.not_mem_nil)⟩)
theorem kJ26_checkForComodification_4 (z : XKT) : XOi z xInf Y_J26_checkForComodification 4 (.inl (i_geti [13] 85 7)) := ok_geti dJ26_checkForComodification_4 q530 (List.forall_mem_cons.mpr ⟨⟨_, _, _, _, fd_85_13_1⟩, (fun _ h => absurd h List.not_mem_nil)⟩)
theorem kJ26_checkForComodification_7 (z : XKT) : XOi z xInf Y_J26_checkForComodification 7 (.inl (i_aload 0 8)) := ok_aload_n dJ26_checkForComodification_7 rfl
theorem kJ26_checkForComodification_8 (z : XKT) : XOi z xInf Y_J26_checkForComodification 8 (.inl (i_geti [17] 104 11)) := ok_geti dJ26_checkForComodification_8 q949 (List.forall_mem_cons.mpr ⟨⟨_, _, _, _, fd_104_17_0⟩, (fun _ h => absurd h List.not_mem_nil)⟩)
theorem kJ26_checkForComodification_11 (z : XKT) : XOi z xInf Y_J26_checkForComodification 11 (.inl (i_icmp (fun x y => x = y) 22 14)) := ok_icmp_eq dJ26_checkForComodification_11 rfl
theorem kJ26_checkForComodification_17 (z : XKT) : XOi z xInf Y_J26_checkForComodification 17 (.inl (i_dup 18)) := ok_dup dJ26_checkForComodification_17
theorem kJ26_checkForComodification_22 (z : XKT) : XOi z xInf Y_J26_checkForComodification 22 (.inr (.inr (.inl r_v))) := show XOkR Y_J26_checkForComodification 22 (r_v) from okr_v (q := Y_J26_checkForComodification) rfl dJ26_checkForComodification_22
theorem o_J26_checkForComodification (z : XKT) : XMi z xInf Y_J26_checkForComodification := XMi.mk9 (T := T_J26_checkForComodification z) rfl (⟨kJ26_checkForComodification_0 z, ⟨kJ26_checkForComodification_1 z, ⟨kJ26_checkForComodification_4 z, ⟨kJ26_checkForComodification_7 z, ⟨kJ26_checkForComodification_8 z, ⟨kJ26_checkForComodification_11 z, ⟨kJ26_checkForComodification_17 z, ⟨kJ26_checkForComodification_22 z, trivial⟩⟩⟩⟩⟩⟩⟩⟩) (hd_J26_checkForComodification z) rfl rfl (by decide +kernel)
theorem hd_J26_hasNext (z : XKT) : XHd z Y_J26_hasNext := xHd_none rfl (xhd0 rfl)
theorem kJ26_hasNext_0 (z : XKT) : XOi z xInf Y_J26_hasNext 0 (.inl (i_aload 0 1)) := ok_aload_n dJ26_hasNext_0 rfl
theorem kJ26_hasNext_1 (z : XKT) : XOi z xInf Y_J26_hasNext 1 (.inl (i_geti [17] 103 4)) := ok_geti dJ26_hasNext_1 q948 (List.forall_mem_cons.mpr ⟨⟨_, _, _, _, fd_103_17_0⟩, (fun _ h => absurd h List.not_mem_nil)⟩)
theorem kJ26_hasNext_4 (z : XKT) : XOi z xInf Y_J26_hasNext 4 (.inl (i_aload 0 5)) := ok_aload_n dJ26_hasNext_4 rfl
theorem kJ26_hasNext_5 (z : XKT) : XOi z xInf Y_J26_hasNext 5 (.inl (i_getr [17] 105 8)) := ok_getr dJ26_hasNext_5 q950 (List.forall_mem_cons.mpr ⟨⟨_, _, _, _, fd_105_17_0⟩, (fun _ h => absurd h List.not_mem_nil)⟩)
theorem kJ26_hasNext_8 (z : XKT) : XOi z xInf Y_J26_hasNext 8 (.inl (i_geti [13] 88 11)) := ok_geti dJ26_hasNext_8 q610 (List.forall_mem_cons.mpr ⟨⟨_, _, _, _, fd_88_13_0⟩, (fun _ h => absurd h List.not_mem_nil)⟩)
theorem kJ26_hasNext_11 (z : XKT) : XOi z xInf Y_J26_hasNext 11 (.inl (i_icmp (fun x y => y ≤ x) 18 14)) := ok_icmp_ge dJ26_hasNext_11 rfl
theorem kJ26_hasNext_14 (z : XKT) : XOi z xInf Y_J26_hasNext 14 (.inl (i_push (vI 1) 15)) := ok_iconst dJ26_hasNext_14 rfl
theorem kJ26_hasNext_15 (z : XKT) : XOi z xInf Y_J26_hasNext 15 (.inl (i_goto 19)) := ok_goto dJ26_hasNext_15 rfl
theorem kJ26_hasNext_18 (z : XKT) : XOi z xInf Y_J26_hasNext 18 (.inl (i_push (vI 0) 19)) := ok_iconst dJ26_hasNext_18 rfl
theorem kJ26_hasNext_19 (z : XKT) : XOi z xInf Y_J26_hasNext 19 (.inr (.inr (.inl (r_i .boolean)))) := show XOkR Y_J26_hasNext 19 ((r_i .boolean)) from okr_i (q := Y_J26_hasNext) (ty := .boolean) rfl rfl dJ26_hasNext_19
theorem o_J26_hasNext (z : XKT) : XMi z xInf Y_J26_hasNext := XMi.mk9 (T := T_J26_hasNext z) rfl (⟨kJ26_hasNext_0 z, ⟨kJ26_hasNext_1 z, ⟨kJ26_hasNext_4 z, ⟨kJ26_hasNext_5 z, ⟨kJ26_hasNext_8 z, ⟨kJ26_hasNext_11 z, ⟨kJ26_hasNext_14 z, ⟨kJ26_hasNext_15 z, ⟨kJ26_hasNext_18 z, ⟨kJ26_hasNext_19 z, trivial⟩⟩⟩⟩⟩⟩⟩⟩⟩⟩) (hd_J26_hasNext z) rfl rfl (by decide +kernel)
theorem hd_J26_init (z : XKT) : XHd z Y_J26_init := xHd_none rfl (xhd0 rfl)
theorem kJ26_init_0 (z : XKT) : XOi z xInf Y_J26_init 0 (.inl (i_aload 0 1)) := ok_aload_n dJ26_init_0 rfl
theorem kJ26_init_1 (z : XKT) : XOi z xInf Y_J26_init 1 (.inl (i_aload 1 2)) := ok_aload_n dJ26_init_1 rfl
theorem kJ26_init_2 (z : XKT) : XOi z xInf Y_J26_init 2 (.inl (i_putr z.1 [17] 105 5)) := ok_putr dJ26_init_2 q950 (List.forall_mem_cons.mpr ⟨⟨_, _, _, _, tyJ26, fd_105_17_0, ⟨tyJ26_ok, nmJ26, (Or.inr ⟨rfl, by decide, rfl⟩)⟩, (Or.inl ⟨_, rfl⟩)⟩, (fun _ h => absurd h List.not_mem_nil)⟩)
theorem kJ26_init_5 (z : XKT) : XOi z xInf Y_J26_init 5 (.inl (i_aload 0 6)) := ok_aload_n dJ26_init_5 rfl
theorem kJ26_init_6 (z : XKT) : XOi z xInf Y_J26_init 6 (.inl (i_oinit 9)) := ok_oinit dJ26_init_6 q941 q179 q180
theorem kJ26_init_9 (z : XKT) : XOi z xInf Y_J26_init 9 (.inl (i_aload 0 10)) := ok_aload_n dJ26_init_9 rfl
theorem kJ26_init_10 (z : XKT) : XOi z xInf Y_J26_init 10 (.inl (i_aload 0 11)) := ok_aload_n dJ26_init_10 rfl
theorem kJ26_init_11 (z : XKT) : XOi z xInf Y_J26_init 11 (.inl (i_getr [17] 105 14)) := ok_getr dJ26_init_11 q950 (List.forall_mem_cons.mpr ⟨⟨_, _, _, _, fd_105_17_0⟩, (fun _ h => absurd h List.not_mem_nil)⟩)
theorem kJ26_init_14 (z : XKT) : XOi z xInf Y_J26_init 14 (.inl (i_geti [13] 85 17)) := ok_geti dJ26_init_14 q530 (List.forall_mem_cons.mpr ⟨⟨_, _, _, _, fd_85_13_1⟩, (fun _ h => absurd h List.not_mem_nil)⟩)
theorem kJ26_init_17 (z : XKT) : XOi z xInf Y_J26_init 17 (.inl (i_puti z.1 [17] .int 104 20)) := ok_puti dJ26_init_17 q949 rfl (List.forall_mem_cons.mpr ⟨⟨_, _, _, _, tyJ26, fd_104_17_0, ⟨tyJ26_ok, nmJ26, (Or.inl rfl)⟩, rfl⟩, (fun _ h => absurd h List.not_mem_nil)⟩)
theorem kJ26_init_20 (z : XKT) : XOi z xInf Y_J26_init 20 (.inl (i_aload 0 21)) := ok_aload_n dJ26_init_20 rfl
theorem kJ26_init_21 (z : XKT) : XOi z xInf Y_J26_init 21 (.inl (i_iload 2 22)) := ok_iload_n dJ26_init_21 rfl
theorem kJ26_init_22 (z : XKT) : XOi z xInf Y_J26_init 22 (.inl (i_aload 1 23)) := ok_aload_n dJ26_init_22 rfl
theorem kJ26_init_23 (z : XKT) : XOi z xInf Y_J26_init 23 (.inl (i_geti [13] 88 26)) := ok_geti dJ26_init_23 q610 (List.forall_mem_cons.mpr ⟨⟨_, _, _, _, fd_88_13_0⟩, (fun _ h => absurd h List.not_mem_nil)⟩)
theorem kJ26_init_26 (z : XKT) : XOi z xInf Y_J26_init 26 (.inl (i_icmp (fun x y => ¬ x = y) 33 29)) := ok_icmp_ne dJ26_init_26 rfl
theorem kJ26_init_29 (z : XKT) : XOi z xInf Y_J26_init 29 (.inl (i_push (vR none) 30)) := ok_null dJ26_init_29
theorem kJ26_init_30 (z : XKT) : XOi z xInf Y_J26_init 30 (.inl (i_goto 38)) := ok_goto dJ26_init_30 rfl
theorem kJ26_init_33 (z : XKT) : XOi z xInf Y_J26_init 33 (.inl (i_aload 1 34)) := ok_aload_n dJ26_init_33 rfl
theorem kJ26_init_34 (z : XKT) : XOi z xInf Y_J26_init 34 (.inl (i_iload 2 35)) := ok_iload_n dJ26_init_34 rfl
theorem kJ26_init_35 (z : XKT) : XOi z xInf Y_J26_init 35 (.inr (.inl (38, g_virt [(13, 425)] 1))) := show XOkC z xInf Y_J26_init 35 38 (g_virt [(13, 425)] 1) from okc_V (q := Y_J26_init) (List.forall_mem_cons.mpr ⟨(show XOkV z xInf Y_J26_init 35 38 1 (13, 425) from okv_V (q := Y_J26_init) (q1 := Y_J20_node) Z_J20_node rfl (by decide) ⟨by decide, by decide, Or.inl ⟨_, _, (List.mem_of_getElem? (l := xCls) (i := 12) rfl)⟩⟩ dJ26_init_35 q942 q943 q944 q150 q945 hy_422), (fun _ h => absurd h List.not_mem_nil)⟩)
theorem kJ26_init_38 (z : XKT) : XOi z xInf Y_J26_init 38 (.inl (i_putr z.1 [17] 102 41)) := ok_putr dJ26_init_38 q947 (List.forall_mem_cons.mpr ⟨⟨_, _, _, _, tyJ26, fd_102_17_0, ⟨tyJ26_ok, nmJ26, (Or.inl rfl)⟩, (Or.inl ⟨_, rfl⟩)⟩, (fun _ h => absurd h List.not_mem_nil)⟩)
theorem kJ26_init_41 (z : XKT) : XOi z xInf Y_J26_init 41 (.inl (i_aload 0 42)) := ok_aload_n dJ26_init_41 rfl
theorem kJ26_init_42 (z : XKT) : XOi z xInf Y_J26_init 42 (.inl (i_iload 2 43)) := ok_iload_n dJ26_init_42 rfl
theorem kJ26_init_43 (z : XKT) : XOi z xInf Y_J26_init 43 (.inl (i_puti z.1 [17] .int 103 46)) := ok_puti dJ26_init_43 q948 rfl (List.forall_mem_cons.mpr ⟨⟨_, _, _, _, tyJ26, fd_103_17_0, ⟨tyJ26_ok, nmJ26, (Or.inl rfl)⟩, rfl⟩, (fun _ h => absurd h List.not_mem_nil)⟩)
theorem kJ26_init_46 (z : XKT) : XOi z xInf Y_J26_init 46 (.inr (.inr (.inl r_v))) := show XOkR Y_J26_init 46 (r_v) from okr_v (q := Y_J26_init) rfl dJ26_init_46
theorem o_J26_init (z : XKT) : XMi z xInf Y_J26_init := XMi.mk9 (T := T_J26_init z) rfl (⟨kJ26_init_0 z, ⟨kJ26_init_1 z, ⟨kJ26_init_2 z, ⟨kJ26_init_5 z, ⟨kJ26_init_6 z, ⟨kJ26_init_9 z, ⟨kJ26_init_10 z, ⟨kJ26_init_11 z, ⟨kJ26_init_14 z, ⟨kJ26_init_17 z, ⟨kJ26_init_20 z, ⟨kJ26_init_21 z, ⟨kJ26_init_22 z, ⟨kJ26_init_23 z, ⟨kJ26_init_26 z, ⟨kJ26_init_29 z, ⟨kJ26_init_30 z, ⟨kJ26_init_33 z, ⟨kJ26_init_34 z, ⟨kJ26_init_35 z, ⟨kJ26_init_38 z, ⟨kJ26_init_41 z, ⟨kJ26_init_42 z, ⟨kJ26_init_43 z, ⟨kJ26_init_46 z, trivial⟩⟩⟩⟩⟩⟩⟩⟩⟩⟩⟩⟩⟩⟩⟩⟩⟩⟩⟩⟩⟩⟩⟩⟩⟩) (hd_J26_init z) rfl rfl (by decide +kernel)
theorem hd_J26_next (z : XKT) : XHd z Y_J26_next := xHd_none rfl (xhd0 rfl)
theorem kJ26_next_0 (z : XKT) : XOi z xInf Y_J26_next 0 (.inl (i_aload 0 1)) := ok_aload_n dJ26_next_0 rfl
theorem kJ26_next_1 (z : XKT) : XOi z xInf Y_J26_next 1 (.inr (.inl (4, g_virt [(17, 449)] 0))) := show XOkC z xInf Y_J26_next 1 4 (g_virt [(17, 449)] 0) from okc_V (q := Y_J26_next) (List.forall_mem_cons.mpr ⟨(show XOkV z xInf Y_J26_next 1 4 0 (17, 449) from okv_V (q := Y_J26_next) (q1 := Y_J26_checkForComodification) Z_J26_checkForComodification rfl (by decide) ⟨by decide, by decide, Or.inl ⟨_, _, (List.mem_of_getElem? (l := xCls) (i := 16) rfl)⟩⟩ dJ26_next_1 q1172 q1173 q1174 q161 q1175 hy_438), (fun _ h => absurd h List.not_mem_nil)⟩)
theorem kJ26_next_4 (z : XKT) : XOi z xInf Y_J26_next 4 (.inl (i_aload 0 5)) := ok_aload_n dJ26_next_4 rfl
theorem kJ26_next_5 (z : XKT) : XOi z xInf Y_J26_next 5 (.inr (.inl (8, g_virt [(17, 450)] 0))) := show XOkC z xInf Y_J26_next 5 8 (g_virt [(17, 450)] 0) from okc_V (q := Y_J26_next) (List.forall_mem_cons.mpr ⟨(show XOkV z xInf Y_J26_next 5 8 0 (17, 450) from okv_V (q := Y_J26_next) (q1 := Y_J26_hasNext) Z_J26_hasNext rfl (by decide) ⟨by decide, by decide, Or.inl ⟨_, _, (List.mem_of_getElem? (l := xCls) (i := 16) rfl)⟩⟩ dJ26_next_5 q1176 q1000 q3148 q161 q1002 hy_439), (fun _ h => absurd h List.not_mem_nil)⟩)
theorem kJ26_next_8 (z : XKT) : XOi z xInf Y_J26_next 8 (.inl (i_if (fun x => ¬ x = 0) 19 11)) := ok_if_ne dJ26_next_8 rfl
theorem kJ26_next_11 (z : XKT) : XOi z xInf Y_J26_next 11 (.inr (.inr (.inr (h_new 27 6)))) := show XOkT z Y_J26_next 11 ((h_new 27 6)) from okt_new (q := Y_J26_next) (cls := "java/util/NoSuchElementException") (names := ["java/lang/RuntimeException", "java/lang/Exception"]) (List.mem_of_getElem? (l := xCls) (i := 21) rfl) rfl (by decide) (by decide) (by decide) (by decide) (by decide) q1177 q162 at_J26_45 (by decide +kernel) dJ26_next_11 dJ26_next_14 dJ26_next_15 dJ26_next_18 (fun x hx => absurd hx List.not_mem_nil) ⟨by decide +kernel, by decide +kernel⟩
theorem kJ26_next_14 (z : XKT) : XOi z xInf Y_J26_next 14 (.inl (i_dup 15)) := ok_dup dJ26_next_14
theorem kJ26_next_19 (z : XKT) : XOi z xInf Y_J26_next 19 (.inl (i_aload 0 20)) := ok_aload_n dJ26_next_19 rfl
theorem kJ26_next_20 (z : XKT) : XOi z xInf Y_J26_next 20 (.inl (i_aload 0 21)) := ok_aload_n dJ26_next_20 rfl
theorem kJ26_next_21 (z : XKT) : XOi z xInf Y_J26_next 21 (.inl (i_getr [17] 102 24)) := ok_getr dJ26_next_21 q947 (List.forall_mem_cons.mpr ⟨⟨_, _, _, _, fd_102_17_0⟩, (fun _ h => absurd h List.not_mem_nil)⟩)
theorem kJ26_next_24 (z : XKT) : XOi z xInf Y_J26_next 24 (.inl (i_putr z.1 [17] 101 27)) := ok_putr dJ26_next_24 q946 (List.forall_mem_cons.mpr ⟨⟨_, _, _, _, tyJ26, fd_101_17_0, ⟨tyJ26_ok, nmJ26, (Or.inl rfl)⟩, (Or.inl ⟨_, rfl⟩)⟩, (fun _ h => absurd h List.not_mem_nil)⟩)
theorem kJ26_next_27 (z : XKT) : XOi z xInf Y_J26_next 27 (.inl (i_aload 0 28)) := ok_aload_n dJ26_next_27 rfl
theorem kJ26_next_28 (z : XKT) : XOi z xInf Y_J26_next 28 (.inl (i_aload 0 29)) := ok_aload_n dJ26_next_28 rfl
theorem kJ26_next_29 (z : XKT) : XOi z xInf Y_J26_next 29 (.inl (i_getr [17] 102 32)) := ok_getr dJ26_next_29 q947 (List.forall_mem_cons.mpr ⟨⟨_, _, _, _, fd_102_17_0⟩, (fun _ h => absurd h List.not_mem_nil)⟩)
theorem kJ26_next_32 (z : XKT) : XOi z xInf Y_J26_next 32 (.inl (i_getr [14] 92 35)) := ok_getr dJ26_next_32 q772 (List.forall_mem_cons.mpr ⟨⟨_, _, _, _, fd_92_14_0⟩, (fun _ h => absurd h List.not_mem_nil)⟩)
theorem kJ26_next_35 (z : XKT) : XOi z xInf Y_J26_next 35 (.inl (i_putr z.1 [17] 102 38)) := ok_putr dJ26_next_35 q947 (List.forall_mem_cons.mpr ⟨⟨_, _, _, _, tyJ26, fd_102_17_0, ⟨tyJ26_ok, nmJ26, (Or.inl rfl)⟩, (Or.inl ⟨_, rfl⟩)⟩, (fun _ h => absurd h List.not_mem_nil)⟩)
theorem kJ26_next_38 (z : XKT) : XOi z xInf Y_J26_next 38 (.inl (i_aload 0 39)) := ok_aload_n dJ26_next_38 rfl
theorem kJ26_next_39 (z : XKT) : XOi z xInf Y_J26_next 39 (.inl (i_dup 40)) := ok_dup dJ26_next_39
theorem kJ26_next_40 (z : XKT) : XOi z xInf Y_J26_next 40 (.inl (i_geti [17] 103 43)) := ok_geti dJ26_next_40 q948 (List.forall_mem_cons.mpr ⟨⟨_, _, _, _, fd_103_17_0⟩, (fun _ h => absurd h List.not_mem_nil)⟩)
theorem kJ26_next_43 (z : XKT) : XOi z xInf Y_J26_next 43 (.inl (i_push (vI 1) 44)) := ok_iconst dJ26_next_43 rfl
theorem kJ26_next_44 (z : XKT) : XOi z xInf Y_J26_next 44 (.inl (i_bin (fun x y => x + y) 45)) := ok_iadd dJ26_next_44
theorem kJ26_next_45 (z : XKT) : XOi z xInf Y_J26_next 45 (.inl (i_puti z.1 [17] .int 103 48)) := ok_puti dJ26_next_45 q948 rfl (List.forall_mem_cons.mpr ⟨⟨_, _, _, _, tyJ26, fd_103_17_0, ⟨tyJ26_ok, nmJ26, (Or.inl rfl)⟩, rfl⟩, (fun _ h => absurd h List.not_mem_nil)⟩)
theorem kJ26_next_48 (z : XKT) : XOi z xInf Y_J26_next 48 (.inl (i_aload 0 49)) := ok_aload_n dJ26_next_48 rfl
theorem kJ26_next_49 (z : XKT) : XOi z xInf Y_J26_next 49 (.inl (i_getr [17] 101 52)) := ok_getr dJ26_next_49 q946 (List.forall_mem_cons.mpr ⟨⟨_, _, _, _, fd_101_17_0⟩, (fun _ h => absurd h List.not_mem_nil)⟩)
theorem kJ26_next_52 (z : XKT) : XOi z xInf Y_J26_next 52 (.inl (i_getr [14] 91 55)) := ok_getr dJ26_next_52 q769 (List.forall_mem_cons.mpr ⟨⟨_, _, _, _, fd_91_14_0⟩, (fun _ h => absurd h List.not_mem_nil)⟩)
theorem kJ26_next_55 (z : XKT) : XOi z xInf Y_J26_next 55 (.inr (.inr (.inl r_a))) := show XOkR Y_J26_next 55 (r_a) from okr_a (q := Y_J26_next) rfl (Or.inl ⟨_, rfl⟩) dJ26_next_55
theorem o_J26_next (z : XKT) : XMi z xInf Y_J26_next := XMi.mk9 (T := T_J26_next z) rfl (⟨kJ26_next_0 z, ⟨kJ26_next_1 z, ⟨kJ26_next_4 z, ⟨kJ26_next_5 z, ⟨kJ26_next_8 z, ⟨kJ26_next_11 z, ⟨kJ26_next_14 z, ⟨kJ26_next_19 z, ⟨kJ26_next_20 z, ⟨kJ26_next_21 z, ⟨kJ26_next_24 z, ⟨kJ26_next_27 z, ⟨kJ26_next_28 z, ⟨kJ26_next_29 z, ⟨kJ26_next_32 z, ⟨kJ26_next_35 z, ⟨kJ26_next_38 z, ⟨kJ26_next_39 z, ⟨kJ26_next_40 z, ⟨kJ26_next_43 z, ⟨kJ26_next_44 z, ⟨kJ26_next_45 z, ⟨kJ26_next_48 z, ⟨kJ26_next_49 z, ⟨kJ26_next_52 z, ⟨kJ26_next_55 z, trivial⟩⟩⟩⟩⟩⟩⟩⟩⟩⟩⟩⟩⟩⟩⟩⟩⟩⟩⟩⟩⟩⟩⟩⟩⟩⟩) (hd_J26_next z) rfl rfl (by decide +kernel)
theorem hd_J28_checkIndex (z : XKT) : XHd z Y_J28_checkIndex := xHd_none rfl (xhd0 rfl)
theorem kJ28_checkIndex_0 (z : XKT) : XOi z xInf Y_J28_checkIndex 0 (.inl (i_iload 0 1)) := ok_iload_n dJ28_checkIndex_0 rfl
theorem kJ28_checkIndex_1 (z : XKT) : XOi z xInf Y_J28_checkIndex 1 (.inl (i_iload 1 2)) := ok_iload_n dJ28_checkIndex_1 rfl
theorem kJ28_checkIndex_2 (z : XKT) : XOi z xInf Y_J28_checkIndex 2 (.inl (i_push (vR none) 3)) := ok_null dJ28_checkIndex_2
theorem kJ28_checkIndex_3 (z : XKT) : XOi z xInf Y_J28_checkIndex 3 (.inr (.inl (6, g_stat 395 3))) := show XOkC z xInf Y_J28_checkIndex 3 6 (g_stat 395 3) from okc_S (q := Y_J28_checkIndex) (q1 := Y_J14_checkIndex) Z_J14_checkIndex rfl (by decide) dJ28_checkIndex_3 q1053 q1054 q142 q1055 hy_402
theorem kJ28_checkIndex_6 (z : XKT) : XOi z xInf Y_J28_checkIndex 6 (.inr (.inr (.inl (r_i .int)))) := show XOkR Y_J28_checkIndex 6 ((r_i .int)) from okr_i (q := Y_J28_checkIndex) (ty := .int) rfl rfl dJ28_checkIndex_6
theorem o_J28_checkIndex (z : XKT) : XMi z xInf Y_J28_checkIndex := XMi.mk9 (T := T_J28_checkIndex z) rfl (⟨kJ28_checkIndex_0 z, ⟨kJ28_checkIndex_1 z, ⟨kJ28_checkIndex_2 z, ⟨kJ28_checkIndex_3 z, ⟨kJ28_checkIndex_6 z, trivial⟩⟩⟩⟩⟩) (hd_J28_checkIndex z) rfl rfl (by decide +kernel)
theorem hd_J29_checkInvariants (z : XKT) : XHd z Y_J29_checkInvariants := xHd_none rfl (xhd0 rfl)
theorem kJ29_checkInvariants_0 (z : XKT) : XOi z xInf Y_J29_checkInvariants 0 (.inl (i_push (vI 1) 3)) := ok_getsI dJ29_checkInvariants_0 q1084 (List.mem_of_getElem? (l := xSti) (i := 2) rfl)
theorem kJ29_checkInvariants_3 (z : XKT) : XOi z xInf Y_J29_checkInvariants 3 (.inl (i_if (fun x => ¬ x = 0) 37 6)) := ok_if_ne dJ29_checkInvariants_3 rfl
theorem kJ29_checkInvariants_6 (z : XKT) : XOi z xInf Y_J29_checkInvariants 6 (.inl (i_aload 0 7)) := ok_aload_n dJ29_checkInvariants_6 rfl
theorem kJ29_checkInvariants_7 (z : XKT) : XOi z xInf Y_J29_checkInvariants 7 (.inl (i_geti [18] 107 10)) := ok_geti dJ29_checkInvariants_7 q1196 (List.forall_mem_cons.mpr ⟨⟨_, _, _, _, fd_107_18_0⟩, (fun _ h => absurd h List.not_mem_nil)⟩)
theorem kJ29_checkInvariants_10 (z : XKT) : XOi z xInf Y_J29_checkInvariants 10 (.inl (i_if (fun x => x = 0) 37 13)) := ok_if_eq dJ29_checkInvariants_10 rfl
theorem kJ29_checkInvariants_13 (z : XKT) : XOi z xInf Y_J29_checkInvariants 13 (.inl (i_aload 0 14)) := ok_aload_n dJ29_checkInvariants_13 rfl
theorem kJ29_checkInvariants_14 (z : XKT) : XOi z xInf Y_J29_checkInvariants 14 (.inl (i_getr [18] 106 17)) := ok_getr dJ29_checkInvariants_14 q1195 (List.forall_mem_cons.mpr ⟨⟨_, _, _, _, fd_106_18_0⟩, (fun _ h => absurd h List.not_mem_nil)⟩)
theorem kJ29_checkInvariants_17 (z : XKT) : XOi z xInf Y_J29_checkInvariants 17 (.inl (i_aload 0 18)) := ok_aload_n dJ29_checkInvariants_17 rfl
theorem kJ29_checkInvariants_18 (z : XKT) : XOi z xInf Y_J29_checkInvariants 18 (.inl (i_geti [18] 107 21)) := ok_geti dJ29_checkInvariants_18 q1196 (List.forall_mem_cons.mpr ⟨⟨_, _, _, _, fd_107_18_0⟩, (fun _ h => absurd h List.not_mem_nil)⟩)
theorem kJ29_checkInvariants_21 (z : XKT) : XOi z xInf Y_J29_checkInvariants 21 (.inl (i_push (vI 1) 22)) := ok_iconst dJ29_checkInvariants_21 rfl
theorem kJ29_checkInvariants_22 (z : XKT) : XOi z xInf Y_J29_checkInvariants 22 (.inl (i_bin (fun x y => x - y) 23)) := ok_isub dJ29_checkInvariants_22
theorem kJ29_checkInvariants_23 (z : XKT) : XOi z xInf Y_J29_checkInvariants 23 (.inl (i_ajld 1002 24)) := ok_lald dJ29_checkInvariants_23
theorem kJ29_checkInvariants_24 (z : XKT) : XOi z xInf Y_J29_checkInvariants 24 (.inl (i_push (vJ 0) 25)) := ok_lconst dJ29_checkInvariants_24 rfl
theorem kJ29_checkInvariants_25 (z : XKT) : XOi z xInf Y_J29_checkInvariants 25 (.inl (i_lcmp 26)) := ok_lcmp dJ29_checkInvariants_25
theorem kJ29_checkInvariants_26 (z : XKT) : XOi z xInf Y_J29_checkInvariants 26 (.inl (i_if (fun x => ¬ x = 0) 37 29)) := ok_if_ne dJ29_checkInvariants_26 rfl
theorem kJ29_checkInvariants_32 (z : XKT) : XOi z xInf Y_J29_checkInvariants 32 (.inl (i_dup 33)) := ok_dup dJ29_checkInvariants_32
theorem kJ29_checkInvariants_37 (z : XKT) : XOi z xInf Y_J29_checkInvariants 37 (.inl (i_push (vI 1) 40)) := ok_getsI dJ29_checkInvariants_37 q1084 (List.mem_of_getElem? (l := xSti) (i := 2) rfl)
theorem kJ29_checkInvariants_40 (z : XKT) : XOi z xInf Y_J29_checkInvariants 40 (.inl (i_if (fun x => ¬ x = 0) 70 43)) := ok_if_ne dJ29_checkInvariants_40 rfl
theorem kJ29_checkInvariants_43 (z : XKT) : XOi z xInf Y_J29_checkInvariants 43 (.inl (i_aload 0 44)) := ok_aload_n dJ29_checkInvariants_43 rfl
theorem kJ29_checkInvariants_44 (z : XKT) : XOi z xInf Y_J29_checkInvariants 44 (.inl (i_geti [18] 107 47)) := ok_geti dJ29_checkInvariants_44 q1196 (List.forall_mem_cons.mpr ⟨⟨_, _, _, _, fd_107_18_0⟩, (fun _ h => absurd h List.not_mem_nil)⟩)
theorem kJ29_checkInvariants_47 (z : XKT) : XOi z xInf Y_J29_checkInvariants 47 (.inl (i_if (fun x => x < 0) 62 50)) := ok_if_lt dJ29_checkInvariants_47 rfl
theorem kJ29_checkInvariants_50 (z : XKT) : XOi z xInf Y_J29_checkInvariants 50 (.inl (i_aload 0 51)) := ok_aload_n dJ29_checkInvariants_50 rfl
theorem kJ29_checkInvariants_51 (z : XKT) : XOi z xInf Y_J29_checkInvariants 51 (.inl (i_geti [18] 107 54)) := ok_geti dJ29_checkInvariants_51 q1196 (List.forall_mem_cons.mpr ⟨⟨_, _, _, _, fd_107_18_0⟩, (fun _ h => absurd h List.not_mem_nil)⟩)
theorem kJ29_checkInvariants_54 (z : XKT) : XOi z xInf Y_J29_checkInvariants 54 (.inl (i_aload 0 55)) := ok_aload_n dJ29_checkInvariants_54 rfl
theorem kJ29_checkInvariants_55 (z : XKT) : XOi z xInf Y_J29_checkInvariants 55 (.inl (i_getr [18] 106 58)) := ok_getr dJ29_checkInvariants_55 q1195 (List.forall_mem_cons.mpr ⟨⟨_, _, _, _, fd_106_18_0⟩, (fun _ h => absurd h List.not_mem_nil)⟩)
theorem kJ29_checkInvariants_58 (z : XKT) : XOi z xInf Y_J29_checkInvariants 58 (.inl (i_alen 59)) := ok_alen dJ29_checkInvariants_58
theorem kJ29_checkInvariants_59 (z : XKT) : XOi z xInf Y_J29_checkInvariants 59 (.inl (i_icmp (fun x y => x ≤ y) 70 62)) := ok_icmp_le dJ29_checkInvariants_59 rfl
theorem kJ29_checkInvariants_65 (z : XKT) : XOi z xInf Y_J29_checkInvariants 65 (.inl (i_dup 66)) := ok_dup dJ29_checkInvariants_65
theorem kJ29_checkInvariants_70 (z : XKT) : XOi z xInf Y_J29_checkInvariants 70 (.inl (i_push (vI 1) 73)) := ok_getsI dJ29_checkInvariants_70 q1084 (List.mem_of_getElem? (l := xSti) (i := 2) rfl)
theorem kJ29_checkInvariants_73 (z : XKT) : XOi z xInf Y_J29_checkInvariants 73 (.inl (i_if (fun x => ¬ x = 0) 110 76)) := ok_if_ne dJ29_checkInvariants_73 rfl
theorem kJ29_checkInvariants_76 (z : XKT) : XOi z xInf Y_J29_checkInvariants 76 (.inl (i_aload 0 77)) := ok_aload_n dJ29_checkInvariants_76 rfl
theorem kJ29_checkInvariants_77 (z : XKT) : XOi z xInf Y_J29_checkInvariants 77 (.inl (i_geti [18] 107 80)) := ok_geti dJ29_checkInvariants_77 q1196 (List.forall_mem_cons.mpr ⟨⟨_, _, _, _, fd_107_18_0⟩, (fun _ h => absurd h List.not_mem_nil)⟩)
theorem kJ29_checkInvariants_80 (z : XKT) : XOi z xInf Y_J29_checkInvariants 80 (.inl (i_aload 0 81)) := ok_aload_n dJ29_checkInvariants_80 rfl
theorem kJ29_checkInvariants_81 (z : XKT) : XOi z xInf Y_J29_checkInvariants 81 (.inl (i_getr [18] 106 84)) := ok_getr dJ29_checkInvariants_81 q1195 (List.forall_mem_cons.mpr ⟨⟨_, _, _, _, fd_106_18_0⟩, (fun _ h => absurd h List.not_mem_nil)⟩)
theorem kJ29_checkInvariants_84 (z : XKT) : XOi z xInf Y_J29_checkInvariants 84 (.inl (i_alen 85)) := ok_alen dJ29_checkInvariants_84
theorem kJ29_checkInvariants_85 (z : XKT) : XOi z xInf Y_J29_checkInvariants 85 (.inl (i_icmp (fun x y => x = y) 110 88)) := ok_icmp_eq dJ29_checkInvariants_85 rfl
theorem kJ29_checkInvariants_88 (z : XKT) : XOi z xInf Y_J29_checkInvariants 88 (.inl (i_aload 0 89)) := ok_aload_n dJ29_checkInvariants_88 rfl
theorem kJ29_checkInvariants_89 (z : XKT) : XOi z xInf Y_J29_checkInvariants 89 (.inl (i_getr [18] 106 92)) := ok_getr dJ29_checkInvariants_89 q1195 (List.forall_mem_cons.mpr ⟨⟨_, _, _, _, fd_106_18_0⟩, (fun _ h => absurd h List.not_mem_nil)⟩)
theorem kJ29_checkInvariants_92 (z : XKT) : XOi z xInf Y_J29_checkInvariants 92 (.inl (i_aload 0 93)) := ok_aload_n dJ29_checkInvariants_92 rfl
theorem kJ29_checkInvariants_93 (z : XKT) : XOi z xInf Y_J29_checkInvariants 93 (.inl (i_geti [18] 107 96)) := ok_geti dJ29_checkInvariants_93 q1196 (List.forall_mem_cons.mpr ⟨⟨_, _, _, _, fd_107_18_0⟩, (fun _ h => absurd h List.not_mem_nil)⟩)
theorem kJ29_checkInvariants_96 (z : XKT) : XOi z xInf Y_J29_checkInvariants 96 (.inl (i_ajld 1002 97)) := ok_lald dJ29_checkInvariants_96
theorem kJ29_checkInvariants_97 (z : XKT) : XOi z xInf Y_J29_checkInvariants 97 (.inl (i_push (vJ 0) 98)) := ok_lconst dJ29_checkInvariants_97 rfl
theorem kJ29_checkInvariants_98 (z : XKT) : XOi z xInf Y_J29_checkInvariants 98 (.inl (i_lcmp 99)) := ok_lcmp dJ29_checkInvariants_98
theorem kJ29_checkInvariants_99 (z : XKT) : XOi z xInf Y_J29_checkInvariants 99 (.inl (i_if (fun x => x = 0) 110 102)) := ok_if_eq dJ29_checkInvariants_99 rfl
theorem kJ29_checkInvariants_105 (z : XKT) : XOi z xInf Y_J29_checkInvariants 105 (.inl (i_dup 106)) := ok_dup dJ29_checkInvariants_105
theorem kJ29_checkInvariants_110 (z : XKT) : XOi z xInf Y_J29_checkInvariants 110 (.inr (.inr (.inl r_v))) := show XOkR Y_J29_checkInvariants 110 (r_v) from okr_v (q := Y_J29_checkInvariants) rfl dJ29_checkInvariants_110
theorem o_J29_checkInvariants (z : XKT) : XMi z xInf Y_J29_checkInvariants := XMi.mk9 (T := T_J29_checkInvariants z) rfl (⟨kJ29_checkInvariants_0 z, ⟨kJ29_checkInvariants_3 z, ⟨kJ29_checkInvariants_6 z, ⟨kJ29_checkInvariants_7 z, ⟨kJ29_checkInvariants_10 z, ⟨kJ29_checkInvariants_13 z, ⟨kJ29_checkInvariants_14 z, ⟨kJ29_checkInvariants_17 z, ⟨kJ29_checkInvariants_18 z, ⟨kJ29_checkInvariants_21 z, ⟨kJ29_checkInvariants_22 z, ⟨kJ29_checkInvariants_23 z, ⟨kJ29_checkInvariants_24 z, ⟨kJ29_checkInvariants_25 z, ⟨kJ29_checkInvariants_26 z, ⟨kJ29_checkInvariants_32 z, ⟨kJ29_checkInvariants_37 z, ⟨kJ29_checkInvariants_40 z, ⟨kJ29_checkInvariants_43 z, ⟨kJ29_checkInvariants_44 z, ⟨kJ29_checkInvariants_47 z, ⟨kJ29_checkInvariants_50 z, ⟨kJ29_checkInvariants_51 z, ⟨kJ29_checkInvariants_54 z, ⟨kJ29_checkInvariants_55 z, ⟨kJ29_checkInvariants_58 z, ⟨kJ29_checkInvariants_59 z, ⟨kJ29_checkInvariants_65 z, ⟨kJ29_checkInvariants_70 z, ⟨kJ29_checkInvariants_73 z, ⟨kJ29_checkInvariants_76 z, ⟨kJ29_checkInvariants_77 z, ⟨kJ29_checkInvariants_80 z, ⟨kJ29_checkInvariants_81 z, ⟨kJ29_checkInvariants_84 z, ⟨kJ29_checkInvariants_85 z, ⟨kJ29_checkInvariants_88 z, ⟨kJ29_checkInvariants_89 z, ⟨kJ29_checkInvariants_92 z, ⟨kJ29_checkInvariants_93 z, ⟨kJ29_checkInvariants_96 z, ⟨kJ29_checkInvariants_97 z, ⟨kJ29_checkInvariants_98 z, ⟨kJ29_checkInvariants_99 z, ⟨kJ29_checkInvariants_105 z, ⟨kJ29_checkInvariants_110 z, trivial⟩⟩⟩⟩⟩⟩⟩⟩⟩⟩⟩⟩⟩⟩⟩⟩⟩⟩⟩⟩⟩⟩⟩⟩⟩⟩⟩⟩⟩⟩⟩⟩⟩⟩⟩⟩⟩⟩⟩⟩⟩⟩⟩⟩⟩⟩) (hd_J29_checkInvariants z) rfl rfl (by decide +kernel)
theorem hd_J29_clear (z : XKT) : XHd z Y_J29_clear := xHd_none rfl (xhd0 rfl)
theorem kJ29_clear_0 (z : XKT) : XOi z xInf Y_J29_clear 0 (.inl (i_iload 1 1)) := ok_iload_n dJ29_clear_0 rfl
theorem kJ29_clear_1 (z : XKT) : XOi z xInf Y_J29_clear 1 (.inl (i_if (fun x => 0 ≤ x) 31 4)) := ok_if_ge dJ29_clear_1 rfl
theorem kJ29_clear_7 (z : XKT) : XOi z xInf Y_J29_clear 7 (.inl (i_dup 8)) := ok_dup dJ29_clear_7
theorem kJ29_clear_11 (z : XKT) : XOi z xInf Y_J29_clear 11 (.inl (i_dup 12)) := ok_dup dJ29_clear_11
theorem kJ29_clear_31 (z : XKT) : XOi z xInf Y_J29_clear 31 (.inl (i_iload 1 32)) := ok_iload_n dJ29_clear_31 rfl
theorem kJ29_clear_32 (z : XKT) : XOi z xInf Y_J29_clear 32 (.inr (.inl (35, g_stat 464 1))) := show XOkC z xInf Y_J29_clear 32 35 (g_stat 464 1) from okc_S (q := Y_J29_clear) (q1 := Y_J29_wordIndex) Z_J29_wordIndex rfl (by decide) dJ29_clear_32 q1086 q1087 q164 q1088 hy_440
theorem kJ29_clear_35 (z : XKT) : XOi z xInf Y_J29_clear 35 (.inl (i_istore 2 36)) := ok_istore_n dJ29_clear_35 rfl
theorem kJ29_clear_36 (z : XKT) : XOi z xInf Y_J29_clear 36 (.inl (i_iload 2 37)) := ok_iload_n dJ29_clear_36 rfl
theorem kJ29_clear_37 (z : XKT) : XOi z xInf Y_J29_clear 37 (.inl (i_aload 0 38)) := ok_aload_n dJ29_clear_37 rfl
theorem kJ29_clear_38 (z : XKT) : XOi z xInf Y_J29_clear 38 (.inl (i_geti [18] 107 41)) := ok_geti dJ29_clear_38 q1196 (List.forall_mem_cons.mpr ⟨⟨_, _, _, _, fd_107_18_0⟩, (fun _ h => absurd h List.not_mem_nil)⟩)
theorem kJ29_clear_41 (z : XKT) : XOi z xInf Y_J29_clear 41 (.inl (i_icmp (fun x y => x < y) 45 44)) := ok_icmp_lt dJ29_clear_41 rfl
theorem kJ29_clear_44 (z : XKT) : XOi z xInf Y_J29_clear 44 (.inr (.inr (.inl r_v))) := show XOkR Y_J29_clear 44 (r_v) from okr_v (q := Y_J29_clear) rfl dJ29_clear_44
theorem kJ29_clear_45 (z : XKT) : XOi z xInf Y_J29_clear 45 (.inl (i_aload 0 46)) := ok_aload_n dJ29_clear_45 rfl
theorem kJ29_clear_46 (z : XKT) : XOi z xInf Y_J29_clear 46 (.inl (i_getr [18] 106 49)) := ok_getr dJ29_clear_46 q1195 (List.forall_mem_cons.mpr ⟨⟨_, _, _, _, fd_106_18_0⟩, (fun _ h => absurd h List.not_mem_nil)⟩)
theorem kJ29_clear_49 (z : XKT) : XOi z xInf Y_J29_clear 49 (.inl (i_iload 2 50)) := ok_iload_n dJ29_clear_49 rfl
theorem kJ29_clear_50 (z : XKT) : XOi z xInf Y_J29_clear 50 (.inl (i_dup2 51)) := ok_dup2 dJ29_clear_50
theorem kJ29_clear_51 (z : XKT) : XOi z xInf Y_J29_clear 51 (.inl (i_ajld 1002 52)) := ok_lald dJ29_clear_51
theorem kJ29_clear_52 (z : XKT) : XOi z xInf Y_J29_clear 52 (.inl (i_push (vJ 1) 53)) := ok_lconst dJ29_clear_52 rfl
theorem kJ29_clear_53 (z : XKT) : XOi z xInf Y_J29_clear 53 (.inl (i_iload 1 54)) := ok_iload_n dJ29_clear_53 rfl
theorem kJ29_clear_54 (z : XKT) : XOi z xInf Y_J29_clear 54 (.inl (i_lsh (fun x y => x <<< (y.toInt64 &&& 63)) 55)) := ok_lshl dJ29_clear_54
theorem kJ29_clear_55 (z : XKT) : XOi z xInf Y_J29_clear 55 (.inl (i_push (vJ (-1)) 58)) := ok_ldc2 dJ29_clear_55 q1089
theorem kJ29_clear_58 (z : XKT) : XOi z xInf Y_J29_clear 58 (.inl (i_lbin (fun x y => x ^^^ y) 59)) := ok_lxor dJ29_clear_58
theorem kJ29_clear_59 (z : XKT) : XOi z xInf Y_J29_clear 59 (.inl (i_lbin (fun x y => x &&& y) 60)) := ok_land dJ29_clear_59
theorem kJ29_clear_60 (z : XKT) : XOi z xInf Y_J29_clear 60 (.inl (i_ajst z.1 1002 61)) := ok_last dJ29_clear_60
theorem kJ29_clear_61 (z : XKT) : XOi z xInf Y_J29_clear 61 (.inl (i_aload 0 62)) := ok_aload_n dJ29_clear_61 rfl
theorem kJ29_clear_62 (z : XKT) : XOi z xInf Y_J29_clear 62 (.inr (.inl (65, g_virt [(18, 461)] 0))) := show XOkC z xInf Y_J29_clear 62 65 (g_virt [(18, 461)] 0) from okc_V (q := Y_J29_clear) (List.forall_mem_cons.mpr ⟨(show XOkV z xInf Y_J29_clear 62 65 0 (18, 461) from okv_V (q := Y_J29_clear) (q1 := Y_J29_recalculateWordsInUse) Z_J29_recalculateWordsInUse rfl (by decide) ⟨by decide, by decide, Or.inl ⟨_, _, (List.mem_of_getElem? (l := xCls) (i := 17) rfl)⟩⟩ dJ29_clear_62 q1242 q1244 qs15 q164 q1245 hy_441), (fun _ h => absurd h List.not_mem_nil)⟩)
theorem kJ29_clear_65 (z : XKT) : XOi z xInf Y_J29_clear 65 (.inl (i_aload 0 66)) := ok_aload_n dJ29_clear_65 rfl
theorem kJ29_clear_66 (z : XKT) : XOi z xInf Y_J29_clear 66 (.inr (.inl (69, g_virt [(18, 454)] 0))) := show XOkC z xInf Y_J29_clear 66 69 (g_virt [(18, 454)] 0) from okc_V (q := Y_J29_clear) (List.forall_mem_cons.mpr ⟨(show XOkV z xInf Y_J29_clear 66 69 0 (18, 454) from okv_V (q := Y_J29_clear) (q1 := Y_J29_checkInvariants) Z_J29_checkInvariants rfl (by decide) ⟨by decide, by decide, Or.inl ⟨_, _, (List.mem_of_getElem? (l := xCls) (i := 17) rfl)⟩⟩ dJ29_clear_66 q1079 q1081 qs11 q164 q1083 hy_442), (fun _ h => absurd h List.not_mem_nil)⟩)
theorem kJ29_clear_69 (z : XKT) : XOi z xInf Y_J29_clear 69 (.inr (.inr (.inl r_v))) := show XOkR Y_J29_clear 69 (r_v) from okr_v (q := Y_J29_clear) rfl dJ29_clear_69
theorem o_J29_clear (z : XKT) : XMi z xInf Y_J29_clear := XMi.mk9 (T := T_J29_clear z) rfl (⟨kJ29_clear_0 z, ⟨kJ29_clear_1 z, ⟨kJ29_clear_7 z, ⟨kJ29_clear_11 z, ⟨kJ29_clear_31 z, ⟨kJ29_clear_32 z, ⟨kJ29_clear_35 z, ⟨kJ29_clear_36 z, ⟨kJ29_clear_37 z, ⟨kJ29_clear_38 z, ⟨kJ29_clear_41 z, ⟨kJ29_clear_44 z, ⟨kJ29_clear_45 z, ⟨kJ29_clear_46 z, ⟨kJ29_clear_49 z, ⟨kJ29_clear_50 z, ⟨kJ29_clear_51 z, ⟨kJ29_clear_52 z, ⟨kJ29_clear_53 z, ⟨kJ29_clear_54 z, ⟨kJ29_clear_55 z, ⟨kJ29_clear_58 z, ⟨kJ29_clear_59 z, ⟨kJ29_clear_60 z, ⟨kJ29_clear_61 z, ⟨kJ29_clear_62 z, ⟨kJ29_clear_65 z, ⟨kJ29_clear_66 z, ⟨kJ29_clear_69 z, trivial⟩⟩⟩⟩⟩⟩⟩⟩⟩⟩⟩⟩⟩⟩⟩⟩⟩⟩⟩⟩⟩⟩⟩⟩⟩⟩⟩⟩⟩) (hd_J29_clear z) rfl rfl (by decide +kernel)
theorem hd_J29_ensureCapacity (z : XKT) : XHd z Y_J29_ensureCapacity := xHd_none rfl (xhd0 rfl)
theorem kJ29_ensureCapacity_0 (z : XKT) : XOi z xInf Y_J29_ensureCapacity 0 (.inl (i_aload 0 1)) := ok_aload_n dJ29_ensureCapacity_0 rfl
theorem kJ29_ensureCapacity_1 (z : XKT) : XOi z xInf Y_J29_ensureCapacity 1 (.inl (i_getr [18] 106 4)) := ok_getr dJ29_ensureCapacity_1 q1195 (List.forall_mem_cons.mpr ⟨⟨_, _, _, _, fd_106_18_0⟩, (fun _ h => absurd h List.not_mem_nil)⟩)
theorem kJ29_ensureCapacity_4 (z : XKT) : XOi z xInf Y_J29_ensureCapacity 4 (.inl (i_alen 5)) := ok_alen dJ29_ensureCapacity_4
theorem kJ29_ensureCapacity_5 (z : XKT) : XOi z xInf Y_J29_ensureCapacity 5 (.inl (i_iload 1 6)) := ok_iload_n dJ29_ensureCapacity_5 rfl
theorem kJ29_ensureCapacity_6 (z : XKT) : XOi z xInf Y_J29_ensureCapacity 6 (.inl (i_icmp (fun x y => y ≤ x) 38 9)) := ok_icmp_ge dJ29_ensureCapacity_6 rfl
theorem kJ29_ensureCapacity_9 (z : XKT) : XOi z xInf Y_J29_ensureCapacity 9 (.inl (i_push (vI 2) 10)) := ok_iconst dJ29_ensureCapacity_9 rfl
theorem kJ29_ensureCapacity_10 (z : XKT) : XOi z xInf Y_J29_ensureCapacity 10 (.inl (i_aload 0 11)) := ok_aload_n dJ29_ensureCapacity_10 rfl
theorem kJ29_ensureCapacity_11 (z : XKT) : XOi z xInf Y_J29_ensureCapacity 11 (.inl (i_getr [18] 106 14)) := ok_getr dJ29_ensureCapacity_11 q1195 (List.forall_mem_cons.mpr ⟨⟨_, _, _, _, fd_106_18_0⟩, (fun _ h => absurd h List.not_mem_nil)⟩)
theorem kJ29_ensureCapacity_14 (z : XKT) : XOi z xInf Y_J29_ensureCapacity 14 (.inl (i_alen 15)) := ok_alen dJ29_ensureCapacity_14
theorem kJ29_ensureCapacity_15 (z : XKT) : XOi z xInf Y_J29_ensureCapacity 15 (.inl (i_bin (fun x y => x * y) 16)) := ok_imul dJ29_ensureCapacity_15
theorem kJ29_ensureCapacity_16 (z : XKT) : XOi z xInf Y_J29_ensureCapacity 16 (.inl (i_iload 1 17)) := ok_iload_n dJ29_ensureCapacity_16 rfl
theorem kJ29_ensureCapacity_17 (z : XKT) : XOi z xInf Y_J29_ensureCapacity 17 (.inr (.inl (20, g_stat 388 2))) := show XOkC z xInf Y_J29_ensureCapacity 17 20 (g_stat 388 2) from okc_S (q := Y_J29_ensureCapacity) (q1 := Y_J12_max) Z_J12_max rfl (by decide) dJ29_ensureCapacity_17 q1229 q308 q139 q309 hy_149
theorem kJ29_ensureCapacity_20 (z : XKT) : XOi z xInf Y_J29_ensureCapacity 20 (.inl (i_istore 2 21)) := ok_istore_n dJ29_ensureCapacity_20 rfl
theorem kJ29_ensureCapacity_21 (z : XKT) : XOi z xInf Y_J29_ensureCapacity 21 (.inl (i_aload 0 22)) := ok_aload_n dJ29_ensureCapacity_21 rfl
theorem kJ29_ensureCapacity_22 (z : XKT) : XOi z xInf Y_J29_ensureCapacity 22 (.inl (i_aload 0 23)) := ok_aload_n dJ29_ensureCapacity_22 rfl
theorem kJ29_ensureCapacity_23 (z : XKT) : XOi z xInf Y_J29_ensureCapacity 23 (.inl (i_getr [18] 106 26)) := ok_getr dJ29_ensureCapacity_23 q1195 (List.forall_mem_cons.mpr ⟨⟨_, _, _, _, fd_106_18_0⟩, (fun _ h => absurd h List.not_mem_nil)⟩)
theorem kJ29_ensureCapacity_26 (z : XKT) : XOi z xInf Y_J29_ensureCapacity 26 (.inl (i_iload 2 27)) := ok_iload_n dJ29_ensureCapacity_26 rfl
theorem kJ29_ensureCapacity_30 (z : XKT) : XOi z xInf Y_J29_ensureCapacity 30 (.inl (i_putr z.1 [18] 106 33)) := ok_putr dJ29_ensureCapacity_30 q1195 (List.forall_mem_cons.mpr ⟨⟨_, _, _, _, tyJ29, fd_106_18_0, ⟨tyJ29_ok, nmJ29, (Or.inl rfl)⟩, (Or.inr ⟨_, rfl⟩)⟩, (fun _ h => absurd h List.not_mem_nil)⟩)
theorem kJ29_ensureCapacity_33 (z : XKT) : XOi z xInf Y_J29_ensureCapacity 33 (.inl (i_aload 0 34)) := ok_aload_n dJ29_ensureCapacity_33 rfl
theorem kJ29_ensureCapacity_34 (z : XKT) : XOi z xInf Y_J29_ensureCapacity 34 (.inl (i_push (vI 0) 35)) := ok_iconst dJ29_ensureCapacity_34 rfl
theorem kJ29_ensureCapacity_35 (z : XKT) : XOi z xInf Y_J29_ensureCapacity 35 (.inl (i_puti z.1 [18] .boolean 108 38)) := ok_puti dJ29_ensureCapacity_35 q1197 rfl (List.forall_mem_cons.mpr ⟨⟨_, _, _, _, tyJ29, fd_108_18_0, ⟨tyJ29_ok, nmJ29, (Or.inl rfl)⟩, rfl⟩, (fun _ h => absurd h List.not_mem_nil)⟩)
theorem kJ29_ensureCapacity_38 (z : XKT) : XOi z xInf Y_J29_ensureCapacity 38 (.inr (.inr (.inl r_v))) := show XOkR Y_J29_ensureCapacity 38 (r_v) from okr_v (q := Y_J29_ensureCapacity) rfl dJ29_ensureCapacity_38
theorem o_J29_ensureCapacity (z : XKT) : XMi z xInf Y_J29_ensureCapacity := XMi.mk9 (T := T_J29_ensureCapacity z) rfl (⟨kJ29_ensureCapacity_0 z, ⟨kJ29_ensureCapacity_1 z, ⟨kJ29_ensureCapacity_4 z, ⟨kJ29_ensureCapacity_5 z, ⟨kJ29_ensureCapacity_6 z, ⟨kJ29_ensureCapacity_9 z, ⟨kJ29_ensureCapacity_10 z, ⟨kJ29_ensureCapacity_11 z, ⟨kJ29_ensureCapacity_14 z, ⟨kJ29_ensureCapacity_15 z, ⟨kJ29_ensureCapacity_16 z, ⟨kJ29_ensureCapacity_17 z, ⟨kJ29_ensureCapacity_20 z, ⟨kJ29_ensureCapacity_21 z, ⟨kJ29_ensureCapacity_22 z, ⟨kJ29_ensureCapacity_23 z, ⟨kJ29_ensureCapacity_26 z, ⟨kJ29_ensureCapacity_30 z, ⟨kJ29_ensureCapacity_33 z, ⟨kJ29_ensureCapacity_34 z, ⟨kJ29_ensureCapacity_35 z, ⟨kJ29_ensureCapacity_38 z, trivial⟩⟩⟩⟩⟩⟩⟩⟩⟩⟩⟩⟩⟩⟩⟩⟩⟩⟩⟩⟩⟩⟩) (hd_J29_ensureCapacity z) rfl rfl (by decide +kernel)
theorem hd_J29_expandTo (z : XKT) : XHd z Y_J29_expandTo := xHd_none rfl (xhd0 rfl)
theorem kJ29_expandTo_0 (z : XKT) : XOi z xInf Y_J29_expandTo 0 (.inl (i_iload 1 1)) := ok_iload_n dJ29_expandTo_0 rfl
theorem kJ29_expandTo_1 (z : XKT) : XOi z xInf Y_J29_expandTo 1 (.inl (i_push (vI 1) 2)) := ok_iconst dJ29_expandTo_1 rfl
theorem kJ29_expandTo_2 (z : XKT) : XOi z xInf Y_J29_expandTo 2 (.inl (i_bin (fun x y => x + y) 3)) := ok_iadd dJ29_expandTo_2
theorem kJ29_expandTo_3 (z : XKT) : XOi z xInf Y_J29_expandTo 3 (.inl (i_istore 2 4)) := ok_istore_n dJ29_expandTo_3 rfl
theorem kJ29_expandTo_4 (z : XKT) : XOi z xInf Y_J29_expandTo 4 (.inl (i_aload 0 5)) := ok_aload_n dJ29_expandTo_4 rfl
theorem kJ29_expandTo_5 (z : XKT) : XOi z xInf Y_J29_expandTo 5 (.inl (i_geti [18] 107 8)) := ok_geti dJ29_expandTo_5 q1196 (List.forall_mem_cons.mpr ⟨⟨_, _, _, _, fd_107_18_0⟩, (fun _ h => absurd h List.not_mem_nil)⟩)
theorem kJ29_expandTo_8 (z : XKT) : XOi z xInf Y_J29_expandTo 8 (.inl (i_iload 2 9)) := ok_iload_n dJ29_expandTo_8 rfl
theorem kJ29_expandTo_9 (z : XKT) : XOi z xInf Y_J29_expandTo 9 (.inl (i_icmp (fun x y => y ≤ x) 22 12)) := ok_icmp_ge dJ29_expandTo_9 rfl
theorem kJ29_expandTo_12 (z : XKT) : XOi z xInf Y_J29_expandTo 12 (.inl (i_aload 0 13)) := ok_aload_n dJ29_expandTo_12 rfl
theorem kJ29_expandTo_13 (z : XKT) : XOi z xInf Y_J29_expandTo 13 (.inl (i_iload 2 14)) := ok_iload_n dJ29_expandTo_13 rfl
theorem kJ29_expandTo_14 (z : XKT) : XOi z xInf Y_J29_expandTo 14 (.inr (.inl (17, g_virt [(18, 456)] 1))) := show XOkC z xInf Y_J29_expandTo 14 17 (g_virt [(18, 456)] 1) from okc_V (q := Y_J29_expandTo) (List.forall_mem_cons.mpr ⟨(show XOkV z xInf Y_J29_expandTo 14 17 1 (18, 456) from okv_V (q := Y_J29_expandTo) (q1 := Y_J29_ensureCapacity) Z_J29_ensureCapacity rfl (by decide) ⟨by decide, by decide, Or.inl ⟨_, _, (List.mem_of_getElem? (l := xCls) (i := 17) rfl)⟩⟩ dJ29_expandTo_14 q1225 q1227 qs14 q164 q1228 hy_443), (fun _ h => absurd h List.not_mem_nil)⟩)
theorem kJ29_expandTo_17 (z : XKT) : XOi z xInf Y_J29_expandTo 17 (.inl (i_aload 0 18)) := ok_aload_n dJ29_expandTo_17 rfl
theorem kJ29_expandTo_18 (z : XKT) : XOi z xInf Y_J29_expandTo 18 (.inl (i_iload 2 19)) := ok_iload_n dJ29_expandTo_18 rfl
theorem kJ29_expandTo_19 (z : XKT) : XOi z xInf Y_J29_expandTo 19 (.inl (i_puti z.1 [18] .int 107 22)) := ok_puti dJ29_expandTo_19 q1196 rfl (List.forall_mem_cons.mpr ⟨⟨_, _, _, _, tyJ29, fd_107_18_0, ⟨tyJ29_ok, nmJ29, (Or.inl rfl)⟩, rfl⟩, (fun _ h => absurd h List.not_mem_nil)⟩)
theorem kJ29_expandTo_22 (z : XKT) : XOi z xInf Y_J29_expandTo 22 (.inr (.inr (.inl r_v))) := show XOkR Y_J29_expandTo 22 (r_v) from okr_v (q := Y_J29_expandTo) rfl dJ29_expandTo_22
theorem o_J29_expandTo (z : XKT) : XMi z xInf Y_J29_expandTo := XMi.mk9 (T := T_J29_expandTo z) rfl (⟨kJ29_expandTo_0 z, ⟨kJ29_expandTo_1 z, ⟨kJ29_expandTo_2 z, ⟨kJ29_expandTo_3 z, ⟨kJ29_expandTo_4 z, ⟨kJ29_expandTo_5 z, ⟨kJ29_expandTo_8 z, ⟨kJ29_expandTo_9 z, ⟨kJ29_expandTo_12 z, ⟨kJ29_expandTo_13 z, ⟨kJ29_expandTo_14 z, ⟨kJ29_expandTo_17 z, ⟨kJ29_expandTo_18 z, ⟨kJ29_expandTo_19 z, ⟨kJ29_expandTo_22 z, trivial⟩⟩⟩⟩⟩⟩⟩⟩⟩⟩⟩⟩⟩⟩⟩) (hd_J29_expandTo z) rfl rfl (by decide +kernel)
theorem hd_J29_init (z : XKT) : XHd z Y_J29_init := xHd_none rfl (xhd0 rfl)
theorem kJ29_init_0 (z : XKT) : XOi z xInf Y_J29_init 0 (.inl (i_aload 0 1)) := ok_aload_n dJ29_init_0 rfl
theorem kJ29_init_1 (z : XKT) : XOi z xInf Y_J29_init 1 (.inl (i_oinit 4)) := ok_oinit dJ29_init_1 q1190 q179 q180
theorem kJ29_init_4 (z : XKT) : XOi z xInf Y_J29_init 4 (.inl (i_aload 0 5)) := ok_aload_n dJ29_init_4 rfl
theorem kJ29_init_5 (z : XKT) : XOi z xInf Y_J29_init 5 (.inl (i_push (vI 0) 6)) := ok_iconst dJ29_init_5 rfl
theorem kJ29_init_6 (z : XKT) : XOi z xInf Y_J29_init 6 (.inl (i_puti z.1 [18] .int 107 9)) := ok_puti dJ29_init_6 q1196 rfl (List.forall_mem_cons.mpr ⟨⟨_, _, _, _, tyJ29, fd_107_18_0, ⟨tyJ29_ok, nmJ29, (Or.inl rfl)⟩, rfl⟩, (fun _ h => absurd h List.not_mem_nil)⟩)
theorem kJ29_init_9 (z : XKT) : XOi z xInf Y_J29_init 9 (.inl (i_aload 0 10)) := ok_aload_n dJ29_init_9 rfl
theorem kJ29_init_10 (z : XKT) : XOi z xInf Y_J29_init 10 (.inl (i_push (vI 0) 11)) := ok_iconst dJ29_init_10 rfl
theorem kJ29_init_11 (z : XKT) : XOi z xInf Y_J29_init 11 (.inl (i_puti z.1 [18] .boolean 108 14)) := ok_puti dJ29_init_11 q1197 rfl (List.forall_mem_cons.mpr ⟨⟨_, _, _, _, tyJ29, fd_108_18_0, ⟨tyJ29_ok, nmJ29, (Or.inl rfl)⟩, rfl⟩, (fun _ h => absurd h List.not_mem_nil)⟩)
theorem kJ29_init_14 (z : XKT) : XOi z xInf Y_J29_init 14 (.inl (i_iload 1 15)) := ok_iload_n dJ29_init_14 rfl
theorem kJ29_init_15 (z : XKT) : XOi z xInf Y_J29_init 15 (.inl (i_if (fun x => 0 ≤ x) 45 18)) := ok_if_ge dJ29_init_15 rfl
theorem kJ29_init_21 (z : XKT) : XOi z xInf Y_J29_init 21 (.inl (i_dup 22)) := ok_dup dJ29_init_21
theorem kJ29_init_25 (z : XKT) : XOi z xInf Y_J29_init 25 (.inl (i_dup 26)) := ok_dup dJ29_init_25
theorem kJ29_init_45 (z : XKT) : XOi z xInf Y_J29_init 45 (.inl (i_aload 0 46)) := ok_aload_n dJ29_init_45 rfl
theorem kJ29_init_46 (z : XKT) : XOi z xInf Y_J29_init 46 (.inl (i_iload 1 47)) := ok_iload_n dJ29_init_46 rfl
theorem kJ29_init_47 (z : XKT) : XOi z xInf Y_J29_init 47 (.inr (.inl (50, g_virt [(18, 459)] 1))) := show XOkC z xInf Y_J29_init 47 50 (g_virt [(18, 459)] 1) from okc_V (q := Y_J29_init) (List.forall_mem_cons.mpr ⟨(show XOkV z xInf Y_J29_init 47 50 1 (18, 459) from okv_V (q := Y_J29_init) (q1 := Y_J29_initWords) Z_J29_initWords rfl (by decide) ⟨by decide, by decide, Or.inl ⟨_, _, (List.mem_of_getElem? (l := xCls) (i := 17) rfl)⟩⟩ dJ29_init_47 q1191 q1193 qs12 q164 q1194 hy_444), (fun _ h => absurd h List.not_mem_nil)⟩)
theorem kJ29_init_50 (z : XKT) : XOi z xInf Y_J29_init 50 (.inl (i_aload 0 51)) := ok_aload_n dJ29_init_50 rfl
theorem kJ29_init_51 (z : XKT) : XOi z xInf Y_J29_init 51 (.inl (i_push (vI 1) 52)) := ok_iconst dJ29_init_51 rfl
theorem kJ29_init_52 (z : XKT) : XOi z xInf Y_J29_init 52 (.inl (i_puti z.1 [18] .boolean 108 55)) := ok_puti dJ29_init_52 q1197 rfl (List.forall_mem_cons.mpr ⟨⟨_, _, _, _, tyJ29, fd_108_18_0, ⟨tyJ29_ok, nmJ29, (Or.inl rfl)⟩, rfl⟩, (fun _ h => absurd h List.not_mem_nil)⟩)
theorem kJ29_init_55 (z : XKT) : XOi z xInf Y_J29_init 55 (.inr (.inr (.inl r_v))) := show XOkR Y_J29_init 55 (r_v) from okr_v (q := Y_J29_init) rfl dJ29_init_55
theorem o_J29_init (z : XKT) : XMi z xInf Y_J29_init := XMi.mk9 (T := T_J29_init z) rfl (⟨kJ29_init_0 z, ⟨kJ29_init_1 z, ⟨kJ29_init_4 z, ⟨kJ29_init_5 z, ⟨kJ29_init_6 z, ⟨kJ29_init_9 z, ⟨kJ29_init_10 z, ⟨kJ29_init_11 z, ⟨kJ29_init_14 z, ⟨kJ29_init_15 z, ⟨kJ29_init_21 z, ⟨kJ29_init_25 z, ⟨kJ29_init_45 z, ⟨kJ29_init_46 z, ⟨kJ29_init_47 z, ⟨kJ29_init_50 z, ⟨kJ29_init_51 z, ⟨kJ29_init_52 z, ⟨kJ29_init_55 z, trivial⟩⟩⟩⟩⟩⟩⟩⟩⟩⟩⟩⟩⟩⟩⟩⟩⟩⟩⟩) (hd_J29_init z) rfl rfl (by decide +kernel)
theorem hd_J29_initWords (z : XKT) : XHd z Y_J29_initWords := xHd_none rfl (xhd0 rfl)
theorem kJ29_initWords_0 (z : XKT) : XOi z xInf Y_J29_initWords 0 (.inl (i_aload 0 1)) := ok_aload_n dJ29_initWords_0 rfl
theorem kJ29_initWords_1 (z : XKT) : XOi z xInf Y_J29_initWords 1 (.inl (i_iload 1 2)) := ok_iload_n dJ29_initWords_1 rfl
theorem kJ29_initWords_2 (z : XKT) : XOi z xInf Y_J29_initWords 2 (.inl (i_push (vI 1) 3)) := ok_iconst dJ29_initWords_2 rfl
theorem kJ29_initWords_3 (z : XKT) : XOi z xInf Y_J29_initWords 3 (.inl (i_bin (fun x y => x - y) 4)) := ok_isub dJ29_initWords_3
theorem kJ29_initWords_4 (z : XKT) : XOi z xInf Y_J29_initWords 4 (.inr (.inl (7, g_stat 464 1))) := show XOkC z xInf Y_J29_initWords 4 7 (g_stat 464 1) from okc_S (q := Y_J29_initWords) (q1 := Y_J29_wordIndex) Z_J29_wordIndex rfl (by decide) dJ29_initWords_4 q1086 q1087 q164 q1088 hy_440
theorem kJ29_initWords_7 (z : XKT) : XOi z xInf Y_J29_initWords 7 (.inl (i_push (vI 1) 8)) := ok_iconst dJ29_initWords_7 rfl
theorem kJ29_initWords_8 (z : XKT) : XOi z xInf Y_J29_initWords 8 (.inl (i_bin (fun x y => x + y) 9)) := ok_iadd dJ29_initWords_8
theorem kJ29_initWords_9 (z : XKT) : XOi z xInf Y_J29_initWords 9 (.inl (i_naj 1002 11)) := ok_naj dJ29_initWords_9 q1205 (List.mem_of_getElem? (l := xArs) (i := 2) rfl) rfl
theorem kJ29_initWords_11 (z : XKT) : XOi z xInf Y_J29_initWords 11 (.inl (i_putr z.1 [18] 106 14)) := ok_putr dJ29_initWords_11 q1195 (List.forall_mem_cons.mpr ⟨⟨_, _, _, _, tyJ29, fd_106_18_0, ⟨tyJ29_ok, nmJ29, (Or.inl rfl)⟩, (Or.inr ⟨_, rfl⟩)⟩, (fun _ h => absurd h List.not_mem_nil)⟩)
theorem kJ29_initWords_14 (z : XKT) : XOi z xInf Y_J29_initWords 14 (.inr (.inr (.inl r_v))) := show XOkR Y_J29_initWords 14 (r_v) from okr_v (q := Y_J29_initWords) rfl dJ29_initWords_14
theorem o_J29_initWords (z : XKT) : XMi z xInf Y_J29_initWords := XMi.mk9 (T := T_J29_initWords z) rfl (⟨kJ29_initWords_0 z, ⟨kJ29_initWords_1 z, ⟨kJ29_initWords_2 z, ⟨kJ29_initWords_3 z, ⟨kJ29_initWords_4 z, ⟨kJ29_initWords_7 z, ⟨kJ29_initWords_8 z, ⟨kJ29_initWords_9 z, ⟨kJ29_initWords_11 z, ⟨kJ29_initWords_14 z, trivial⟩⟩⟩⟩⟩⟩⟩⟩⟩⟩) (hd_J29_initWords z) rfl rfl (by decide +kernel)
theorem hd_J29_nextSetBit (z : XKT) : XHd z Y_J29_nextSetBit := xHd_none rfl (xhd0 rfl)
theorem kJ29_nextSetBit_0 (z : XKT) : XOi z xInf Y_J29_nextSetBit 0 (.inl (i_iload 1 1)) := ok_iload_n dJ29_nextSetBit_0 rfl
theorem kJ29_nextSetBit_1 (z : XKT) : XOi z xInf Y_J29_nextSetBit 1 (.inl (i_if (fun x => 0 ≤ x) 31 4)) := ok_if_ge dJ29_nextSetBit_1 rfl
theorem kJ29_nextSetBit_7 (z : XKT) : XOi z xInf Y_J29_nextSetBit 7 (.inl (i_dup 8)) := ok_dup dJ29_nextSetBit_7
theorem kJ29_nextSetBit_11 (z : XKT) : XOi z xInf Y_J29_nextSetBit 11 (.inl (i_dup 12)) := ok_dup dJ29_nextSetBit_11
theorem kJ29_nextSetBit_31 (z : XKT) : XOi z xInf Y_J29_nextSetBit 31 (.inl (i_aload 0 32)) := ok_aload_n dJ29_nextSetBit_31 rfl
theorem kJ29_nextSetBit_32 (z : XKT) : XOi z xInf Y_J29_nextSetBit 32 (.inr (.inl (35, g_virt [(18, 454)] 0))) := show XOkC z xInf Y_J29_nextSetBit 32 35 (g_virt [(18, 454)] 0) from okc_V (q := Y_J29_nextSetBit) (List.forall_mem_cons.mpr ⟨(show XOkV z xInf Y_J29_nextSetBit 32 35 0 (18, 454) from okv_V (q := Y_J29_nextSetBit) (q1 := Y_J29_checkInvariants) Z_J29_checkInvariants rfl (by decide) ⟨by decide, by decide, Or.inl ⟨_, _, (List.mem_of_getElem? (l := xCls) (i := 17) rfl)⟩⟩ dJ29_nextSetBit_32 q1079 q1081 qs11 q164 q1083 hy_442), (fun _ h => absurd h List.not_mem_nil)⟩)
theorem kJ29_nextSetBit_35 (z : XKT) : XOi z xInf Y_J29_nextSetBit 35 (.inl (i_iload 1 36)) := ok_iload_n dJ29_nextSetBit_35 rfl
theorem kJ29_nextSetBit_36 (z : XKT) : XOi z xInf Y_J29_nextSetBit 36 (.inr (.inl (39, g_stat 464 1))) := show XOkC z xInf Y_J29_nextSetBit 36 39 (g_stat 464 1) from okc_S (q := Y_J29_nextSetBit) (q1 := Y_J29_wordIndex) Z_J29_wordIndex rfl (by decide) dJ29_nextSetBit_36 q1086 q1087 q164 q1088 hy_440
theorem kJ29_nextSetBit_39 (z : XKT) : XOi z xInf Y_J29_nextSetBit 39 (.inl (i_istore 2 40)) := ok_istore_n dJ29_nextSetBit_39 rfl
theorem kJ29_nextSetBit_40 (z : XKT) : XOi z xInf Y_J29_nextSetBit 40 (.inl (i_iload 2 41)) := ok_iload_n dJ29_nextSetBit_40 rfl
theorem kJ29_nextSetBit_41 (z : XKT) : XOi z xInf Y_J29_nextSetBit 41 (.inl (i_aload 0 42)) := ok_aload_n dJ29_nextSetBit_41 rfl
theorem kJ29_nextSetBit_42 (z : XKT) : XOi z xInf Y_J29_nextSetBit 42 (.inl (i_geti [18] 107 45)) := ok_geti dJ29_nextSetBit_42 q1196 (List.forall_mem_cons.mpr ⟨⟨_, _, _, _, fd_107_18_0⟩, (fun _ h => absurd h List.not_mem_nil)⟩)
theorem kJ29_nextSetBit_45 (z : XKT) : XOi z xInf Y_J29_nextSetBit 45 (.inl (i_icmp (fun x y => x < y) 50 48)) := ok_icmp_lt dJ29_nextSetBit_45 rfl
theorem kJ29_nextSetBit_48 (z : XKT) : XOi z xInf Y_J29_nextSetBit 48 (.inl (i_push (vI (-1)) 49)) := ok_iconst dJ29_nextSetBit_48 rfl
theorem kJ29_nextSetBit_49 (z : XKT) : XOi z xInf Y_J29_nextSetBit 49 (.inr (.inr (.inl (r_i .int)))) := show XOkR Y_J29_nextSetBit 49 ((r_i .int)) from okr_i (q := Y_J29_nextSetBit) (ty := .int) rfl rfl dJ29_nextSetBit_49
theorem kJ29_nextSetBit_50 (z : XKT) : XOi z xInf Y_J29_nextSetBit 50 (.inl (i_aload 0 51)) := ok_aload_n dJ29_nextSetBit_50 rfl
theorem kJ29_nextSetBit_51 (z : XKT) : XOi z xInf Y_J29_nextSetBit 51 (.inl (i_getr [18] 106 54)) := ok_getr dJ29_nextSetBit_51 q1195 (List.forall_mem_cons.mpr ⟨⟨_, _, _, _, fd_106_18_0⟩, (fun _ h => absurd h List.not_mem_nil)⟩)
theorem kJ29_nextSetBit_54 (z : XKT) : XOi z xInf Y_J29_nextSetBit 54 (.inl (i_iload 2 55)) := ok_iload_n dJ29_nextSetBit_54 rfl
theorem kJ29_nextSetBit_55 (z : XKT) : XOi z xInf Y_J29_nextSetBit 55 (.inl (i_ajld 1002 56)) := ok_lald dJ29_nextSetBit_55
theorem kJ29_nextSetBit_56 (z : XKT) : XOi z xInf Y_J29_nextSetBit 56 (.inl (i_push (vJ (-1)) 59)) := ok_ldc2 dJ29_nextSetBit_56 q1089
theorem kJ29_nextSetBit_59 (z : XKT) : XOi z xInf Y_J29_nextSetBit 59 (.inl (i_iload 1 60)) := ok_iload_n dJ29_nextSetBit_59 rfl
theorem kJ29_nextSetBit_60 (z : XKT) : XOi z xInf Y_J29_nextSetBit 60 (.inl (i_lsh (fun x y => x <<< (y.toInt64 &&& 63)) 61)) := ok_lshl dJ29_nextSetBit_60
theorem kJ29_nextSetBit_61 (z : XKT) : XOi z xInf Y_J29_nextSetBit 61 (.inl (i_lbin (fun x y => x &&& y) 62)) := ok_land dJ29_nextSetBit_61
theorem kJ29_nextSetBit_62 (z : XKT) : XOi z xInf Y_J29_nextSetBit 62 (.inl (i_lstore 3 63)) := ok_lstore_n dJ29_nextSetBit_62 rfl
theorem kJ29_nextSetBit_63 (z : XKT) : XOi z xInf Y_J29_nextSetBit 63 (.inl (i_lload 3 64)) := ok_lload_n dJ29_nextSetBit_63 rfl
theorem kJ29_nextSetBit_64 (z : XKT) : XOi z xInf Y_J29_nextSetBit 64 (.inl (i_push (vJ 0) 65)) := ok_lconst dJ29_nextSetBit_64 rfl
theorem kJ29_nextSetBit_65 (z : XKT) : XOi z xInf Y_J29_nextSetBit 65 (.inl (i_lcmp 66)) := ok_lcmp dJ29_nextSetBit_65
theorem kJ29_nextSetBit_66 (z : XKT) : XOi z xInf Y_J29_nextSetBit 66 (.inl (i_if (fun x => x = 0) 79 69)) := ok_if_eq dJ29_nextSetBit_66 rfl
theorem kJ29_nextSetBit_69 (z : XKT) : XOi z xInf Y_J29_nextSetBit 69 (.inl (i_iload 2 70)) := ok_iload_n dJ29_nextSetBit_69 rfl
theorem kJ29_nextSetBit_70 (z : XKT) : XOi z xInf Y_J29_nextSetBit 70 (.inl (i_push (vI 64) 72)) := ok_bipush dJ29_nextSetBit_70 rfl
theorem kJ29_nextSetBit_72 (z : XKT) : XOi z xInf Y_J29_nextSetBit 72 (.inl (i_bin (fun x y => x * y) 73)) := ok_imul dJ29_nextSetBit_72
theorem kJ29_nextSetBit_73 (z : XKT) : XOi z xInf Y_J29_nextSetBit 73 (.inl (i_lload 3 74)) := ok_lload_n dJ29_nextSetBit_73 rfl
theorem kJ29_nextSetBit_74 (z : XKT) : XOi z xInf Y_J29_nextSetBit 74 (.inr (.inl (77, g_stat 465 1))) := show XOkC z xInf Y_J29_nextSetBit 74 77 (g_stat 465 1) from okc_S (q := Y_J29_nextSetBit) (q1 := Y_J30_numberOfTrailingZeros) Z_J30_numberOfTrailingZeros rfl (by decide) dJ29_nextSetBit_74 q1090 q1091 q165 q1092 hy_445
theorem kJ29_nextSetBit_77 (z : XKT) : XOi z xInf Y_J29_nextSetBit 77 (.inl (i_bin (fun x y => x + y) 78)) := ok_iadd dJ29_nextSetBit_77
theorem kJ29_nextSetBit_78 (z : XKT) : XOi z xInf Y_J29_nextSetBit 78 (.inr (.inr (.inl (r_i .int)))) := show XOkR Y_J29_nextSetBit 78 ((r_i .int)) from okr_i (q := Y_J29_nextSetBit) (ty := .int) rfl rfl dJ29_nextSetBit_78
theorem kJ29_nextSetBit_79 (z : XKT) : XOi z xInf Y_J29_nextSetBit 79 (.inl (i_iinc 2 1 82)) := ok_iinc dJ29_nextSetBit_79 rfl
theorem kJ29_nextSetBit_82 (z : XKT) : XOi z xInf Y_J29_nextSetBit 82 (.inl (i_iload 2 83)) := ok_iload_n dJ29_nextSetBit_82 rfl
theorem kJ29_nextSetBit_83 (z : XKT) : XOi z xInf Y_J29_nextSetBit 83 (.inl (i_aload 0 84)) := ok_aload_n dJ29_nextSetBit_83 rfl
theorem kJ29_nextSetBit_84 (z : XKT) : XOi z xInf Y_J29_nextSetBit 84 (.inl (i_geti [18] 107 87)) := ok_geti dJ29_nextSetBit_84 q1196 (List.forall_mem_cons.mpr ⟨⟨_, _, _, _, fd_107_18_0⟩, (fun _ h => absurd h List.not_mem_nil)⟩)
theorem kJ29_nextSetBit_87 (z : XKT) : XOi z xInf Y_J29_nextSetBit 87 (.inl (i_icmp (fun x y => ¬ x = y) 92 90)) := ok_icmp_ne dJ29_nextSetBit_87 rfl
theorem kJ29_nextSetBit_90 (z : XKT) : XOi z xInf Y_J29_nextSetBit 90 (.inl (i_push (vI (-1)) 91)) := ok_iconst dJ29_nextSetBit_90 rfl
theorem kJ29_nextSetBit_91 (z : XKT) : XOi z xInf Y_J29_nextSetBit 91 (.inr (.inr (.inl (r_i .int)))) := show XOkR Y_J29_nextSetBit 91 ((r_i .int)) from okr_i (q := Y_J29_nextSetBit) (ty := .int) rfl rfl dJ29_nextSetBit_91
theorem kJ29_nextSetBit_92 (z : XKT) : XOi z xInf Y_J29_nextSetBit 92 (.inl (i_aload 0 93)) := ok_aload_n dJ29_nextSetBit_92 rfl
theorem kJ29_nextSetBit_93 (z : XKT) : XOi z xInf Y_J29_nextSetBit 93 (.inl (i_getr [18] 106 96)) := ok_getr dJ29_nextSetBit_93 q1195 (List.forall_mem_cons.mpr ⟨⟨_, _, _, _, fd_106_18_0⟩, (fun _ h => absurd h List.not_mem_nil)⟩)
theorem kJ29_nextSetBit_96 (z : XKT) : XOi z xInf Y_J29_nextSetBit 96 (.inl (i_iload 2 97)) := ok_iload_n dJ29_nextSetBit_96 rfl
theorem kJ29_nextSetBit_97 (z : XKT) : XOi z xInf Y_J29_nextSetBit 97 (.inl (i_ajld 1002 98)) := ok_lald dJ29_nextSetBit_97
theorem kJ29_nextSetBit_98 (z : XKT) : XOi z xInf Y_J29_nextSetBit 98 (.inl (i_lstore 3 99)) := ok_lstore_n dJ29_nextSetBit_98 rfl
theorem kJ29_nextSetBit_99 (z : XKT) : XOi z xInf Y_J29_nextSetBit 99 (.inl (i_goto 63)) := ok_goto dJ29_nextSetBit_99 rfl
theorem o_J29_nextSetBit (z : XKT) : XMi z xInf Y_J29_nextSetBit := XMi.mk9 (T := T_J29_nextSetBit z) rfl (⟨kJ29_nextSetBit_0 z, ⟨kJ29_nextSetBit_1 z, ⟨kJ29_nextSetBit_7 z, ⟨kJ29_nextSetBit_11 z, ⟨kJ29_nextSetBit_31 z, ⟨kJ29_nextSetBit_32 z, ⟨kJ29_nextSetBit_35 z, ⟨kJ29_nextSetBit_36 z, ⟨kJ29_nextSetBit_39 z, ⟨kJ29_nextSetBit_40 z, ⟨kJ29_nextSetBit_41 z, ⟨kJ29_nextSetBit_42 z, ⟨kJ29_nextSetBit_45 z, ⟨kJ29_nextSetBit_48 z, ⟨kJ29_nextSetBit_49 z, ⟨kJ29_nextSetBit_50 z, ⟨kJ29_nextSetBit_51 z, ⟨kJ29_nextSetBit_54 z, ⟨kJ29_nextSetBit_55 z, ⟨kJ29_nextSetBit_56 z, ⟨kJ29_nextSetBit_59 z, ⟨kJ29_nextSetBit_60 z, ⟨kJ29_nextSetBit_61 z, ⟨kJ29_nextSetBit_62 z, ⟨kJ29_nextSetBit_63 z, ⟨kJ29_nextSetBit_64 z, ⟨kJ29_nextSetBit_65 z, ⟨kJ29_nextSetBit_66 z, ⟨kJ29_nextSetBit_69 z, ⟨kJ29_nextSetBit_70 z, ⟨kJ29_nextSetBit_72 z, ⟨kJ29_nextSetBit_73 z, ⟨kJ29_nextSetBit_74 z, ⟨kJ29_nextSetBit_77 z, ⟨kJ29_nextSetBit_78 z, ⟨kJ29_nextSetBit_79 z, ⟨kJ29_nextSetBit_82 z, ⟨kJ29_nextSetBit_83 z, ⟨kJ29_nextSetBit_84 z, ⟨kJ29_nextSetBit_87 z, ⟨kJ29_nextSetBit_90 z, ⟨kJ29_nextSetBit_91 z, ⟨kJ29_nextSetBit_92 z, ⟨kJ29_nextSetBit_93 z, ⟨kJ29_nextSetBit_96 z, ⟨kJ29_nextSetBit_97 z, ⟨kJ29_nextSetBit_98 z, ⟨kJ29_nextSetBit_99 z, trivial⟩⟩⟩⟩⟩⟩⟩⟩⟩⟩⟩⟩⟩⟩⟩⟩⟩⟩⟩⟩⟩⟩⟩⟩⟩⟩⟩⟩⟩⟩⟩⟩⟩⟩⟩⟩⟩⟩⟩⟩⟩⟩⟩⟩⟩⟩⟩⟩) (hd_J29_nextSetBit z) rfl rfl (by decide +kernel)
theorem hd_J29_recalculateWordsInUse (z : XKT) : XHd z Y_J29_recalculateWordsInUse := xHd_none rfl (xhd0 rfl)
theorem kJ29_recalculateWordsInUse_0 (z : XKT) : XOi z xInf Y_J29_recalculateWordsInUse 0 (.inl (i_aload 0 1)) := ok_aload_n dJ29_recalculateWordsInUse_0 rfl
theorem kJ29_recalculateWordsInUse_1 (z : XKT) : XOi z xInf Y_J29_recalculateWordsInUse 1 (.inl (i_geti [18] 107 4)) := ok_geti dJ29_recalculateWordsInUse_1 q1196 (List.forall_mem_cons.mpr ⟨⟨_, _, _, _, fd_107_18_0⟩, (fun _ h => absurd h List.not_mem_nil)⟩)
theorem kJ29_recalculateWordsInUse_4 (z : XKT) : XOi z xInf Y_J29_recalculateWordsInUse 4 (.inl (i_push (vI 1) 5)) := ok_iconst dJ29_recalculateWordsInUse_4 rfl
theorem kJ29_recalculateWordsInUse_5 (z : XKT) : XOi z xInf Y_J29_recalculateWordsInUse 5 (.inl (i_bin (fun x y => x - y) 6)) := ok_isub dJ29_recalculateWordsInUse_5
theorem kJ29_recalculateWordsInUse_6 (z : XKT) : XOi z xInf Y_J29_recalculateWordsInUse 6 (.inl (i_istore 1 7)) := ok_istore_n dJ29_recalculateWordsInUse_6 rfl
theorem kJ29_recalculateWordsInUse_7 (z : XKT) : XOi z xInf Y_J29_recalculateWordsInUse 7 (.inl (i_iload 1 8)) := ok_iload_n dJ29_recalculateWordsInUse_7 rfl
theorem kJ29_recalculateWordsInUse_8 (z : XKT) : XOi z xInf Y_J29_recalculateWordsInUse 8 (.inl (i_if (fun x => x < 0) 31 11)) := ok_if_lt dJ29_recalculateWordsInUse_8 rfl
theorem kJ29_recalculateWordsInUse_11 (z : XKT) : XOi z xInf Y_J29_recalculateWordsInUse 11 (.inl (i_aload 0 12)) := ok_aload_n dJ29_recalculateWordsInUse_11 rfl
theorem kJ29_recalculateWordsInUse_12 (z : XKT) : XOi z xInf Y_J29_recalculateWordsInUse 12 (.inl (i_getr [18] 106 15)) := ok_getr dJ29_recalculateWordsInUse_12 q1195 (List.forall_mem_cons.mpr ⟨⟨_, _, _, _, fd_106_18_0⟩, (fun _ h => absurd h List.not_mem_nil)⟩)
theorem kJ29_recalculateWordsInUse_15 (z : XKT) : XOi z xInf Y_J29_recalculateWordsInUse 15 (.inl (i_iload 1 16)) := ok_iload_n dJ29_recalculateWordsInUse_15 rfl
theorem kJ29_recalculateWordsInUse_16 (z : XKT) : XOi z xInf Y_J29_recalculateWordsInUse 16 (.inl (i_ajld 1002 17)) := ok_lald dJ29_recalculateWordsInUse_16
theorem kJ29_recalculateWordsInUse_17 (z : XKT) : XOi z xInf Y_J29_recalculateWordsInUse 17 (.inl (i_push (vJ 0) 18)) := ok_lconst dJ29_recalculateWordsInUse_17 rfl
theorem kJ29_recalculateWordsInUse_18 (z : XKT) : XOi z xInf Y_J29_recalculateWordsInUse 18 (.inl (i_lcmp 19)) := ok_lcmp dJ29_recalculateWordsInUse_18
theorem kJ29_recalculateWordsInUse_19 (z : XKT) : XOi z xInf Y_J29_recalculateWordsInUse 19 (.inl (i_if (fun x => x = 0) 25 22)) := ok_if_eq dJ29_recalculateWordsInUse_19 rfl
theorem kJ29_recalculateWordsInUse_22 (z : XKT) : XOi z xInf Y_J29_recalculateWordsInUse 22 (.inl (i_goto 31)) := ok_goto dJ29_recalculateWordsInUse_22 rfl
theorem kJ29_recalculateWordsInUse_25 (z : XKT) : XOi z xInf Y_J29_recalculateWordsInUse 25 (.inl (i_iinc 1 (-1) 28)) := ok_iinc dJ29_recalculateWordsInUse_25 rfl
theorem kJ29_recalculateWordsInUse_28 (z : XKT) : XOi z xInf Y_J29_recalculateWordsInUse 28 (.inl (i_goto 7)) := ok_goto dJ29_recalculateWordsInUse_28 rfl
theorem kJ29_recalculateWordsInUse_31 (z : XKT) : XOi z xInf Y_J29_recalculateWordsInUse 31 (.inl (i_aload 0 32)) := ok_aload_n dJ29_recalculateWordsInUse_31 rfl
theorem kJ29_recalculateWordsInUse_32 (z : XKT) : XOi z xInf Y_J29_recalculateWordsInUse 32 (.inl (i_iload 1 33)) := ok_iload_n dJ29_recalculateWordsInUse_32 rfl
theorem kJ29_recalculateWordsInUse_33 (z : XKT) : XOi z xInf Y_J29_recalculateWordsInUse 33 (.inl (i_push (vI 1) 34)) := ok_iconst dJ29_recalculateWordsInUse_33 rfl
theorem kJ29_recalculateWordsInUse_34 (z : XKT) : XOi z xInf Y_J29_recalculateWordsInUse 34 (.inl (i_bin (fun x y => x + y) 35)) := ok_iadd dJ29_recalculateWordsInUse_34
theorem kJ29_recalculateWordsInUse_35 (z : XKT) : XOi z xInf Y_J29_recalculateWordsInUse 35 (.inl (i_puti z.1 [18] .int 107 38)) := ok_puti dJ29_recalculateWordsInUse_35 q1196 rfl (List.forall_mem_cons.mpr ⟨⟨_, _, _, _, tyJ29, fd_107_18_0, ⟨tyJ29_ok, nmJ29, (Or.inl rfl)⟩, rfl⟩, (fun _ h => absurd h List.not_mem_nil)⟩)
theorem kJ29_recalculateWordsInUse_38 (z : XKT) : XOi z xInf Y_J29_recalculateWordsInUse 38 (.inr (.inr (.inl r_v))) := show XOkR Y_J29_recalculateWordsInUse 38 (r_v) from okr_v (q := Y_J29_recalculateWordsInUse) rfl dJ29_recalculateWordsInUse_38
theorem o_J29_recalculateWordsInUse (z : XKT) : XMi z xInf Y_J29_recalculateWordsInUse := XMi.mk9 (T := T_J29_recalculateWordsInUse z) rfl (⟨kJ29_recalculateWordsInUse_0 z, ⟨kJ29_recalculateWordsInUse_1 z, ⟨kJ29_recalculateWordsInUse_4 z, ⟨kJ29_recalculateWordsInUse_5 z, ⟨kJ29_recalculateWordsInUse_6 z, ⟨kJ29_recalculateWordsInUse_7 z, ⟨kJ29_recalculateWordsInUse_8 z, ⟨kJ29_recalculateWordsInUse_11 z, ⟨kJ29_recalculateWordsInUse_12 z, ⟨kJ29_recalculateWordsInUse_15 z, ⟨kJ29_recalculateWordsInUse_16 z, ⟨kJ29_recalculateWordsInUse_17 z, ⟨kJ29_recalculateWordsInUse_18 z, ⟨kJ29_recalculateWordsInUse_19 z, ⟨kJ29_recalculateWordsInUse_22 z, ⟨kJ29_recalculateWordsInUse_25 z, ⟨kJ29_recalculateWordsInUse_28 z, ⟨kJ29_recalculateWordsInUse_31 z, ⟨kJ29_recalculateWordsInUse_32 z, ⟨kJ29_recalculateWordsInUse_33 z, ⟨kJ29_recalculateWordsInUse_34 z, ⟨kJ29_recalculateWordsInUse_35 z, ⟨kJ29_recalculateWordsInUse_38 z, trivial⟩⟩⟩⟩⟩⟩⟩⟩⟩⟩⟩⟩⟩⟩⟩⟩⟩⟩⟩⟩⟩⟩⟩) (hd_J29_recalculateWordsInUse z) rfl rfl (by decide +kernel)
theorem hd_J29_set (z : XKT) : XHd z Y_J29_set := xHd_none rfl (xhd0 rfl)
theorem kJ29_set_0 (z : XKT) : XOi z xInf Y_J29_set 0 (.inl (i_iload 2 1)) := ok_iload_n dJ29_set_0 rfl
theorem kJ29_set_1 (z : XKT) : XOi z xInf Y_J29_set 1 (.inl (i_if (fun x => x = 0) 12 4)) := ok_if_eq dJ29_set_1 rfl
theorem kJ29_set_4 (z : XKT) : XOi z xInf Y_J29_set 4 (.inl (i_aload 0 5)) := ok_aload_n dJ29_set_4 rfl
theorem kJ29_set_5 (z : XKT) : XOi z xInf Y_J29_set 5 (.inl (i_iload 1 6)) := ok_iload_n dJ29_set_5 rfl
theorem kJ29_set_6 (z : XKT) : XOi z xInf Y_J29_set 6 (.inr (.inl (9, g_virt [(18, 463)] 1))) := show XOkC z xInf Y_J29_set 6 9 (g_virt [(18, 463)] 1) from okc_V (q := Y_J29_set) (List.forall_mem_cons.mpr ⟨(show XOkV z xInf Y_J29_set 6 9 1 (18, 463) from okv_V (q := Y_J29_set) (q1 := Y_J29_set_2) Z_J29_set_2 rfl (by decide) ⟨by decide, by decide, Or.inl ⟨_, _, (List.mem_of_getElem? (l := xCls) (i := 17) rfl)⟩⟩ dJ29_set_6 q1217 q1218 q1219 q164 q1220 hy_446), (fun _ h => absurd h List.not_mem_nil)⟩)
theorem kJ29_set_9 (z : XKT) : XOi z xInf Y_J29_set 9 (.inl (i_goto 17)) := ok_goto dJ29_set_9 rfl
theorem kJ29_set_12 (z : XKT) : XOi z xInf Y_J29_set 12 (.inl (i_aload 0 13)) := ok_aload_n dJ29_set_12 rfl
theorem kJ29_set_13 (z : XKT) : XOi z xInf Y_J29_set 13 (.inl (i_iload 1 14)) := ok_iload_n dJ29_set_13 rfl
theorem kJ29_set_14 (z : XKT) : XOi z xInf Y_J29_set 14 (.inr (.inl (17, g_virt [(18, 455)] 1))) := show XOkC z xInf Y_J29_set 14 17 (g_virt [(18, 455)] 1) from okc_V (q := Y_J29_set) (List.forall_mem_cons.mpr ⟨(show XOkV z xInf Y_J29_set 14 17 1 (18, 455) from okv_V (q := Y_J29_set) (q1 := Y_J29_clear) Z_J29_clear rfl (by decide) ⟨by decide, by decide, Or.inl ⟨_, _, (List.mem_of_getElem? (l := xCls) (i := 17) rfl)⟩⟩ dJ29_set_14 q1238 q1239 q1240 q164 q1241 hy_447), (fun _ h => absurd h List.not_mem_nil)⟩)
theorem kJ29_set_17 (z : XKT) : XOi z xInf Y_J29_set 17 (.inr (.inr (.inl r_v))) := show XOkR Y_J29_set 17 (r_v) from okr_v (q := Y_J29_set) rfl dJ29_set_17
theorem o_J29_set (z : XKT) : XMi z xInf Y_J29_set := XMi.mk9 (T := T_J29_set z) rfl (⟨kJ29_set_0 z, ⟨kJ29_set_1 z, ⟨kJ29_set_4 z, ⟨kJ29_set_5 z, ⟨kJ29_set_6 z, ⟨kJ29_set_9 z, ⟨kJ29_set_12 z, ⟨kJ29_set_13 z, ⟨kJ29_set_14 z, ⟨kJ29_set_17 z, trivial⟩⟩⟩⟩⟩⟩⟩⟩⟩⟩) (hd_J29_set z) rfl rfl (by decide +kernel)
theorem hd_J29_set_2 (z : XKT) : XHd z Y_J29_set_2 := xHd_none rfl (xhd0 rfl)
theorem kJ29_set_2_0 (z : XKT) : XOi z xInf Y_J29_set_2 0 (.inl (i_iload 1 1)) := ok_iload_n dJ29_set_2_0 rfl
theorem kJ29_set_2_1 (z : XKT) : XOi z xInf Y_J29_set_2 1 (.inl (i_if (fun x => 0 ≤ x) 31 4)) := ok_if_ge dJ29_set_2_1 rfl
theorem kJ29_set_2_7 (z : XKT) : XOi z xInf Y_J29_set_2 7 (.inl (i_dup 8)) := ok_dup dJ29_set_2_7
theorem kJ29_set_2_11 (z : XKT) : XOi z xInf Y_J29_set_2 11 (.inl (i_dup 12)) := ok_dup dJ29_set_2_11
theorem kJ29_set_2_31 (z : XKT) : XOi z xInf Y_J29_set_2 31 (.inl (i_iload 1 32)) := ok_iload_n dJ29_set_2_31 rfl
theorem kJ29_set_2_32 (z : XKT) : XOi z xInf Y_J29_set_2 32 (.inr (.inl (35, g_stat 464 1))) := show XOkC z xInf Y_J29_set_2 32 35 (g_stat 464 1) from okc_S (q := Y_J29_set_2) (q1 := Y_J29_wordIndex) Z_J29_wordIndex rfl (by decide) dJ29_set_2_32 q1086 q1087 q164 q1088 hy_440
theorem kJ29_set_2_35 (z : XKT) : XOi z xInf Y_J29_set_2 35 (.inl (i_istore 2 36)) := ok_istore_n dJ29_set_2_35 rfl
theorem kJ29_set_2_36 (z : XKT) : XOi z xInf Y_J29_set_2 36 (.inl (i_aload 0 37)) := ok_aload_n dJ29_set_2_36 rfl
theorem kJ29_set_2_37 (z : XKT) : XOi z xInf Y_J29_set_2 37 (.inl (i_iload 2 38)) := ok_iload_n dJ29_set_2_37 rfl
theorem kJ29_set_2_38 (z : XKT) : XOi z xInf Y_J29_set_2 38 (.inr (.inl (41, g_virt [(18, 457)] 1))) := show XOkC z xInf Y_J29_set_2 38 41 (g_virt [(18, 457)] 1) from okc_V (q := Y_J29_set_2) (List.forall_mem_cons.mpr ⟨(show XOkV z xInf Y_J29_set_2 38 41 1 (18, 457) from okv_V (q := Y_J29_set_2) (q1 := Y_J29_expandTo) Z_J29_expandTo rfl (by decide) ⟨by decide, by decide, Or.inl ⟨_, _, (List.mem_of_getElem? (l := xCls) (i := 17) rfl)⟩⟩ dJ29_set_2_38 q1221 q1223 qs13 q164 q1224 hy_448), (fun _ h => absurd h List.not_mem_nil)⟩)
theorem kJ29_set_2_41 (z : XKT) : XOi z xInf Y_J29_set_2 41 (.inl (i_aload 0 42)) := ok_aload_n dJ29_set_2_41 rfl
theorem kJ29_set_2_42 (z : XKT) : XOi z xInf Y_J29_set_2 42 (.inl (i_getr [18] 106 45)) := ok_getr dJ29_set_2_42 q1195 (List.forall_mem_cons.mpr ⟨⟨_, _, _, _, fd_106_18_0⟩, (fun _ h => absurd h List.not_mem_nil)⟩)
theorem kJ29_set_2_45 (z : XKT) : XOi z xInf Y_J29_set_2 45 (.inl (i_iload 2 46)) := ok_iload_n dJ29_set_2_45 rfl
theorem kJ29_set_2_46 (z : XKT) : XOi z xInf Y_J29_set_2 46 (.inl (i_dup2 47)) := ok_dup2 dJ29_set_2_46
theorem kJ29_set_2_47 (z : XKT) : XOi z xInf Y_J29_set_2 47 (.inl (i_ajld 1002 48)) := ok_lald dJ29_set_2_47
theorem kJ29_set_2_48 (z : XKT) : XOi z xInf Y_J29_set_2 48 (.inl (i_push (vJ 1) 49)) := ok_lconst dJ29_set_2_48 rfl
theorem kJ29_set_2_49 (z : XKT) : XOi z xInf Y_J29_set_2 49 (.inl (i_iload 1 50)) := ok_iload_n dJ29_set_2_49 rfl
theorem kJ29_set_2_50 (z : XKT) : XOi z xInf Y_J29_set_2 50 (.inl (i_lsh (fun x y => x <<< (y.toInt64 &&& 63)) 51)) := ok_lshl dJ29_set_2_50
theorem kJ29_set_2_51 (z : XKT) : XOi z xInf Y_J29_set_2 51 (.inl (i_lbin (fun x y => x ||| y) 52)) := ok_lor dJ29_set_2_51
theorem kJ29_set_2_52 (z : XKT) : XOi z xInf Y_J29_set_2 52 (.inl (i_ajst z.1 1002 53)) := ok_last dJ29_set_2_52
theorem kJ29_set_2_53 (z : XKT) : XOi z xInf Y_J29_set_2 53 (.inl (i_aload 0 54)) := ok_aload_n dJ29_set_2_53 rfl
theorem kJ29_set_2_54 (z : XKT) : XOi z xInf Y_J29_set_2 54 (.inr (.inl (57, g_virt [(18, 454)] 0))) := show XOkC z xInf Y_J29_set_2 54 57 (g_virt [(18, 454)] 0) from okc_V (q := Y_J29_set_2) (List.forall_mem_cons.mpr ⟨(show XOkV z xInf Y_J29_set_2 54 57 0 (18, 454) from okv_V (q := Y_J29_set_2) (q1 := Y_J29_checkInvariants) Z_J29_checkInvariants rfl (by decide) ⟨by decide, by decide, Or.inl ⟨_, _, (List.mem_of_getElem? (l := xCls) (i := 17) rfl)⟩⟩ dJ29_set_2_54 q1079 q1081 qs11 q164 q1083 hy_442), (fun _ h => absurd h List.not_mem_nil)⟩)
theorem kJ29_set_2_57 (z : XKT) : XOi z xInf Y_J29_set_2 57 (.inr (.inr (.inl r_v))) := show XOkR Y_J29_set_2 57 (r_v) from okr_v (q := Y_J29_set_2) rfl dJ29_set_2_57
theorem o_J29_set_2 (z : XKT) : XMi z xInf Y_J29_set_2 := XMi.mk9 (T := T_J29_set_2 z) rfl (⟨kJ29_set_2_0 z, ⟨kJ29_set_2_1 z, ⟨kJ29_set_2_7 z, ⟨kJ29_set_2_11 z, ⟨kJ29_set_2_31 z, ⟨kJ29_set_2_32 z, ⟨kJ29_set_2_35 z, ⟨kJ29_set_2_36 z, ⟨kJ29_set_2_37 z, ⟨kJ29_set_2_38 z, ⟨kJ29_set_2_41 z, ⟨kJ29_set_2_42 z, ⟨kJ29_set_2_45 z, ⟨kJ29_set_2_46 z, ⟨kJ29_set_2_47 z, ⟨kJ29_set_2_48 z, ⟨kJ29_set_2_49 z, ⟨kJ29_set_2_50 z, ⟨kJ29_set_2_51 z, ⟨kJ29_set_2_52 z, ⟨kJ29_set_2_53 z, ⟨kJ29_set_2_54 z, ⟨kJ29_set_2_57 z, trivial⟩⟩⟩⟩⟩⟩⟩⟩⟩⟩⟩⟩⟩⟩⟩⟩⟩⟩⟩⟩⟩⟩⟩) (hd_J29_set_2 z) rfl rfl (by decide +kernel)
theorem hd_J29_wordIndex (z : XKT) : XHd z Y_J29_wordIndex := xHd_none rfl (xhd0 rfl)
theorem kJ29_wordIndex_0 (z : XKT) : XOi z xInf Y_J29_wordIndex 0 (.inl (i_iload 0 1)) := ok_iload_n dJ29_wordIndex_0 rfl
theorem kJ29_wordIndex_1 (z : XKT) : XOi z xInf Y_J29_wordIndex 1 (.inl (i_push (vI 6) 3)) := ok_bipush dJ29_wordIndex_1 rfl
theorem kJ29_wordIndex_3 (z : XKT) : XOi z xInf Y_J29_wordIndex 3 (.inl (i_bin (fun x y => x >>> (y &&& 31)) 4)) := ok_ishr dJ29_wordIndex_3
theorem kJ29_wordIndex_4 (z : XKT) : XOi z xInf Y_J29_wordIndex 4 (.inr (.inr (.inl (r_i .int)))) := show XOkR Y_J29_wordIndex 4 ((r_i .int)) from okr_i (q := Y_J29_wordIndex) (ty := .int) rfl rfl dJ29_wordIndex_4
theorem o_J29_wordIndex (z : XKT) : XMi z xInf Y_J29_wordIndex := XMi.mk9 (T := T_J29_wordIndex z) rfl (⟨kJ29_wordIndex_0 z, ⟨kJ29_wordIndex_1 z, ⟨kJ29_wordIndex_3 z, ⟨kJ29_wordIndex_4 z, trivial⟩⟩⟩⟩) (hd_J29_wordIndex z) rfl rfl (by decide +kernel)
theorem hd_J30_numberOfTrailingZeros (z : XKT) : XHd z Y_J30_numberOfTrailingZeros := xHd_none rfl (xhd0 rfl)
theorem kJ30_numberOfTrailingZeros_0 (z : XKT) : XOi z xInf Y_J30_numberOfTrailingZeros 0 (.inl (i_lload 0 1)) := ok_lload_n dJ30_numberOfTrailingZeros_0 rfl
theorem kJ30_numberOfTrailingZeros_1 (z : XKT) : XOi z xInf Y_J30_numberOfTrailingZeros 1 (.inl (i_l2i 2)) := ok_l2i dJ30_numberOfTrailingZeros_1
theorem kJ30_numberOfTrailingZeros_2 (z : XKT) : XOi z xInf Y_J30_numberOfTrailingZeros 2 (.inl (i_istore 2 3)) := ok_istore_n dJ30_numberOfTrailingZeros_2 rfl
theorem kJ30_numberOfTrailingZeros_3 (z : XKT) : XOi z xInf Y_J30_numberOfTrailingZeros 3 (.inl (i_iload 2 4)) := ok_iload_n dJ30_numberOfTrailingZeros_3 rfl
theorem kJ30_numberOfTrailingZeros_4 (z : XKT) : XOi z xInf Y_J30_numberOfTrailingZeros 4 (.inl (i_if (fun x => ¬ x = 0) 21 7)) := ok_if_ne dJ30_numberOfTrailingZeros_4 rfl
theorem kJ30_numberOfTrailingZeros_7 (z : XKT) : XOi z xInf Y_J30_numberOfTrailingZeros 7 (.inl (i_push (vI 32) 9)) := ok_bipush dJ30_numberOfTrailingZeros_7 rfl
theorem kJ30_numberOfTrailingZeros_9 (z : XKT) : XOi z xInf Y_J30_numberOfTrailingZeros 9 (.inl (i_lload 0 10)) := ok_lload_n dJ30_numberOfTrailingZeros_9 rfl
theorem kJ30_numberOfTrailingZeros_10 (z : XKT) : XOi z xInf Y_J30_numberOfTrailingZeros 10 (.inl (i_push (vI 32) 12)) := ok_bipush dJ30_numberOfTrailingZeros_10 rfl
theorem kJ30_numberOfTrailingZeros_12 (z : XKT) : XOi z xInf Y_J30_numberOfTrailingZeros 12 (.inl (i_lsh (fun x y => (x.toUInt64 >>> (y.toInt64.toUInt64 &&& Int64.toUInt64 63)).toInt64) 13)) := ok_lushr dJ30_numberOfTrailingZeros_12
theorem kJ30_numberOfTrailingZeros_13 (z : XKT) : XOi z xInf Y_J30_numberOfTrailingZeros 13 (.inl (i_l2i 14)) := ok_l2i dJ30_numberOfTrailingZeros_13
theorem kJ30_numberOfTrailingZeros_14 (z : XKT) : XOi z xInf Y_J30_numberOfTrailingZeros 14 (.inr (.inl (17, g_stat 406 1))) := show XOkC z xInf Y_J30_numberOfTrailingZeros 14 17 (g_stat 406 1) from okc_S (q := Y_J30_numberOfTrailingZeros) (q1 := Y_J17_numberOfTrailingZeros) Z_J17_numberOfTrailingZeros rfl (by decide) dJ30_numberOfTrailingZeros_14 q1093 q1094 q145 q1095 hy_449
theorem kJ30_numberOfTrailingZeros_17 (z : XKT) : XOi z xInf Y_J30_numberOfTrailingZeros 17 (.inl (i_bin (fun x y => x + y) 18)) := ok_iadd dJ30_numberOfTrailingZeros_17
theorem kJ30_numberOfTrailingZeros_18 (z : XKT) : XOi z xInf Y_J30_numberOfTrailingZeros 18 (.inl (i_goto 25)) := ok_goto dJ30_numberOfTrailingZeros_18 rfl
theorem kJ30_numberOfTrailingZeros_21 (z : XKT) : XOi z xInf Y_J30_numberOfTrailingZeros 21 (.inl (i_iload 2 22)) := ok_iload_n dJ30_numberOfTrailingZeros_21 rfl
theorem kJ30_numberOfTrailingZeros_22 (z : XKT) : XOi z xInf Y_J30_numberOfTrailingZeros 22 (.inr (.inl (25, g_stat 406 1))) := show XOkC z xInf Y_J30_numberOfTrailingZeros 22 25 (g_stat 406 1) from okc_S (q := Y_J30_numberOfTrailingZeros) (q1 := Y_J17_numberOfTrailingZeros) Z_J17_numberOfTrailingZeros rfl (by decide) dJ30_numberOfTrailingZeros_22 q1093 q1094 q145 q1095 hy_449
theorem kJ30_numberOfTrailingZeros_25 (z : XKT) : XOi z xInf Y_J30_numberOfTrailingZeros 25 (.inr (.inr (.inl (r_i .int)))) := show XOkR Y_J30_numberOfTrailingZeros 25 ((r_i .int)) from okr_i (q := Y_J30_numberOfTrailingZeros) (ty := .int) rfl rfl dJ30_numberOfTrailingZeros_25
theorem o_J30_numberOfTrailingZeros (z : XKT) : XMi z xInf Y_J30_numberOfTrailingZeros := XMi.mk9 (T := T_J30_numberOfTrailingZeros z) rfl (⟨kJ30_numberOfTrailingZeros_0 z, ⟨kJ30_numberOfTrailingZeros_1 z, ⟨kJ30_numberOfTrailingZeros_2 z, ⟨kJ30_numberOfTrailingZeros_3 z, ⟨kJ30_numberOfTrailingZeros_4 z, ⟨kJ30_numberOfTrailingZeros_7 z, ⟨kJ30_numberOfTrailingZeros_9 z, ⟨kJ30_numberOfTrailingZeros_10 z, ⟨kJ30_numberOfTrailingZeros_12 z, ⟨kJ30_numberOfTrailingZeros_13 z, ⟨kJ30_numberOfTrailingZeros_14 z, ⟨kJ30_numberOfTrailingZeros_17 z, ⟨kJ30_numberOfTrailingZeros_18 z, ⟨kJ30_numberOfTrailingZeros_21 z, ⟨kJ30_numberOfTrailingZeros_22 z, ⟨kJ30_numberOfTrailingZeros_25 z, trivial⟩⟩⟩⟩⟩⟩⟩⟩⟩⟩⟩⟩⟩⟩⟩⟩) (hd_J30_numberOfTrailingZeros z) rfl rfl (by decide +kernel)
theorem hd_J31_init (z : XKT) : XHd z Y_J31_init := xHd_none rfl (xhd0 rfl)
theorem kJ31_init_0 (z : XKT) : XOi z xInf Y_J31_init 0 (.inl (i_aload 0 1)) := ok_aload_n dJ31_init_0 rfl
theorem kJ31_init_1 (z : XKT) : XOi z xInf Y_J31_init 1 (.inl (i_oinit 4)) := ok_oinit dJ31_init_1 q1597 q179 q180
theorem kJ31_init_4 (z : XKT) : XOi z xInf Y_J31_init 4 (.inr (.inr (.inl r_v))) := show XOkR Y_J31_init 4 (r_v) from okr_v (q := Y_J31_init) rfl dJ31_init_4
theorem o_J31_init (z : XKT) : XMi z xInf Y_J31_init := XMi.mk9 (T := T_J31_init z) rfl (⟨kJ31_init_0 z, ⟨kJ31_init_1 z, ⟨kJ31_init_4 z, trivial⟩⟩⟩) (hd_J31_init z) rfl rfl (by decide +kernel)
