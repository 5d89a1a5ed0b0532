/-! EVERY INSTRUCTION IS THE MODEL'S; printed by tools/okgen.py -/
set_option maxRecDepth 100000
theorem hd_L_law (z : XKT) : XHd z Y_L_law := xHd_none rfl (xhd0 rfl)
theorem kL_law_0 (z : XKT) : XOi z xInf Y_L_law 0 (.inl (i_new 1 8 3)) := ok_new dL_law_0 q173 q174 q125 (List.mem_of_getElem? (l := xCls) (i := 0) rfl) rfl in_X1 tyX1_ok rfl (by decide) (by decide)
theorem kL_law_3 (z : XKT) : XOi z xInf Y_L_law 3 (.inl (i_dup 4)) := ok_dup dL_law_3
theorem kL_law_4 (z : XKT) : XOi z xInf Y_L_law 4 (.inr (.inl (7, g_spec 73 0))) := show XOkC z xInf Y_L_law 4 7 (g_spec 73 0) from okc_I (q := Y_L_law) (q1 := Y_X1_init) Z_X1_init rfl rfl rfl (by decide) dL_law_4 q175 q176 q125 q177 hy_0
theorem kL_law_7 (z : XKT) : XOi z xInf Y_L_law 7 (.inl (i_astore 1 8)) := ok_astore_n dL_law_7 rfl
theorem kL_law_8 (z : XKT) : XOi z xInf Y_L_law 8 (.inl (i_new 4 29 11)) := ok_new dL_law_8 q2472 q2473 q153 (List.mem_of_getElem? (l := xCls) (i := 3) rfl) rfl in_X5 tyX5_ok rfl (by decide) (by decide)
theorem kL_law_11 (z : XKT) : XOi z xInf Y_L_law 11 (.inl (i_dup 12)) := ok_dup dL_law_11
theorem kL_law_12 (z : XKT) : XOi z xInf Y_L_law 12 (.inr (.inl (15, g_spec 227 0))) := show XOkC z xInf Y_L_law 12 15 (g_spec 227 0) from okc_I (q := Y_L_law) (q1 := Y_X5_init) Z_X5_init rfl rfl rfl (by decide) dL_law_12 q2474 q2475 q153 q2476 hy_1
theorem kL_law_15 (z : XKT) : XOi z xInf Y_L_law 15 (.inl (i_astore 2 16)) := ok_astore_n dL_law_15 rfl
theorem kL_law_16 (z : XKT) : XOi z xInf Y_L_law 16 (.inl (i_push (vI 1) 17)) := ok_iconst dL_law_16 rfl
theorem kL_law_17 (z : XKT) : XOi z xInf Y_L_law 17 (.inl (i_naj 1002 19)) := ok_naj dL_law_17 q1205 (List.mem_of_getElem? (l := xArs) (i := 2) rfl) rfl
theorem kL_law_19 (z : XKT) : XOi z xInf Y_L_law 19 (.inl (i_astore 3 20)) := ok_astore_n dL_law_19 rfl
theorem kL_law_20 (z : XKT) : XOi z xInf Y_L_law 20 (.inl (i_push (vI 0) 21)) := ok_iconst dL_law_20 rfl
theorem kL_law_21 (z : XKT) : XOi z xInf Y_L_law 21 (.inl (i_istore 4 23)) := ok_istore dL_law_21
theorem kL_law_23 (z : XKT) : XOi z xInf Y_L_law 23 (.inl (i_iload 4 25)) := ok_iload dL_law_23
theorem kL_law_25 (z : XKT) : XOi z xInf Y_L_law 25 (.inl (i_aload 0 26)) := ok_aload_n dL_law_25 rfl
theorem kL_law_26 (z : XKT) : XOi z xInf Y_L_law 26 (.inl (i_alen 27)) := ok_alen dL_law_26
theorem kL_law_27 (z : XKT) : XOi z xInf Y_L_law 27 (.inl (i_push (vI 6) 29)) := ok_bipush dL_law_27 rfl
theorem kL_law_29 (z : XKT) : XOi z xInf Y_L_law 29 (.inl (i_bin (fun x y => x - y) 30)) := ok_isub dL_law_29
theorem kL_law_30 (z : XKT) : XOi z xInf Y_L_law 30 (.inl (i_icmp (fun x y => y < x) 2729 33)) := ok_icmp_gt dL_law_30 rfl
theorem kL_law_33 (z : XKT) : XOi z xInf Y_L_law 33 (.inl (i_aload 0 34)) := ok_aload_n dL_law_33 rfl
theorem kL_law_34 (z : XKT) : XOi z xInf Y_L_law 34 (.inl (i_iload 4 36)) := ok_iload dL_law_34
theorem kL_law_36 (z : XKT) : XOi z xInf Y_L_law 36 (.inl (i_ald 1000 37)) := ok_iald dL_law_36
theorem kL_law_37 (z : XKT) : XOi z xInf Y_L_law 37 (.inl (i_push (vI 63) 39)) := ok_bipush dL_law_37 rfl
theorem kL_law_39 (z : XKT) : XOi z xInf Y_L_law 39 (.inl (i_bin (fun x y => x &&& y) 40)) := ok_iand dL_law_39
theorem kL_law_40 (z : XKT) : XOi z xInf Y_L_law 40 (.inl (i_swt [(0, 268), (1, 341), (2, 397), (3, 410), (4, 466), (5, 522), (6, 590), (7, 658), (8, 714), (9, 810), (10, 878), (11, 946), (12, 971), (13, 1027), (14, 1040), (15, 1053), (16, 1109), (17, 1150), (18, 1206), (19, 1262), (20, 1318), (21, 1331), (22, 1387), (23, 1455), (24, 1511), (25, 1567), (26, 1623), (27, 1679), (28, 1692), (29, 1705), (30, 1761), (31, 1817), (32, 1873), (33, 1929), (34, 1985), (35, 1998), (36, 2041), (37, 2082), (38, 2150), (39, 2206), (40, 2219), (41, 2299), (42, 2355), (43, 2411), (44, 2467), (45, 2480), (46, 2536), (47, 2592), (48, 2648), (49, 2673), (50, 2686), (51, 2699), (52, 2710)] 2723)) := ok_table dL_law_40 rfl rfl (by decide +kernel)
theorem kL_law_268 (z : XKT) : XOi z xInf Y_L_law 268 (.inl (i_aload 1 269)) := ok_aload_n dL_law_268 rfl
theorem kL_law_269 (z : XKT) : XOi z xInf Y_L_law 269 (.inl (i_aload 0 270)) := ok_aload_n dL_law_269 rfl
theorem kL_law_270 (z : XKT) : XOi z xInf Y_L_law 270 (.inl (i_iload 4 272)) := ok_iload dL_law_270
theorem kL_law_272 (z : XKT) : XOi z xInf Y_L_law 272 (.inl (i_push (vI 1) 273)) := ok_iconst dL_law_272 rfl
theorem kL_law_273 (z : XKT) : XOi z xInf Y_L_law 273 (.inl (i_bin (fun x y => x + y) 274)) := ok_iadd dL_law_273
theorem kL_law_274 (z : XKT) : XOi z xInf Y_L_law 274 (.inl (i_ald 1000 275)) := ok_iald dL_law_274
theorem kL_law_275 (z : XKT) : XOi z xInf Y_L_law 275 (.inl (i_aload 0 276)) := ok_aload_n dL_law_275 rfl
theorem kL_law_276 (z : XKT) : XOi z xInf Y_L_law 276 (.inl (i_iload 4 278)) := ok_iload dL_law_276
theorem kL_law_278 (z : XKT) : XOi z xInf Y_L_law 278 (.inl (i_push (vI 2) 279)) := ok_iconst dL_law_278 rfl
theorem kL_law_279 (z : XKT) : XOi z xInf Y_L_law 279 (.inl (i_bin (fun x y => x + y) 280)) := ok_iadd dL_law_279
theorem kL_law_280 (z : XKT) : XOi z xInf Y_L_law 280 (.inl (i_ald 1000 281)) := ok_iald dL_law_280
theorem kL_law_281 (z : XKT) : XOi z xInf Y_L_law 281 (.inl (i_aload 0 282)) := ok_aload_n dL_law_281 rfl
theorem kL_law_282 (z : XKT) : XOi z xInf Y_L_law 282 (.inl (i_iload 4 284)) := ok_iload dL_law_282
theorem kL_law_284 (z : XKT) : XOi z xInf Y_L_law 284 (.inl (i_push (vI 3) 285)) := ok_iconst dL_law_284 rfl
theorem kL_law_285 (z : XKT) : XOi z xInf Y_L_law 285 (.inl (i_bin (fun x y => x + y) 286)) := ok_iadd dL_law_285
theorem kL_law_286 (z : XKT) : XOi z xInf Y_L_law 286 (.inl (i_ald 1000 287)) := ok_iald dL_law_286
theorem kL_law_287 (z : XKT) : XOi z xInf Y_L_law 287 (.inl (i_aload 0 288)) := ok_aload_n dL_law_287 rfl
theorem kL_law_288 (z : XKT) : XOi z xInf Y_L_law 288 (.inl (i_iload 4 290)) := ok_iload dL_law_288
theorem kL_law_290 (z : XKT) : XOi z xInf Y_L_law 290 (.inl (i_push (vI 4) 291)) := ok_iconst dL_law_290 rfl
theorem kL_law_291 (z : XKT) : XOi z xInf Y_L_law 291 (.inl (i_bin (fun x y => x + y) 292)) := ok_iadd dL_law_291
theorem kL_law_292 (z : XKT) : XOi z xInf Y_L_law 292 (.inl (i_ald 1000 293)) := ok_iald dL_law_292
theorem kL_law_293 (z : XKT) : XOi z xInf Y_L_law 293 (.inl (i_aload 0 294)) := ok_aload_n dL_law_293 rfl
theorem kL_law_294 (z : XKT) : XOi z xInf Y_L_law 294 (.inl (i_iload 4 296)) := ok_iload dL_law_294
theorem kL_law_296 (z : XKT) : XOi z xInf Y_L_law 296 (.inl (i_push (vI 5) 297)) := ok_iconst dL_law_296 rfl
theorem kL_law_297 (z : XKT) : XOi z xInf Y_L_law 297 (.inl (i_bin (fun x y => x + y) 298)) := ok_iadd dL_law_297
theorem kL_law_298 (z : XKT) : XOi z xInf Y_L_law 298 (.inl (i_ald 1000 299)) := ok_iald dL_law_298
theorem kL_law_299 (z : XKT) : XOi z xInf Y_L_law 299 (.inr (.inl (302, g_virt [(1, 60)] 5))) := show XOkC z xInf Y_L_law 299 302 (g_virt [(1, 60)] 5) from okc_V (q := Y_L_law) (List.forall_mem_cons.mpr ⟨(show XOkV z xInf Y_L_law 299 302 5 (1, 60) from okv_V (q := Y_L_law) (q1 := Y_X1_feed) Z_X1_feed rfl (by decide) ⟨by decide, by decide, Or.inl ⟨_, _, (List.mem_of_getElem? (l := xCls) (i := 0) rfl)⟩⟩ dL_law_299 q829 q830 q831 q125 q832 hy_2), (fun _ h => absurd h List.not_mem_nil)⟩)
theorem kL_law_302 (z : XKT) : XOi z xInf Y_L_law 302 (.inl (i_aload 2 303)) := ok_aload_n dL_law_302 rfl
theorem kL_law_303 (z : XKT) : XOi z xInf Y_L_law 303 (.inl (i_aload 0 304)) := ok_aload_n dL_law_303 rfl
theorem kL_law_304 (z : XKT) : XOi z xInf Y_L_law 304 (.inl (i_iload 4 306)) := ok_iload dL_law_304
theorem kL_law_306 (z : XKT) : XOi z xInf Y_L_law 306 (.inl (i_push (vI 1) 307)) := ok_iconst dL_law_306 rfl
theorem kL_law_307 (z : XKT) : XOi z xInf Y_L_law 307 (.inl (i_bin (fun x y => x + y) 308)) := ok_iadd dL_law_307
theorem kL_law_308 (z : XKT) : XOi z xInf Y_L_law 308 (.inl (i_ald 1000 309)) := ok_iald dL_law_308
theorem kL_law_309 (z : XKT) : XOi z xInf Y_L_law 309 (.inl (i_aload 0 310)) := ok_aload_n dL_law_309 rfl
theorem kL_law_310 (z : XKT) : XOi z xInf Y_L_law 310 (.inl (i_iload 4 312)) := ok_iload dL_law_310
theorem kL_law_312 (z : XKT) : XOi z xInf Y_L_law 312 (.inl (i_push (vI 2) 313)) := ok_iconst dL_law_312 rfl
theorem kL_law_313 (z : XKT) : XOi z xInf Y_L_law 313 (.inl (i_bin (fun x y => x + y) 314)) := ok_iadd dL_law_313
theorem kL_law_314 (z : XKT) : XOi z xInf Y_L_law 314 (.inl (i_ald 1000 315)) := ok_iald dL_law_314
theorem kL_law_315 (z : XKT) : XOi z xInf Y_L_law 315 (.inl (i_aload 0 316)) := ok_aload_n dL_law_315 rfl
theorem kL_law_316 (z : XKT) : XOi z xInf Y_L_law 316 (.inl (i_iload 4 318)) := ok_iload dL_law_316
theorem kL_law_318 (z : XKT) : XOi z xInf Y_L_law 318 (.inl (i_push (vI 3) 319)) := ok_iconst dL_law_318 rfl
theorem kL_law_319 (z : XKT) : XOi z xInf Y_L_law 319 (.inl (i_bin (fun x y => x + y) 320)) := ok_iadd dL_law_319
theorem kL_law_320 (z : XKT) : XOi z xInf Y_L_law 320 (.inl (i_ald 1000 321)) := ok_iald dL_law_320
theorem kL_law_321 (z : XKT) : XOi z xInf Y_L_law 321 (.inl (i_aload 0 322)) := ok_aload_n dL_law_321 rfl
theorem kL_law_322 (z : XKT) : XOi z xInf Y_L_law 322 (.inl (i_iload 4 324)) := ok_iload dL_law_322
theorem kL_law_324 (z : XKT) : XOi z xInf Y_L_law 324 (.inl (i_push (vI 4) 325)) := ok_iconst dL_law_324 rfl
theorem kL_law_325 (z : XKT) : XOi z xInf Y_L_law 325 (.inl (i_bin (fun x y => x + y) 326)) := ok_iadd dL_law_325
theorem kL_law_326 (z : XKT) : XOi z xInf Y_L_law 326 (.inl (i_ald 1000 327)) := ok_iald dL_law_326
theorem kL_law_327 (z : XKT) : XOi z xInf Y_L_law 327 (.inl (i_aload 0 328)) := ok_aload_n dL_law_327 rfl
theorem kL_law_328 (z : XKT) : XOi z xInf Y_L_law 328 (.inl (i_iload 4 330)) := ok_iload dL_law_328
theorem kL_law_330 (z : XKT) : XOi z xInf Y_L_law 330 (.inl (i_push (vI 5) 331)) := ok_iconst dL_law_330 rfl
theorem kL_law_331 (z : XKT) : XOi z xInf Y_L_law 331 (.inl (i_bin (fun x y => x + y) 332)) := ok_iadd dL_law_331
theorem kL_law_332 (z : XKT) : XOi z xInf Y_L_law 332 (.inl (i_ald 1000 333)) := ok_iald dL_law_332
theorem kL_law_333 (z : XKT) : XOi z xInf Y_L_law 333 (.inr (.inl (336, g_virt [(4, 214)] 5))) := show XOkC z xInf Y_L_law 333 336 (g_virt [(4, 214)] 5) from okc_V (q := Y_L_law) (List.forall_mem_cons.mpr ⟨(show XOkV z xInf Y_L_law 333 336 5 (4, 214) from okv_V (q := Y_L_law) (q1 := Y_X5_feed) Z_X5_feed rfl (by decide) ⟨by decide, by decide, Or.inl ⟨_, _, (List.mem_of_getElem? (l := xCls) (i := 3) rfl)⟩⟩ dL_law_333 q3030 q3031 q3032 q153 q3033 hy_3), (fun _ h => absurd h List.not_mem_nil)⟩)
theorem kL_law_336 (z : XKT) : XOi z xInf Y_L_law 336 (.inl (i_icmp (fun x y => x = y) 2723 339)) := ok_icmp_eq dL_law_336 rfl
theorem kL_law_339 (z : XKT) : XOi z xInf Y_L_law 339 (.inl (i_push (vI 0) 340)) := ok_iconst dL_law_339 rfl
theorem kL_law_340 (z : XKT) : XOi z xInf Y_L_law 340 (.inr (.inr (.inl (r_i .boolean)))) := show XOkR Y_L_law 340 ((r_i .boolean)) from okr_i (q := Y_L_law) (ty := .boolean) rfl rfl dL_law_340
theorem kL_law_341 (z : XKT) : XOi z xInf Y_L_law 341 (.inl (i_aload 1 342)) := ok_aload_n dL_law_341 rfl
theorem kL_law_342 (z : XKT) : XOi z xInf Y_L_law 342 (.inl (i_aload 0 343)) := ok_aload_n dL_law_342 rfl
theorem kL_law_343 (z : XKT) : XOi z xInf Y_L_law 343 (.inl (i_iload 4 345)) := ok_iload dL_law_343
theorem kL_law_345 (z : XKT) : XOi z xInf Y_L_law 345 (.inl (i_push (vI 1) 346)) := ok_iconst dL_law_345 rfl
theorem kL_law_346 (z : XKT) : XOi z xInf Y_L_law 346 (.inl (i_bin (fun x y => x + y) 347)) := ok_iadd dL_law_346
theorem kL_law_347 (z : XKT) : XOi z xInf Y_L_law 347 (.inl (i_ald 1000 348)) := ok_iald dL_law_347
theorem kL_law_348 (z : XKT) : XOi z xInf Y_L_law 348 (.inl (i_aload 3 349)) := ok_aload_n dL_law_348 rfl
theorem kL_law_349 (z : XKT) : XOi z xInf Y_L_law 349 (.inr (.inl (352, g_stat 18 3))) := show XOkC z xInf Y_L_law 349 352 (g_stat 18 3) from okc_SX (q := Y_L_law) (q1 := Y_X0_load) Z_X0_load rfl (by decide) dL_law_349 q1747 q1748 q124 q1749 hy_4
theorem kL_law_352 (z : XKT) : XOi z xInf Y_L_law 352 (.inl (i_istore 5 354)) := ok_istore dL_law_352
theorem kL_law_354 (z : XKT) : XOi z xInf Y_L_law 354 (.inl (i_aload 2 355)) := ok_aload_n dL_law_354 rfl
theorem kL_law_355 (z : XKT) : XOi z xInf Y_L_law 355 (.inl (i_aload 0 356)) := ok_aload_n dL_law_355 rfl
theorem kL_law_356 (z : XKT) : XOi z xInf Y_L_law 356 (.inl (i_iload 4 358)) := ok_iload dL_law_356
theorem kL_law_358 (z : XKT) : XOi z xInf Y_L_law 358 (.inl (i_push (vI 1) 359)) := ok_iconst dL_law_358 rfl
theorem kL_law_359 (z : XKT) : XOi z xInf Y_L_law 359 (.inl (i_bin (fun x y => x + y) 360)) := ok_iadd dL_law_359
theorem kL_law_360 (z : XKT) : XOi z xInf Y_L_law 360 (.inl (i_ald 1000 361)) := ok_iald dL_law_360
theorem kL_law_361 (z : XKT) : XOi z xInf Y_L_law 361 (.inr (.inl (364, g_virt [(4, 246)] 1))) := show XOkC z xInf Y_L_law 361 364 (g_virt [(4, 246)] 1) from okc_V (q := Y_L_law) (List.forall_mem_cons.mpr ⟨(show XOkV z xInf Y_L_law 361 364 1 (4, 246) from okv_V (q := Y_L_law) (q1 := Y_X5_load) Z_X5_load rfl (by decide) ⟨by decide, by decide, Or.inl ⟨_, _, (List.mem_of_getElem? (l := xCls) (i := 3) rfl)⟩⟩ dL_law_361 q3038 q3039 q3040 q153 q3041 hy_5), (fun _ h => absurd h List.not_mem_nil)⟩)
theorem kL_law_364 (z : XKT) : XOi z xInf Y_L_law 364 (.inl (i_istore 6 366)) := ok_istore dL_law_364
theorem kL_law_366 (z : XKT) : XOi z xInf Y_L_law 366 (.inl (i_aload 2 367)) := ok_aload_n dL_law_366 rfl
theorem kL_law_367 (z : XKT) : XOi z xInf Y_L_law 367 (.inr (.inl (370, g_virt [(4, 292)] 0))) := show XOkC z xInf Y_L_law 367 370 (g_virt [(4, 292)] 0) from okc_V (q := Y_L_law) (List.forall_mem_cons.mpr ⟨(show XOkV z xInf Y_L_law 367 370 0 (4, 292) from okv_V (q := Y_L_law) (q1 := Y_X5_thrown) Z_X5_thrown rfl (by decide) ⟨by decide, by decide, Or.inl ⟨_, _, (List.mem_of_getElem? (l := xCls) (i := 3) rfl)⟩⟩ dL_law_367 q2595 q2596 q2597 q153 q2598 hy_6), (fun _ h => absurd h List.not_mem_nil)⟩)
theorem kL_law_370 (z : XKT) : XOi z xInf Y_L_law 370 (.inl (i_iload 5 372)) := ok_iload dL_law_370
theorem kL_law_372 (z : XKT) : XOi z xInf Y_L_law 372 (.inl (i_icmp (fun x y => x = y) 377 375)) := ok_icmp_eq dL_law_372 rfl
theorem kL_law_375 (z : XKT) : XOi z xInf Y_L_law 375 (.inl (i_push (vI 0) 376)) := ok_iconst dL_law_375 rfl
theorem kL_law_376 (z : XKT) : XOi z xInf Y_L_law 376 (.inr (.inr (.inl (r_i .boolean)))) := show XOkR Y_L_law 376 ((r_i .boolean)) from okr_i (q := Y_L_law) (ty := .boolean) rfl rfl dL_law_376
theorem kL_law_377 (z : XKT) : XOi z xInf Y_L_law 377 (.inl (i_iload 5 379)) := ok_iload dL_law_377
theorem kL_law_379 (z : XKT) : XOi z xInf Y_L_law 379 (.inl (i_if (fun x => ¬ x = 0) 394 382)) := ok_if_ne dL_law_379 rfl
theorem kL_law_382 (z : XKT) : XOi z xInf Y_L_law 382 (.inl (i_aload 3 383)) := ok_aload_n dL_law_382 rfl
theorem kL_law_383 (z : XKT) : XOi z xInf Y_L_law 383 (.inl (i_push (vI 0) 384)) := ok_iconst dL_law_383 rfl
theorem kL_law_384 (z : XKT) : XOi z xInf Y_L_law 384 (.inl (i_ajld 1002 385)) := ok_lald dL_law_384
theorem kL_law_385 (z : XKT) : XOi z xInf Y_L_law 385 (.inl (i_iload 6 387)) := ok_iload dL_law_385
theorem kL_law_387 (z : XKT) : XOi z xInf Y_L_law 387 (.inl (i_i2l 388)) := ok_i2l dL_law_387
theorem kL_law_388 (z : XKT) : XOi z xInf Y_L_law 388 (.inl (i_lcmp 389)) := ok_lcmp dL_law_388
theorem kL_law_389 (z : XKT) : XOi z xInf Y_L_law 389 (.inl (i_if (fun x => x = 0) 394 392)) := ok_if_eq dL_law_389 rfl
theorem kL_law_392 (z : XKT) : XOi z xInf Y_L_law 392 (.inl (i_push (vI 0) 393)) := ok_iconst dL_law_392 rfl
theorem kL_law_393 (z : XKT) : XOi z xInf Y_L_law 393 (.inr (.inr (.inl (r_i .boolean)))) := show XOkR Y_L_law 393 ((r_i .boolean)) from okr_i (q := Y_L_law) (ty := .boolean) rfl rfl dL_law_393
theorem kL_law_394 (z : XKT) : XOi z xInf Y_L_law 394 (.inl (i_goto 2723)) := ok_goto dL_law_394 rfl
theorem kL_law_397 (z : XKT) : XOi z xInf Y_L_law 397 (.inl (i_aload 1 398)) := ok_aload_n dL_law_397 rfl
theorem kL_law_398 (z : XKT) : XOi z xInf Y_L_law 398 (.inr (.inl (401, g_virt [(1, 58)] 0))) := show XOkC z xInf Y_L_law 398 401 (g_virt [(1, 58)] 0) from okc_V (q := Y_L_law) (List.forall_mem_cons.mpr ⟨(show XOkV z xInf Y_L_law 398 401 0 (1, 58) from okv_V (q := Y_L_law) (q1 := Y_X1_errorPosition) Z_X1_errorPosition rfl (by decide) ⟨by decide, by decide, Or.inl ⟨_, _, (List.mem_of_getElem? (l := xCls) (i := 0) rfl)⟩⟩ dL_law_398 q837 q838 q839 q125 q840 hy_7), (fun _ h => absurd h List.not_mem_nil)⟩)
theorem kL_law_401 (z : XKT) : XOi z xInf Y_L_law 401 (.inl (i_aload 2 402)) := ok_aload_n dL_law_401 rfl
theorem kL_law_402 (z : XKT) : XOi z xInf Y_L_law 402 (.inr (.inl (405, g_virt [(4, 212)] 0))) := show XOkC z xInf Y_L_law 402 405 (g_virt [(4, 212)] 0) from okc_V (q := Y_L_law) (List.forall_mem_cons.mpr ⟨(show XOkV z xInf Y_L_law 402 405 0 (4, 212) from okv_V (q := Y_L_law) (q1 := Y_X5_errorPosition) Z_X5_errorPosition rfl (by decide) ⟨by decide, by decide, Or.inl ⟨_, _, (List.mem_of_getElem? (l := xCls) (i := 3) rfl)⟩⟩ dL_law_402 q3034 q3035 q3036 q153 q3037 hy_8), (fun _ h => absurd h List.not_mem_nil)⟩)
theorem kL_law_405 (z : XKT) : XOi z xInf Y_L_law 405 (.inl (i_icmp (fun x y => x = y) 2723 408)) := ok_icmp_eq dL_law_405 rfl
theorem kL_law_408 (z : XKT) : XOi z xInf Y_L_law 408 (.inl (i_push (vI 0) 409)) := ok_iconst dL_law_408 rfl
theorem kL_law_409 (z : XKT) : XOi z xInf Y_L_law 409 (.inr (.inr (.inl (r_i .boolean)))) := show XOkR Y_L_law 409 ((r_i .boolean)) from okr_i (q := Y_L_law) (ty := .boolean) rfl rfl dL_law_409
theorem kL_law_410 (z : XKT) : XOi z xInf Y_L_law 410 (.inl (i_aload 1 411)) := ok_aload_n dL_law_410 rfl
theorem kL_law_411 (z : XKT) : XOi z xInf Y_L_law 411 (.inl (i_aload 0 412)) := ok_aload_n dL_law_411 rfl
theorem kL_law_412 (z : XKT) : XOi z xInf Y_L_law 412 (.inl (i_iload 4 414)) := ok_iload dL_law_412
theorem kL_law_414 (z : XKT) : XOi z xInf Y_L_law 414 (.inl (i_push (vI 1) 415)) := ok_iconst dL_law_414 rfl
theorem kL_law_415 (z : XKT) : XOi z xInf Y_L_law 415 (.inl (i_bin (fun x y => x + y) 416)) := ok_iadd dL_law_415
theorem kL_law_416 (z : XKT) : XOi z xInf Y_L_law 416 (.inl (i_ald 1000 417)) := ok_iald dL_law_416
theorem kL_law_417 (z : XKT) : XOi z xInf Y_L_law 417 (.inl (i_aload 3 418)) := ok_aload_n dL_law_417 rfl
theorem kL_law_418 (z : XKT) : XOi z xInf Y_L_law 418 (.inr (.inl (421, g_stat 30 3))) := show XOkC z xInf Y_L_law 418 421 (g_stat 30 3) from okc_SX (q := Y_L_law) (q1 := Y_X0_size) Z_X0_size rfl (by decide) dL_law_418 q2010 q2011 q124 q2012 hy_9
theorem kL_law_421 (z : XKT) : XOi z xInf Y_L_law 421 (.inl (i_istore 5 423)) := ok_istore dL_law_421
theorem kL_law_423 (z : XKT) : XOi z xInf Y_L_law 423 (.inl (i_aload 2 424)) := ok_aload_n dL_law_423 rfl
theorem kL_law_424 (z : XKT) : XOi z xInf Y_L_law 424 (.inl (i_aload 0 425)) := ok_aload_n dL_law_424 rfl
theorem kL_law_425 (z : XKT) : XOi z xInf Y_L_law 425 (.inl (i_iload 4 427)) := ok_iload dL_law_425
theorem kL_law_427 (z : XKT) : XOi z xInf Y_L_law 427 (.inl (i_push (vI 1) 428)) := ok_iconst dL_law_427 rfl
theorem kL_law_428 (z : XKT) : XOi z xInf Y_L_law 428 (.inl (i_bin (fun x y => x + y) 429)) := ok_iadd dL_law_428
theorem kL_law_429 (z : XKT) : XOi z xInf Y_L_law 429 (.inl (i_ald 1000 430)) := ok_iald dL_law_429
theorem kL_law_430 (z : XKT) : XOi z xInf Y_L_law 430 (.inr (.inl (433, g_virt [(4, 288)] 1))) := show XOkC z xInf Y_L_law 430 433 (g_virt [(4, 288)] 1) from okc_V (q := Y_L_law) (List.forall_mem_cons.mpr ⟨(show XOkV z xInf Y_L_law 430 433 1 (4, 288) from okv_V (q := Y_L_law) (q1 := Y_X5_size) Z_X5_size rfl (by decide) ⟨by decide, by decide, Or.inl ⟨_, _, (List.mem_of_getElem? (l := xCls) (i := 3) rfl)⟩⟩ dL_law_430 q2599 q2600 q2601 q153 q2602 hy_10), (fun _ h => absurd h List.not_mem_nil)⟩)
theorem kL_law_433 (z : XKT) : XOi z xInf Y_L_law 433 (.inl (i_istore 6 435)) := ok_istore dL_law_433
theorem kL_law_435 (z : XKT) : XOi z xInf Y_L_law 435 (.inl (i_aload 2 436)) := ok_aload_n dL_law_435 rfl
theorem kL_law_436 (z : XKT) : XOi z xInf Y_L_law 436 (.inr (.inl (439, g_virt [(4, 292)] 0))) := show XOkC z xInf Y_L_law 436 439 (g_virt [(4, 292)] 0) from okc_V (q := Y_L_law) (List.forall_mem_cons.mpr ⟨(show XOkV z xInf Y_L_law 436 439 0 (4, 292) from okv_V (q := Y_L_law) (q1 := Y_X5_thrown) Z_X5_thrown rfl (by decide) ⟨by decide, by decide, Or.inl ⟨_, _, (List.mem_of_getElem? (l := xCls) (i := 3) rfl)⟩⟩ dL_law_436 q2595 q2596 q2597 q153 q2598 hy_6), (fun _ h => absurd h List.not_mem_nil)⟩)
theorem kL_law_439 (z : XKT) : XOi z xInf Y_L_law 439 (.inl (i_iload 5 441)) := ok_iload dL_law_439
theorem kL_law_441 (z : XKT) : XOi z xInf Y_L_law 441 (.inl (i_icmp (fun x y => x = y) 446 444)) := ok_icmp_eq dL_law_441 rfl
theorem kL_law_444 (z : XKT) : XOi z xInf Y_L_law 444 (.inl (i_push (vI 0) 445)) := ok_iconst dL_law_444 rfl
theorem kL_law_445 (z : XKT) : XOi z xInf Y_L_law 445 (.inr (.inr (.inl (r_i .boolean)))) := show XOkR Y_L_law 445 ((r_i .boolean)) from okr_i (q := Y_L_law) (ty := .boolean) rfl rfl dL_law_445
theorem kL_law_446 (z : XKT) : XOi z xInf Y_L_law 446 (.inl (i_iload 5 448)) := ok_iload dL_law_446
theorem kL_law_448 (z : XKT) : XOi z xInf Y_L_law 448 (.inl (i_if (fun x => ¬ x = 0) 463 451)) := ok_if_ne dL_law_448 rfl
theorem kL_law_451 (z : XKT) : XOi z xInf Y_L_law 451 (.inl (i_aload 3 452)) := ok_aload_n dL_law_451 rfl
theorem kL_law_452 (z : XKT) : XOi z xInf Y_L_law 452 (.inl (i_push (vI 0) 453)) := ok_iconst dL_law_452 rfl
theorem kL_law_453 (z : XKT) : XOi z xInf Y_L_law 453 (.inl (i_ajld 1002 454)) := ok_lald dL_law_453
theorem kL_law_454 (z : XKT) : XOi z xInf Y_L_law 454 (.inl (i_iload 6 456)) := ok_iload dL_law_454
theorem kL_law_456 (z : XKT) : XOi z xInf Y_L_law 456 (.inl (i_i2l 457)) := ok_i2l dL_law_456
theorem kL_law_457 (z : XKT) : XOi z xInf Y_L_law 457 (.inl (i_lcmp 458)) := ok_lcmp dL_law_457
theorem kL_law_458 (z : XKT) : XOi z xInf Y_L_law 458 (.inl (i_if (fun x => x = 0) 463 461)) := ok_if_eq dL_law_458 rfl
theorem kL_law_461 (z : XKT) : XOi z xInf Y_L_law 461 (.inl (i_push (vI 0) 462)) := ok_iconst dL_law_461 rfl
theorem kL_law_462 (z : XKT) : XOi z xInf Y_L_law 462 (.inr (.inr (.inl (r_i .boolean)))) := show XOkR Y_L_law 462 ((r_i .boolean)) from okr_i (q := Y_L_law) (ty := .boolean) rfl rfl dL_law_462
theorem kL_law_463 (z : XKT) : XOi z xInf Y_L_law 463 (.inl (i_goto 2723)) := ok_goto dL_law_463 rfl
theorem kL_law_466 (z : XKT) : XOi z xInf Y_L_law 466 (.inl (i_aload 1 467)) := ok_aload_n dL_law_466 rfl
theorem kL_law_467 (z : XKT) : XOi z xInf Y_L_law 467 (.inl (i_aload 0 468)) := ok_aload_n dL_law_467 rfl
theorem kL_law_468 (z : XKT) : XOi z xInf Y_L_law 468 (.inl (i_iload 4 470)) := ok_iload dL_law_468
theorem kL_law_470 (z : XKT) : XOi z xInf Y_L_law 470 (.inl (i_push (vI 1) 471)) := ok_iconst dL_law_470 rfl
theorem kL_law_471 (z : XKT) : XOi z xInf Y_L_law 471 (.inl (i_bin (fun x y => x + y) 472)) := ok_iadd dL_law_471
theorem kL_law_472 (z : XKT) : XOi z xInf Y_L_law 472 (.inl (i_ald 1000 473)) := ok_iald dL_law_472
theorem kL_law_473 (z : XKT) : XOi z xInf Y_L_law 473 (.inl (i_aload 3 474)) := ok_aload_n dL_law_473 rfl
theorem kL_law_474 (z : XKT) : XOi z xInf Y_L_law 474 (.inr (.inl (477, g_stat 1 3))) := show XOkC z xInf Y_L_law 474 477 (g_stat 1 3) from okc_SX (q := Y_L_law) (q1 := Y_X0_account) Z_X0_account rfl (by decide) dL_law_474 q2026 q2027 q124 q2028 hy_11
theorem kL_law_477 (z : XKT) : XOi z xInf Y_L_law 477 (.inl (i_istore 5 479)) := ok_istore dL_law_477
theorem kL_law_479 (z : XKT) : XOi z xInf Y_L_law 479 (.inl (i_aload 2 480)) := ok_aload_n dL_law_479 rfl
theorem kL_law_480 (z : XKT) : XOi z xInf Y_L_law 480 (.inl (i_aload 0 481)) := ok_aload_n dL_law_480 rfl
theorem kL_law_481 (z : XKT) : XOi z xInf Y_L_law 481 (.inl (i_iload 4 483)) := ok_iload dL_law_481
theorem kL_law_483 (z : XKT) : XOi z xInf Y_L_law 483 (.inl (i_push (vI 1) 484)) := ok_iconst dL_law_483 rfl
theorem kL_law_484 (z : XKT) : XOi z xInf Y_L_law 484 (.inl (i_bin (fun x y => x + y) 485)) := ok_iadd dL_law_484
theorem kL_law_485 (z : XKT) : XOi z xInf Y_L_law 485 (.inl (i_ald 1000 486)) := ok_iald dL_law_485
theorem kL_law_486 (z : XKT) : XOi z xInf Y_L_law 486 (.inr (.inl (489, g_virt [(4, 168)] 1))) := show XOkC z xInf Y_L_law 486 489 (g_virt [(4, 168)] 1) from okc_V (q := Y_L_law) (List.forall_mem_cons.mpr ⟨(show XOkV z xInf Y_L_law 486 489 1 (4, 168) from okv_V (q := Y_L_law) (q1 := Y_X5_account) Z_X5_account rfl (by decide) ⟨by decide, by decide, Or.inl ⟨_, _, (List.mem_of_getElem? (l := xCls) (i := 3) rfl)⟩⟩ dL_law_486 q2642 q2643 q2644 q153 q2645 hy_12), (fun _ h => absurd h List.not_mem_nil)⟩)
theorem kL_law_489 (z : XKT) : XOi z xInf Y_L_law 489 (.inl (i_istore 6 491)) := ok_istore dL_law_489
theorem kL_law_491 (z : XKT) : XOi z xInf Y_L_law 491 (.inl (i_aload 2 492)) := ok_aload_n dL_law_491 rfl
theorem kL_law_492 (z : XKT) : XOi z xInf Y_L_law 492 (.inr (.inl (495, g_virt [(4, 292)] 0))) := show XOkC z xInf Y_L_law 492 495 (g_virt [(4, 292)] 0) from okc_V (q := Y_L_law) (List.forall_mem_cons.mpr ⟨(show XOkV z xInf Y_L_law 492 495 0 (4, 292) from okv_V (q := Y_L_law) (q1 := Y_X5_thrown) Z_X5_thrown rfl (by decide) ⟨by decide, by decide, Or.inl ⟨_, _, (List.mem_of_getElem? (l := xCls) (i := 3) rfl)⟩⟩ dL_law_492 q2595 q2596 q2597 q153 q2598 hy_6), (fun _ h => absurd h List.not_mem_nil)⟩)
theorem kL_law_495 (z : XKT) : XOi z xInf Y_L_law 495 (.inl (i_iload 5 497)) := ok_iload dL_law_495
theorem kL_law_497 (z : XKT) : XOi z xInf Y_L_law 497 (.inl (i_icmp (fun x y => x = y) 502 500)) := ok_icmp_eq dL_law_497 rfl
theorem kL_law_500 (z : XKT) : XOi z xInf Y_L_law 500 (.inl (i_push (vI 0) 501)) := ok_iconst dL_law_500 rfl
theorem kL_law_501 (z : XKT) : XOi z xInf Y_L_law 501 (.inr (.inr (.inl (r_i .boolean)))) := show XOkR Y_L_law 501 ((r_i .boolean)) from okr_i (q := Y_L_law) (ty := .boolean) rfl rfl dL_law_501
theorem kL_law_502 (z : XKT) : XOi z xInf Y_L_law 502 (.inl (i_iload 5 504)) := ok_iload dL_law_502
theorem kL_law_504 (z : XKT) : XOi z xInf Y_L_law 504 (.inl (i_if (fun x => ¬ x = 0) 519 507)) := ok_if_ne dL_law_504 rfl
theorem kL_law_507 (z : XKT) : XOi z xInf Y_L_law 507 (.inl (i_aload 3 508)) := ok_aload_n dL_law_507 rfl
theorem kL_law_508 (z : XKT) : XOi z xInf Y_L_law 508 (.inl (i_push (vI 0) 509)) := ok_iconst dL_law_508 rfl
theorem kL_law_509 (z : XKT) : XOi z xInf Y_L_law 509 (.inl (i_ajld 1002 510)) := ok_lald dL_law_509
theorem kL_law_510 (z : XKT) : XOi z xInf Y_L_law 510 (.inl (i_iload 6 512)) := ok_iload dL_law_510
theorem kL_law_512 (z : XKT) : XOi z xInf Y_L_law 512 (.inl (i_i2l 513)) := ok_i2l dL_law_512
theorem kL_law_513 (z : XKT) : XOi z xInf Y_L_law 513 (.inl (i_lcmp 514)) := ok_lcmp dL_law_513
theorem kL_law_514 (z : XKT) : XOi z xInf Y_L_law 514 (.inl (i_if (fun x => x = 0) 519 517)) := ok_if_eq dL_law_514 rfl
theorem kL_law_517 (z : XKT) : XOi z xInf Y_L_law 517 (.inl (i_push (vI 0) 518)) := ok_iconst dL_law_517 rfl
theorem kL_law_518 (z : XKT) : XOi z xInf Y_L_law 518 (.inr (.inr (.inl (r_i .boolean)))) := show XOkR Y_L_law 518 ((r_i .boolean)) from okr_i (q := Y_L_law) (ty := .boolean) rfl rfl dL_law_518
theorem kL_law_519 (z : XKT) : XOi z xInf Y_L_law 519 (.inl (i_goto 2723)) := ok_goto dL_law_519 rfl
theorem kL_law_522 (z : XKT) : XOi z xInf Y_L_law 522 (.inl (i_aload 1 523)) := ok_aload_n dL_law_522 rfl
theorem kL_law_523 (z : XKT) : XOi z xInf Y_L_law 523 (.inl (i_aload 0 524)) := ok_aload_n dL_law_523 rfl
theorem kL_law_524 (z : XKT) : XOi z xInf Y_L_law 524 (.inl (i_iload 4 526)) := ok_iload dL_law_524
theorem kL_law_526 (z : XKT) : XOi z xInf Y_L_law 526 (.inl (i_push (vI 1) 527)) := ok_iconst dL_law_526 rfl
theorem kL_law_527 (z : XKT) : XOi z xInf Y_L_law 527 (.inl (i_bin (fun x y => x + y) 528)) := ok_iadd dL_law_527
theorem kL_law_528 (z : XKT) : XOi z xInf Y_L_law 528 (.inl (i_ald 1000 529)) := ok_iald dL_law_528
theorem kL_law_529 (z : XKT) : XOi z xInf Y_L_law 529 (.inl (i_aload 0 530)) := ok_aload_n dL_law_529 rfl
theorem kL_law_530 (z : XKT) : XOi z xInf Y_L_law 530 (.inl (i_iload 4 532)) := ok_iload dL_law_530
theorem kL_law_532 (z : XKT) : XOi z xInf Y_L_law 532 (.inl (i_push (vI 2) 533)) := ok_iconst dL_law_532 rfl
theorem kL_law_533 (z : XKT) : XOi z xInf Y_L_law 533 (.inl (i_bin (fun x y => x + y) 534)) := ok_iadd dL_law_533
theorem kL_law_534 (z : XKT) : XOi z xInf Y_L_law 534 (.inl (i_ald 1000 535)) := ok_iald dL_law_534
theorem kL_law_535 (z : XKT) : XOi z xInf Y_L_law 535 (.inl (i_aload 3 536)) := ok_aload_n dL_law_535 rfl
theorem kL_law_536 (z : XKT) : XOi z xInf Y_L_law 536 (.inr (.inl (539, g_stat 14 4))) := show XOkC z xInf Y_L_law 536 539 (g_stat 14 4) from okc_SX (q := Y_L_law) (q1 := Y_X0_good) Z_X0_good rfl (by decide) dL_law_536 q2033 q2034 q124 q2035 hy_13
theorem kL_law_539 (z : XKT) : XOi z xInf Y_L_law 539 (.inl (i_istore 5 541)) := ok_istore dL_law_539
theorem kL_law_541 (z : XKT) : XOi z xInf Y_L_law 541 (.inl (i_aload 2 542)) := ok_aload_n dL_law_541 rfl
theorem kL_law_542 (z : XKT) : XOi z xInf Y_L_law 542 (.inl (i_aload 0 543)) := ok_aload_n dL_law_542 rfl
theorem kL_law_543 (z : XKT) : XOi z xInf Y_L_law 543 (.inl (i_iload 4 545)) := ok_iload dL_law_543
theorem kL_law_545 (z : XKT) : XOi z xInf Y_L_law 545 (.inl (i_push (vI 1) 546)) := ok_iconst dL_law_545 rfl
theorem kL_law_546 (z : XKT) : XOi z xInf Y_L_law 546 (.inl (i_bin (fun x y => x + y) 547)) := ok_iadd dL_law_546
theorem kL_law_547 (z : XKT) : XOi z xInf Y_L_law 547 (.inl (i_ald 1000 548)) := ok_iald dL_law_547
theorem kL_law_548 (z : XKT) : XOi z xInf Y_L_law 548 (.inl (i_aload 0 549)) := ok_aload_n dL_law_548 rfl
theorem kL_law_549 (z : XKT) : XOi z xInf Y_L_law 549 (.inl (i_iload 4 551)) := ok_iload dL_law_549
theorem kL_law_551 (z : XKT) : XOi z xInf Y_L_law 551 (.inl (i_push (vI 2) 552)) := ok_iconst dL_law_551 rfl
theorem kL_law_552 (z : XKT) : XOi z xInf Y_L_law 552 (.inl (i_bin (fun x y => x + y) 553)) := ok_iadd dL_law_552
theorem kL_law_553 (z : XKT) : XOi z xInf Y_L_law 553 (.inl (i_ald 1000 554)) := ok_iald dL_law_553
theorem kL_law_554 (z : XKT) : XOi z xInf Y_L_law 554 (.inr (.inl (557, g_virt [(4, 221)] 2))) := show XOkC z xInf Y_L_law 554 557 (g_virt [(4, 221)] 2) from okc_V (q := Y_L_law) (List.forall_mem_cons.mpr ⟨(show XOkV z xInf Y_L_law 554 557 2 (4, 221) from okv_V (q := Y_L_law) (q1 := Y_X5_good) Z_X5_good rfl (by decide) ⟨by decide, by decide, Or.inl ⟨_, _, (List.mem_of_getElem? (l := xCls) (i := 3) rfl)⟩⟩ dL_law_554 q2650 q2651 q2652 q153 q2653 hy_14), (fun _ h => absurd h List.not_mem_nil)⟩)
theorem kL_law_557 (z : XKT) : XOi z xInf Y_L_law 557 (.inl (i_istore 6 559)) := ok_istore dL_law_557
theorem kL_law_559 (z : XKT) : XOi z xInf Y_L_law 559 (.inl (i_aload 2 560)) := ok_aload_n dL_law_559 rfl
theorem kL_law_560 (z : XKT) : XOi z xInf Y_L_law 560 (.inr (.inl (563, g_virt [(4, 292)] 0))) := show XOkC z xInf Y_L_law 560 563 (g_virt [(4, 292)] 0) from okc_V (q := Y_L_law) (List.forall_mem_cons.mpr ⟨(show XOkV z xInf Y_L_law 560 563 0 (4, 292) from okv_V (q := Y_L_law) (q1 := Y_X5_thrown) Z_X5_thrown rfl (by decide) ⟨by decide, by decide, Or.inl ⟨_, _, (List.mem_of_getElem? (l := xCls) (i := 3) rfl)⟩⟩ dL_law_560 q2595 q2596 q2597 q153 q2598 hy_6), (fun _ h => absurd h List.not_mem_nil)⟩)
theorem kL_law_563 (z : XKT) : XOi z xInf Y_L_law 563 (.inl (i_iload 5 565)) := ok_iload dL_law_563
theorem kL_law_565 (z : XKT) : XOi z xInf Y_L_law 565 (.inl (i_icmp (fun x y => x = y) 570 568)) := ok_icmp_eq dL_law_565 rfl
theorem kL_law_568 (z : XKT) : XOi z xInf Y_L_law 568 (.inl (i_push (vI 0) 569)) := ok_iconst dL_law_568 rfl
theorem kL_law_569 (z : XKT) : XOi z xInf Y_L_law 569 (.inr (.inr (.inl (r_i .boolean)))) := show XOkR Y_L_law 569 ((r_i .boolean)) from okr_i (q := Y_L_law) (ty := .boolean) rfl rfl dL_law_569
theorem kL_law_570 (z : XKT) : XOi z xInf Y_L_law 570 (.inl (i_iload 5 572)) := ok_iload dL_law_570
theorem kL_law_572 (z : XKT) : XOi z xInf Y_L_law 572 (.inl (i_if (fun x => ¬ x = 0) 587 575)) := ok_if_ne dL_law_572 rfl
theorem kL_law_575 (z : XKT) : XOi z xInf Y_L_law 575 (.inl (i_aload 3 576)) := ok_aload_n dL_law_575 rfl
theorem kL_law_576 (z : XKT) : XOi z xInf Y_L_law 576 (.inl (i_push (vI 0) 577)) := ok_iconst dL_law_576 rfl
theorem kL_law_577 (z : XKT) : XOi z xInf Y_L_law 577 (.inl (i_ajld 1002 578)) := ok_lald dL_law_577
theorem kL_law_578 (z : XKT) : XOi z xInf Y_L_law 578 (.inl (i_iload 6 580)) := ok_iload dL_law_578
theorem kL_law_580 (z : XKT) : XOi z xInf Y_L_law 580 (.inl (i_i2l 581)) := ok_i2l dL_law_580
theorem kL_law_581 (z : XKT) : XOi z xInf Y_L_law 581 (.inl (i_lcmp 582)) := ok_lcmp dL_law_581
theorem kL_law_582 (z : XKT) : XOi z xInf Y_L_law 582 (.inl (i_if (fun x => x = 0) 587 585)) := ok_if_eq dL_law_582 rfl
theorem kL_law_585 (z : XKT) : XOi z xInf Y_L_law 585 (.inl (i_push (vI 0) 586)) := ok_iconst dL_law_585 rfl
theorem kL_law_586 (z : XKT) : XOi z xInf Y_L_law 586 (.inr (.inr (.inl (r_i .boolean)))) := show XOkR Y_L_law 586 ((r_i .boolean)) from okr_i (q := Y_L_law) (ty := .boolean) rfl rfl dL_law_586
theorem kL_law_587 (z : XKT) : XOi z xInf Y_L_law 587 (.inl (i_goto 2723)) := ok_goto dL_law_587 rfl
theorem kL_law_590 (z : XKT) : XOi z xInf Y_L_law 590 (.inl (i_aload 1 591)) := ok_aload_n dL_law_590 rfl
theorem kL_law_591 (z : XKT) : XOi z xInf Y_L_law 591 (.inl (i_aload 0 592)) := ok_aload_n dL_law_591 rfl
theorem kL_law_592 (z : XKT) : XOi z xInf Y_L_law 592 (.inl (i_iload 4 594)) := ok_iload dL_law_592
theorem kL_law_594 (z : XKT) : XOi z xInf Y_L_law 594 (.inl (i_push (vI 1) 595)) := ok_iconst dL_law_594 rfl
theorem kL_law_595 (z : XKT) : XOi z xInf Y_L_law 595 (.inl (i_bin (fun x y => x + y) 596)) := ok_iadd dL_law_595
theorem kL_law_596 (z : XKT) : XOi z xInf Y_L_law 596 (.inl (i_ald 1000 597)) := ok_iald dL_law_596
theorem kL_law_597 (z : XKT) : XOi z xInf Y_L_law 597 (.inl (i_aload 0 598)) := ok_aload_n dL_law_597 rfl
theorem kL_law_598 (z : XKT) : XOi z xInf Y_L_law 598 (.inl (i_iload 4 600)) := ok_iload dL_law_598
theorem kL_law_600 (z : XKT) : XOi z xInf Y_L_law 600 (.inl (i_push (vI 2) 601)) := ok_iconst dL_law_600 rfl
theorem kL_law_601 (z : XKT) : XOi z xInf Y_L_law 601 (.inl (i_bin (fun x y => x + y) 602)) := ok_iadd dL_law_601
theorem kL_law_602 (z : XKT) : XOi z xInf Y_L_law 602 (.inl (i_ald 1000 603)) := ok_iald dL_law_602
theorem kL_law_603 (z : XKT) : XOi z xInf Y_L_law 603 (.inl (i_aload 3 604)) := ok_aload_n dL_law_603 rfl
theorem kL_law_604 (z : XKT) : XOi z xInf Y_L_law 604 (.inr (.inl (607, g_stat 12 4))) := show XOkC z xInf Y_L_law 604 607 (g_stat 12 4) from okc_SX (q := Y_L_law) (q1 := Y_X0_finder) Z_X0_finder rfl (by decide) dL_law_604 q2060 q2061 q124 q2062 hy_15
theorem kL_law_607 (z : XKT) : XOi z xInf Y_L_law 607 (.inl (i_istore 5 609)) := ok_istore dL_law_607
theorem kL_law_609 (z : XKT) : XOi z xInf Y_L_law 609 (.inl (i_aload 2 610)) := ok_aload_n dL_law_609 rfl
theorem kL_law_610 (z : XKT) : XOi z xInf Y_L_law 610 (.inl (i_aload 0 611)) := ok_aload_n dL_law_610 rfl
theorem kL_law_611 (z : XKT) : XOi z xInf Y_L_law 611 (.inl (i_iload 4 613)) := ok_iload dL_law_611
theorem kL_law_613 (z : XKT) : XOi z xInf Y_L_law 613 (.inl (i_push (vI 1) 614)) := ok_iconst dL_law_613 rfl
theorem kL_law_614 (z : XKT) : XOi z xInf Y_L_law 614 (.inl (i_bin (fun x y => x + y) 615)) := ok_iadd dL_law_614
theorem kL_law_615 (z : XKT) : XOi z xInf Y_L_law 615 (.inl (i_ald 1000 616)) := ok_iald dL_law_615
theorem kL_law_616 (z : XKT) : XOi z xInf Y_L_law 616 (.inl (i_aload 0 617)) := ok_aload_n dL_law_616 rfl
theorem kL_law_617 (z : XKT) : XOi z xInf Y_L_law 617 (.inl (i_iload 4 619)) := ok_iload dL_law_617
theorem kL_law_619 (z : XKT) : XOi z xInf Y_L_law 619 (.inl (i_push (vI 2) 620)) := ok_iconst dL_law_619 rfl
theorem kL_law_620 (z : XKT) : XOi z xInf Y_L_law 620 (.inl (i_bin (fun x y => x + y) 621)) := ok_iadd dL_law_620
theorem kL_law_621 (z : XKT) : XOi z xInf Y_L_law 621 (.inl (i_ald 1000 622)) := ok_iald dL_law_621
theorem kL_law_622 (z : XKT) : XOi z xInf Y_L_law 622 (.inr (.inl (625, g_virt [(4, 215)] 2))) := show XOkC z xInf Y_L_law 622 625 (g_virt [(4, 215)] 2) from okc_V (q := Y_L_law) (List.forall_mem_cons.mpr ⟨(show XOkV z xInf Y_L_law 622 625 2 (4, 215) from okv_V (q := Y_L_law) (q1 := Y_X5_finder) Z_X5_finder rfl (by decide) ⟨by decide, by decide, Or.inl ⟨_, _, (List.mem_of_getElem? (l := xCls) (i := 3) rfl)⟩⟩ dL_law_622 q2662 q2663 q2664 q153 q2665 hy_16), (fun _ h => absurd h List.not_mem_nil)⟩)
theorem kL_law_625 (z : XKT) : XOi z xInf Y_L_law 625 (.inl (i_istore 6 627)) := ok_istore dL_law_625
theorem kL_law_627 (z : XKT) : XOi z xInf Y_L_law 627 (.inl (i_aload 2 628)) := ok_aload_n dL_law_627 rfl
theorem kL_law_628 (z : XKT) : XOi z xInf Y_L_law 628 (.inr (.inl (631, g_virt [(4, 292)] 0))) := show XOkC z xInf Y_L_law 628 631 (g_virt [(4, 292)] 0) from okc_V (q := Y_L_law) (List.forall_mem_cons.mpr ⟨(show XOkV z xInf Y_L_law 628 631 0 (4, 292) from okv_V (q := Y_L_law) (q1 := Y_X5_thrown) Z_X5_thrown rfl (by decide) ⟨by decide, by decide, Or.inl ⟨_, _, (List.mem_of_getElem? (l := xCls) (i := 3) rfl)⟩⟩ dL_law_628 q2595 q2596 q2597 q153 q2598 hy_6), (fun _ h => absurd h List.not_mem_nil)⟩)
theorem kL_law_631 (z : XKT) : XOi z xInf Y_L_law 631 (.inl (i_iload 5 633)) := ok_iload dL_law_631
theorem kL_law_633 (z : XKT) : XOi z xInf Y_L_law 633 (.inl (i_icmp (fun x y => x = y) 638 636)) := ok_icmp_eq dL_law_633 rfl
theorem kL_law_636 (z : XKT) : XOi z xInf Y_L_law 636 (.inl (i_push (vI 0) 637)) := ok_iconst dL_law_636 rfl
theorem kL_law_637 (z : XKT) : XOi z xInf Y_L_law 637 (.inr (.inr (.inl (r_i .boolean)))) := show XOkR Y_L_law 637 ((r_i .boolean)) from okr_i (q := Y_L_law) (ty := .boolean) rfl rfl dL_law_637
theorem kL_law_638 (z : XKT) : XOi z xInf Y_L_law 638 (.inl (i_iload 5 640)) := ok_iload dL_law_638
theorem kL_law_640 (z : XKT) : XOi z xInf Y_L_law 640 (.inl (i_if (fun x => ¬ x = 0) 655 643)) := ok_if_ne dL_law_640 rfl
theorem kL_law_643 (z : XKT) : XOi z xInf Y_L_law 643 (.inl (i_aload 3 644)) := ok_aload_n dL_law_643 rfl
theorem kL_law_644 (z : XKT) : XOi z xInf Y_L_law 644 (.inl (i_push (vI 0) 645)) := ok_iconst dL_law_644 rfl
theorem kL_law_645 (z : XKT) : XOi z xInf Y_L_law 645 (.inl (i_ajld 1002 646)) := ok_lald dL_law_645
theorem kL_law_646 (z : XKT) : XOi z xInf Y_L_law 646 (.inl (i_iload 6 648)) := ok_iload dL_law_646
theorem kL_law_648 (z : XKT) : XOi z xInf Y_L_law 648 (.inl (i_i2l 649)) := ok_i2l dL_law_648
theorem kL_law_649 (z : XKT) : XOi z xInf Y_L_law 649 (.inl (i_lcmp 650)) := ok_lcmp dL_law_649
theorem kL_law_650 (z : XKT) : XOi z xInf Y_L_law 650 (.inl (i_if (fun x => x = 0) 655 653)) := ok_if_eq dL_law_650 rfl
theorem kL_law_653 (z : XKT) : XOi z xInf Y_L_law 653 (.inl (i_push (vI 0) 654)) := ok_iconst dL_law_653 rfl
theorem kL_law_654 (z : XKT) : XOi z xInf Y_L_law 654 (.inr (.inr (.inl (r_i .boolean)))) := show XOkR Y_L_law 654 ((r_i .boolean)) from okr_i (q := Y_L_law) (ty := .boolean) rfl rfl dL_law_654
theorem kL_law_655 (z : XKT) : XOi z xInf Y_L_law 655 (.inl (i_goto 2723)) := ok_goto dL_law_655 rfl
theorem kL_law_658 (z : XKT) : XOi z xInf Y_L_law 658 (.inl (i_aload 1 659)) := ok_aload_n dL_law_658 rfl
theorem kL_law_659 (z : XKT) : XOi z xInf Y_L_law 659 (.inl (i_aload 0 660)) := ok_aload_n dL_law_659 rfl
theorem kL_law_660 (z : XKT) : XOi z xInf Y_L_law 660 (.inl (i_iload 4 662)) := ok_iload dL_law_660
theorem kL_law_662 (z : XKT) : XOi z xInf Y_L_law 662 (.inl (i_push (vI 1) 663)) := ok_iconst dL_law_662 rfl
theorem kL_law_663 (z : XKT) : XOi z xInf Y_L_law 663 (.inl (i_bin (fun x y => x + y) 664)) := ok_iadd dL_law_663
theorem kL_law_664 (z : XKT) : XOi z xInf Y_L_law 664 (.inl (i_ald 1000 665)) := ok_iald dL_law_664
theorem kL_law_665 (z : XKT) : XOi z xInf Y_L_law 665 (.inl (i_aload 3 666)) := ok_aload_n dL_law_665 rfl
theorem kL_law_666 (z : XKT) : XOi z xInf Y_L_law 666 (.inr (.inl (669, g_stat 23 3))) := show XOkC z xInf Y_L_law 666 669 (g_stat 23 3) from okc_SX (q := Y_L_law) (q1 := Y_X0_owner) Z_X0_owner rfl (by decide) dL_law_666 q2081 q2082 q124 q2083 hy_17
theorem kL_law_669 (z : XKT) : XOi z xInf Y_L_law 669 (.inl (i_istore 5 671)) := ok_istore dL_law_669
theorem kL_law_671 (z : XKT) : XOi z xInf Y_L_law 671 (.inl (i_aload 2 672)) := ok_aload_n dL_law_671 rfl
theorem kL_law_672 (z : XKT) : XOi z xInf Y_L_law 672 (.inl (i_aload 0 673)) := ok_aload_n dL_law_672 rfl
theorem kL_law_673 (z : XKT) : XOi z xInf Y_L_law 673 (.inl (i_iload 4 675)) := ok_iload dL_law_673
theorem kL_law_675 (z : XKT) : XOi z xInf Y_L_law 675 (.inl (i_push (vI 1) 676)) := ok_iconst dL_law_675 rfl
theorem kL_law_676 (z : XKT) : XOi z xInf Y_L_law 676 (.inl (i_bin (fun x y => x + y) 677)) := ok_iadd dL_law_676
theorem kL_law_677 (z : XKT) : XOi z xInf Y_L_law 677 (.inl (i_ald 1000 678)) := ok_iald dL_law_677
theorem kL_law_678 (z : XKT) : XOi z xInf Y_L_law 678 (.inr (.inl (681, g_virt [(4, 258)] 1))) := show XOkC z xInf Y_L_law 678 681 (g_virt [(4, 258)] 1) from okc_V (q := Y_L_law) (List.forall_mem_cons.mpr ⟨(show XOkV z xInf Y_L_law 678 681 1 (4, 258) from okv_V (q := Y_L_law) (q1 := Y_X5_owner) Z_X5_owner rfl (by decide) ⟨by decide, by decide, Or.inl ⟨_, _, (List.mem_of_getElem? (l := xCls) (i := 3) rfl)⟩⟩ dL_law_678 q2682 q2683 q2684 q153 q2685 hy_18), (fun _ h => absurd h List.not_mem_nil)⟩)
theorem kL_law_681 (z : XKT) : XOi z xInf Y_L_law 681 (.inl (i_istore 6 683)) := ok_istore dL_law_681
theorem kL_law_683 (z : XKT) : XOi z xInf Y_L_law 683 (.inl (i_aload 2 684)) := ok_aload_n dL_law_683 rfl
theorem kL_law_684 (z : XKT) : XOi z xInf Y_L_law 684 (.inr (.inl (687, g_virt [(4, 292)] 0))) := show XOkC z xInf Y_L_law 684 687 (g_virt [(4, 292)] 0) from okc_V (q := Y_L_law) (List.forall_mem_cons.mpr ⟨(show XOkV z xInf Y_L_law 684 687 0 (4, 292) from okv_V (q := Y_L_law) (q1 := Y_X5_thrown) Z_X5_thrown rfl (by decide) ⟨by decide, by decide, Or.inl ⟨_, _, (List.mem_of_getElem? (l := xCls) (i := 3) rfl)⟩⟩ dL_law_684 q2595 q2596 q2597 q153 q2598 hy_6), (fun _ h => absurd h List.not_mem_nil)⟩)
theorem kL_law_687 (z : XKT) : XOi z xInf Y_L_law 687 (.inl (i_iload 5 689)) := ok_iload dL_law_687
theorem kL_law_689 (z : XKT) : XOi z xInf Y_L_law 689 (.inl (i_icmp (fun x y => x = y) 694 692)) := ok_icmp_eq dL_law_689 rfl
theorem kL_law_692 (z : XKT) : XOi z xInf Y_L_law 692 (.inl (i_push (vI 0) 693)) := ok_iconst dL_law_692 rfl
theorem kL_law_693 (z : XKT) : XOi z xInf Y_L_law 693 (.inr (.inr (.inl (r_i .boolean)))) := show XOkR Y_L_law 693 ((r_i .boolean)) from okr_i (q := Y_L_law) (ty := .boolean) rfl rfl dL_law_693
theorem kL_law_694 (z : XKT) : XOi z xInf Y_L_law 694 (.inl (i_iload 5 696)) := ok_iload dL_law_694
theorem kL_law_696 (z : XKT) : XOi z xInf Y_L_law 696 (.inl (i_if (fun x => ¬ x = 0) 711 699)) := ok_if_ne dL_law_696 rfl
theorem kL_law_699 (z : XKT) : XOi z xInf Y_L_law 699 (.inl (i_aload 3 700)) := ok_aload_n dL_law_699 rfl
theorem kL_law_700 (z : XKT) : XOi z xInf Y_L_law 700 (.inl (i_push (vI 0) 701)) := ok_iconst dL_law_700 rfl
theorem kL_law_701 (z : XKT) : XOi z xInf Y_L_law 701 (.inl (i_ajld 1002 702)) := ok_lald dL_law_701
theorem kL_law_702 (z : XKT) : XOi z xInf Y_L_law 702 (.inl (i_iload 6 704)) := ok_iload dL_law_702
theorem kL_law_704 (z : XKT) : XOi z xInf Y_L_law 704 (.inl (i_i2l 705)) := ok_i2l dL_law_704
theorem kL_law_705 (z : XKT) : XOi z xInf Y_L_law 705 (.inl (i_lcmp 706)) := ok_lcmp dL_law_705
theorem kL_law_706 (z : XKT) : XOi z xInf Y_L_law 706 (.inl (i_if (fun x => x = 0) 711 709)) := ok_if_eq dL_law_706 rfl
theorem kL_law_709 (z : XKT) : XOi z xInf Y_L_law 709 (.inl (i_push (vI 0) 710)) := ok_iconst dL_law_709 rfl
theorem kL_law_710 (z : XKT) : XOi z xInf Y_L_law 710 (.inr (.inr (.inl (r_i .boolean)))) := show XOkR Y_L_law 710 ((r_i .boolean)) from okr_i (q := Y_L_law) (ty := .boolean) rfl rfl dL_law_710
theorem kL_law_711 (z : XKT) : XOi z xInf Y_L_law 711 (.inl (i_goto 2723)) := ok_goto dL_law_711 rfl
theorem kL_law_714 (z : XKT) : XOi z xInf Y_L_law 714 (.inl (i_aload 1 715)) := ok_aload_n dL_law_714 rfl
theorem kL_law_715 (z : XKT) : XOi z xInf Y_L_law 715 (.inl (i_aload 0 716)) := ok_aload_n dL_law_715 rfl
theorem kL_law_716 (z : XKT) : XOi z xInf Y_L_law 716 (.inl (i_iload 4 718)) := ok_iload dL_law_716
theorem kL_law_718 (z : XKT) : XOi z xInf Y_L_law 718 (.inl (i_push (vI 1) 719)) := ok_iconst dL_law_718 rfl
theorem kL_law_719 (z : XKT) : XOi z xInf Y_L_law 719 (.inl (i_bin (fun x y => x + y) 720)) := ok_iadd dL_law_719
theorem kL_law_720 (z : XKT) : XOi z xInf Y_L_law 720 (.inl (i_ald 1000 721)) := ok_iald dL_law_720
theorem kL_law_721 (z : XKT) : XOi z xInf Y_L_law 721 (.inl (i_aload 0 722)) := ok_aload_n dL_law_721 rfl
theorem kL_law_722 (z : XKT) : XOi z xInf Y_L_law 722 (.inl (i_iload 4 724)) := ok_iload dL_law_722
theorem kL_law_724 (z : XKT) : XOi z xInf Y_L_law 724 (.inl (i_push (vI 2) 725)) := ok_iconst dL_law_724 rfl
theorem kL_law_725 (z : XKT) : XOi z xInf Y_L_law 725 (.inl (i_bin (fun x y => x + y) 726)) := ok_iadd dL_law_725
theorem kL_law_726 (z : XKT) : XOi z xInf Y_L_law 726 (.inl (i_ald 1000 727)) := ok_iald dL_law_726
theorem kL_law_727 (z : XKT) : XOi z xInf Y_L_law 727 (.inl (i_aload 0 728)) := ok_aload_n dL_law_727 rfl
theorem kL_law_728 (z : XKT) : XOi z xInf Y_L_law 728 (.inl (i_iload 4 730)) := ok_iload dL_law_728
theorem kL_law_730 (z : XKT) : XOi z xInf Y_L_law 730 (.inl (i_push (vI 3) 731)) := ok_iconst dL_law_730 rfl
theorem kL_law_731 (z : XKT) : XOi z xInf Y_L_law 731 (.inl (i_bin (fun x y => x + y) 732)) := ok_iadd dL_law_731
theorem kL_law_732 (z : XKT) : XOi z xInf Y_L_law 732 (.inl (i_ald 1000 733)) := ok_iald dL_law_732
theorem kL_law_733 (z : XKT) : XOi z xInf Y_L_law 733 (.inl (i_if (fun x => x = 0) 740 736)) := ok_if_eq dL_law_733 rfl
theorem kL_law_736 (z : XKT) : XOi z xInf Y_L_law 736 (.inl (i_push (vI 1) 737)) := ok_iconst dL_law_736 rfl
theorem kL_law_737 (z : XKT) : XOi z xInf Y_L_law 737 (.inl (i_goto 741)) := ok_goto dL_law_737 rfl
theorem kL_law_740 (z : XKT) : XOi z xInf Y_L_law 740 (.inl (i_push (vI 0) 741)) := ok_iconst dL_law_740 rfl
theorem kL_law_741 (z : XKT) : XOi z xInf Y_L_law 741 (.inl (i_aload 3 742)) := ok_aload_n dL_law_741 rfl
theorem kL_law_742 (z : XKT) : XOi z xInf Y_L_law 742 (.inr (.inl (745, g_stat 15 5))) := show XOkC z xInf Y_L_law 742 745 (g_stat 15 5) from okc_SX (q := Y_L_law) (q1 := Y_X0_hand) Z_X0_hand rfl (by decide) dL_law_742 q2088 q2089 q124 q2090 hy_19
theorem kL_law_745 (z : XKT) : XOi z xInf Y_L_law 745 (.inl (i_istore 5 747)) := ok_istore dL_law_745
theorem kL_law_747 (z : XKT) : XOi z xInf Y_L_law 747 (.inl (i_aload 2 748)) := ok_aload_n dL_law_747 rfl
theorem kL_law_748 (z : XKT) : XOi z xInf Y_L_law 748 (.inl (i_aload 0 749)) := ok_aload_n dL_law_748 rfl
theorem kL_law_749 (z : XKT) : XOi z xInf Y_L_law 749 (.inl (i_iload 4 751)) := ok_iload dL_law_749
theorem kL_law_751 (z : XKT) : XOi z xInf Y_L_law 751 (.inl (i_push (vI 1) 752)) := ok_iconst dL_law_751 rfl
theorem kL_law_752 (z : XKT) : XOi z xInf Y_L_law 752 (.inl (i_bin (fun x y => x + y) 753)) := ok_iadd dL_law_752
theorem kL_law_753 (z : XKT) : XOi z xInf Y_L_law 753 (.inl (i_ald 1000 754)) := ok_iald dL_law_753
theorem kL_law_754 (z : XKT) : XOi z xInf Y_L_law 754 (.inl (i_aload 0 755)) := ok_aload_n dL_law_754 rfl
theorem kL_law_755 (z : XKT) : XOi z xInf Y_L_law 755 (.inl (i_iload 4 757)) := ok_iload dL_law_755
theorem kL_law_757 (z : XKT) : XOi z xInf Y_L_law 757 (.inl (i_push (vI 2) 758)) := ok_iconst dL_law_757 rfl
theorem kL_law_758 (z : XKT) : XOi z xInf Y_L_law 758 (.inl (i_bin (fun x y => x + y) 759)) := ok_iadd dL_law_758
theorem kL_law_759 (z : XKT) : XOi z xInf Y_L_law 759 (.inl (i_ald 1000 760)) := ok_iald dL_law_759
theorem kL_law_760 (z : XKT) : XOi z xInf Y_L_law 760 (.inl (i_aload 0 761)) := ok_aload_n dL_law_760 rfl
theorem kL_law_761 (z : XKT) : XOi z xInf Y_L_law 761 (.inl (i_iload 4 763)) := ok_iload dL_law_761
theorem kL_law_763 (z : XKT) : XOi z xInf Y_L_law 763 (.inl (i_push (vI 3) 764)) := ok_iconst dL_law_763 rfl
theorem kL_law_764 (z : XKT) : XOi z xInf Y_L_law 764 (.inl (i_bin (fun x y => x + y) 765)) := ok_iadd dL_law_764
theorem kL_law_765 (z : XKT) : XOi z xInf Y_L_law 765 (.inl (i_ald 1000 766)) := ok_iald dL_law_765
theorem kL_law_766 (z : XKT) : XOi z xInf Y_L_law 766 (.inl (i_if (fun x => x = 0) 773 769)) := ok_if_eq dL_law_766 rfl
theorem kL_law_769 (z : XKT) : XOi z xInf Y_L_law 769 (.inl (i_push (vI 1) 770)) := ok_iconst dL_law_769 rfl
theorem kL_law_770 (z : XKT) : XOi z xInf Y_L_law 770 (.inl (i_goto 774)) := ok_goto dL_law_770 rfl
theorem kL_law_773 (z : XKT) : XOi z xInf Y_L_law 773 (.inl (i_push (vI 0) 774)) := ok_iconst dL_law_773 rfl
theorem kL_law_774 (z : XKT) : XOi z xInf Y_L_law 774 (.inr (.inl (777, g_virt [(4, 222)] 3))) := show XOkC z xInf Y_L_law 774 777 (g_virt [(4, 222)] 3) from okc_V (q := Y_L_law) (List.forall_mem_cons.mpr ⟨(show XOkV z xInf Y_L_law 774 777 3 (4, 222) from okv_V (q := Y_L_law) (q1 := Y_X5_hand) Z_X5_hand rfl (by decide) ⟨by decide, by decide, Or.inl ⟨_, _, (List.mem_of_getElem? (l := xCls) (i := 3) rfl)⟩⟩ dL_law_774 q2689 q2690 q2691 q153 q2692 hy_20), (fun _ h => absurd h List.not_mem_nil)⟩)
theorem kL_law_777 (z : XKT) : XOi z xInf Y_L_law 777 (.inl (i_istore 6 779)) := ok_istore dL_law_777
theorem kL_law_779 (z : XKT) : XOi z xInf Y_L_law 779 (.inl (i_aload 2 780)) := ok_aload_n dL_law_779 rfl
theorem kL_law_780 (z : XKT) : XOi z xInf Y_L_law 780 (.inr (.inl (783, g_virt [(4, 292)] 0))) := show XOkC z xInf Y_L_law 780 783 (g_virt [(4, 292)] 0) from okc_V (q := Y_L_law) (List.forall_mem_cons.mpr ⟨(show XOkV z xInf Y_L_law 780 783 0 (4, 292) from okv_V (q := Y_L_law) (q1 := Y_X5_thrown) Z_X5_thrown rfl (by decide) ⟨by decide, by decide, Or.inl ⟨_, _, (List.mem_of_getElem? (l := xCls) (i := 3) rfl)⟩⟩ dL_law_780 q2595 q2596 q2597 q153 q2598 hy_6), (fun _ h => absurd h List.not_mem_nil)⟩)
theorem kL_law_783 (z : XKT) : XOi z xInf Y_L_law 783 (.inl (i_iload 5 785)) := ok_iload dL_law_783
theorem kL_law_785 (z : XKT) : XOi z xInf Y_L_law 785 (.inl (i_icmp (fun x y => x = y) 790 788)) := ok_icmp_eq dL_law_785 rfl
theorem kL_law_788 (z : XKT) : XOi z xInf Y_L_law 788 (.inl (i_push (vI 0) 789)) := ok_iconst dL_law_788 rfl
theorem kL_law_789 (z : XKT) : XOi z xInf Y_L_law 789 (.inr (.inr (.inl (r_i .boolean)))) := show XOkR Y_L_law 789 ((r_i .boolean)) from okr_i (q := Y_L_law) (ty := .boolean) rfl rfl dL_law_789
theorem kL_law_790 (z : XKT) : XOi z xInf Y_L_law 790 (.inl (i_iload 5 792)) := ok_iload dL_law_790
theorem kL_law_792 (z : XKT) : XOi z xInf Y_L_law 792 (.inl (i_if (fun x => ¬ x = 0) 807 795)) := ok_if_ne dL_law_792 rfl
theorem kL_law_795 (z : XKT) : XOi z xInf Y_L_law 795 (.inl (i_aload 3 796)) := ok_aload_n dL_law_795 rfl
theorem kL_law_796 (z : XKT) : XOi z xInf Y_L_law 796 (.inl (i_push (vI 0) 797)) := ok_iconst dL_law_796 rfl
theorem kL_law_797 (z : XKT) : XOi z xInf Y_L_law 797 (.inl (i_ajld 1002 798)) := ok_lald dL_law_797
theorem kL_law_798 (z : XKT) : XOi z xInf Y_L_law 798 (.inl (i_iload 6 800)) := ok_iload dL_law_798
theorem kL_law_800 (z : XKT) : XOi z xInf Y_L_law 800 (.inl (i_i2l 801)) := ok_i2l dL_law_800
theorem kL_law_801 (z : XKT) : XOi z xInf Y_L_law 801 (.inl (i_lcmp 802)) := ok_lcmp dL_law_801
theorem kL_law_802 (z : XKT) : XOi z xInf Y_L_law 802 (.inl (i_if (fun x => x = 0) 807 805)) := ok_if_eq dL_law_802 rfl
theorem kL_law_805 (z : XKT) : XOi z xInf Y_L_law 805 (.inl (i_push (vI 0) 806)) := ok_iconst dL_law_805 rfl
theorem kL_law_806 (z : XKT) : XOi z xInf Y_L_law 806 (.inr (.inr (.inl (r_i .boolean)))) := show XOkR Y_L_law 806 ((r_i .boolean)) from okr_i (q := Y_L_law) (ty := .boolean) rfl rfl dL_law_806
theorem kL_law_807 (z : XKT) : XOi z xInf Y_L_law 807 (.inl (i_goto 2723)) := ok_goto dL_law_807 rfl
theorem kL_law_810 (z : XKT) : XOi z xInf Y_L_law 810 (.inl (i_aload 1 811)) := ok_aload_n dL_law_810 rfl
theorem kL_law_811 (z : XKT) : XOi z xInf Y_L_law 811 (.inl (i_aload 0 812)) := ok_aload_n dL_law_811 rfl
theorem kL_law_812 (z : XKT) : XOi z xInf Y_L_law 812 (.inl (i_iload 4 814)) := ok_iload dL_law_812
theorem kL_law_814 (z : XKT) : XOi z xInf Y_L_law 814 (.inl (i_push (vI 1) 815)) := ok_iconst dL_law_814 rfl
theorem kL_law_815 (z : XKT) : XOi z xInf Y_L_law 815 (.inl (i_bin (fun x y => x + y) 816)) := ok_iadd dL_law_815
theorem kL_law_816 (z : XKT) : XOi z xInf Y_L_law 816 (.inl (i_ald 1000 817)) := ok_iald dL_law_816
theorem kL_law_817 (z : XKT) : XOi z xInf Y_L_law 817 (.inl (i_aload 0 818)) := ok_aload_n dL_law_817 rfl
theorem kL_law_818 (z : XKT) : XOi z xInf Y_L_law 818 (.inl (i_iload 4 820)) := ok_iload dL_law_818
theorem kL_law_820 (z : XKT) : XOi z xInf Y_L_law 820 (.inl (i_push (vI 2) 821)) := ok_iconst dL_law_820 rfl
theorem kL_law_821 (z : XKT) : XOi z xInf Y_L_law 821 (.inl (i_bin (fun x y => x + y) 822)) := ok_iadd dL_law_821
theorem kL_law_822 (z : XKT) : XOi z xInf Y_L_law 822 (.inl (i_ald 1000 823)) := ok_iald dL_law_822
theorem kL_law_823 (z : XKT) : XOi z xInf Y_L_law 823 (.inl (i_aload 3 824)) := ok_aload_n dL_law_823 rfl
theorem kL_law_824 (z : XKT) : XOi z xInf Y_L_law 824 (.inr (.inl (827, g_stat 6 4))) := show XOkC z xInf Y_L_law 824 827 (g_stat 6 4) from okc_SX (q := Y_L_law) (q1 := Y_X0_count) Z_X0_count rfl (by decide) dL_law_824 q2098 q2099 q124 q2100 hy_21
theorem kL_law_827 (z : XKT) : XOi z xInf Y_L_law 827 (.inl (i_istore 5 829)) := ok_istore dL_law_827
theorem kL_law_829 (z : XKT) : XOi z xInf Y_L_law 829 (.inl (i_aload 2 830)) := ok_aload_n dL_law_829 rfl
theorem kL_law_830 (z : XKT) : XOi z xInf Y_L_law 830 (.inl (i_aload 0 831)) := ok_aload_n dL_law_830 rfl
theorem kL_law_831 (z : XKT) : XOi z xInf Y_L_law 831 (.inl (i_iload 4 833)) := ok_iload dL_law_831
theorem kL_law_833 (z : XKT) : XOi z xInf Y_L_law 833 (.inl (i_push (vI 1) 834)) := ok_iconst dL_law_833 rfl
theorem kL_law_834 (z : XKT) : XOi z xInf Y_L_law 834 (.inl (i_bin (fun x y => x + y) 835)) := ok_iadd dL_law_834
theorem kL_law_835 (z : XKT) : XOi z xInf Y_L_law 835 (.inl (i_ald 1000 836)) := ok_iald dL_law_835
theorem kL_law_836 (z : XKT) : XOi z xInf Y_L_law 836 (.inl (i_aload 0 837)) := ok_aload_n dL_law_836 rfl
theorem kL_law_837 (z : XKT) : XOi z xInf Y_L_law 837 (.inl (i_iload 4 839)) := ok_iload dL_law_837
theorem kL_law_839 (z : XKT) : XOi z xInf Y_L_law 839 (.inl (i_push (vI 2) 840)) := ok_iconst dL_law_839 rfl
theorem kL_law_840 (z : XKT) : XOi z xInf Y_L_law 840 (.inl (i_bin (fun x y => x + y) 841)) := ok_iadd dL_law_840
theorem kL_law_841 (z : XKT) : XOi z xInf Y_L_law 841 (.inl (i_ald 1000 842)) := ok_iald dL_law_841
theorem kL_law_842 (z : XKT) : XOi z xInf Y_L_law 842 (.inr (.inl (845, g_virt [(4, 184)] 2))) := show XOkC z xInf Y_L_law 842 845 (g_virt [(4, 184)] 2) from okc_V (q := Y_L_law) (List.forall_mem_cons.mpr ⟨(show XOkV z xInf Y_L_law 842 845 2 (4, 184) from okv_V (q := Y_L_law) (q1 := Y_X5_count) Z_X5_count rfl (by decide) ⟨by decide, by decide, Or.inl ⟨_, _, (List.mem_of_getElem? (l := xCls) (i := 3) rfl)⟩⟩ dL_law_842 q2693 q2694 q2695 q153 q2696 hy_22), (fun _ h => absurd h List.not_mem_nil)⟩)
theorem kL_law_845 (z : XKT) : XOi z xInf Y_L_law 845 (.inl (i_istore 6 847)) := ok_istore dL_law_845
theorem kL_law_847 (z : XKT) : XOi z xInf Y_L_law 847 (.inl (i_aload 2 848)) := ok_aload_n dL_law_847 rfl
theorem kL_law_848 (z : XKT) : XOi z xInf Y_L_law 848 (.inr (.inl (851, g_virt [(4, 292)] 0))) := show XOkC z xInf Y_L_law 848 851 (g_virt [(4, 292)] 0) from okc_V (q := Y_L_law) (List.forall_mem_cons.mpr ⟨(show XOkV z xInf Y_L_law 848 851 0 (4, 292) from okv_V (q := Y_L_law) (q1 := Y_X5_thrown) Z_X5_thrown rfl (by decide) ⟨by decide, by decide, Or.inl ⟨_, _, (List.mem_of_getElem? (l := xCls) (i := 3) rfl)⟩⟩ dL_law_848 q2595 q2596 q2597 q153 q2598 hy_6), (fun _ h => absurd h List.not_mem_nil)⟩)
theorem kL_law_851 (z : XKT) : XOi z xInf Y_L_law 851 (.inl (i_iload 5 853)) := ok_iload dL_law_851
theorem kL_law_853 (z : XKT) : XOi z xInf Y_L_law 853 (.inl (i_icmp (fun x y => x = y) 858 856)) := ok_icmp_eq dL_law_853 rfl
theorem kL_law_856 (z : XKT) : XOi z xInf Y_L_law 856 (.inl (i_push (vI 0) 857)) := ok_iconst dL_law_856 rfl
theorem kL_law_857 (z : XKT) : XOi z xInf Y_L_law 857 (.inr (.inr (.inl (r_i .boolean)))) := show XOkR Y_L_law 857 ((r_i .boolean)) from okr_i (q := Y_L_law) (ty := .boolean) rfl rfl dL_law_857
theorem kL_law_858 (z : XKT) : XOi z xInf Y_L_law 858 (.inl (i_iload 5 860)) := ok_iload dL_law_858
theorem kL_law_860 (z : XKT) : XOi z xInf Y_L_law 860 (.inl (i_if (fun x => ¬ x = 0) 875 863)) := ok_if_ne dL_law_860 rfl
theorem kL_law_863 (z : XKT) : XOi z xInf Y_L_law 863 (.inl (i_aload 3 864)) := ok_aload_n dL_law_863 rfl
theorem kL_law_864 (z : XKT) : XOi z xInf Y_L_law 864 (.inl (i_push (vI 0) 865)) := ok_iconst dL_law_864 rfl
theorem kL_law_865 (z : XKT) : XOi z xInf Y_L_law 865 (.inl (i_ajld 1002 866)) := ok_lald dL_law_865
theorem kL_law_866 (z : XKT) : XOi z xInf Y_L_law 866 (.inl (i_iload 6 868)) := ok_iload dL_law_866
theorem kL_law_868 (z : XKT) : XOi z xInf Y_L_law 868 (.inl (i_i2l 869)) := ok_i2l dL_law_868
theorem kL_law_869 (z : XKT) : XOi z xInf Y_L_law 869 (.inl (i_lcmp 870)) := ok_lcmp dL_law_869
theorem kL_law_870 (z : XKT) : XOi z xInf Y_L_law 870 (.inl (i_if (fun x => x = 0) 875 873)) := ok_if_eq dL_law_870 rfl
theorem kL_law_873 (z : XKT) : XOi z xInf Y_L_law 873 (.inl (i_push (vI 0) 874)) := ok_iconst dL_law_873 rfl
theorem kL_law_874 (z : XKT) : XOi z xInf Y_L_law 874 (.inr (.inr (.inl (r_i .boolean)))) := show XOkR Y_L_law 874 ((r_i .boolean)) from okr_i (q := Y_L_law) (ty := .boolean) rfl rfl dL_law_874
theorem kL_law_875 (z : XKT) : XOi z xInf Y_L_law 875 (.inl (i_goto 2723)) := ok_goto dL_law_875 rfl
theorem kL_law_878 (z : XKT) : XOi z xInf Y_L_law 878 (.inl (i_aload 1 879)) := ok_aload_n dL_law_878 rfl
theorem kL_law_879 (z : XKT) : XOi z xInf Y_L_law 879 (.inl (i_aload 0 880)) := ok_aload_n dL_law_879 rfl
theorem kL_law_880 (z : XKT) : XOi z xInf Y_L_law 880 (.inl (i_iload 4 882)) := ok_iload dL_law_880
theorem kL_law_882 (z : XKT) : XOi z xInf Y_L_law 882 (.inl (i_push (vI 1) 883)) := ok_iconst dL_law_882 rfl
theorem kL_law_883 (z : XKT) : XOi z xInf Y_L_law 883 (.inl (i_bin (fun x y => x + y) 884)) := ok_iadd dL_law_883
theorem kL_law_884 (z : XKT) : XOi z xInf Y_L_law 884 (.inl (i_ald 1000 885)) := ok_iald dL_law_884
theorem kL_law_885 (z : XKT) : XOi z xInf Y_L_law 885 (.inl (i_aload 0 886)) := ok_aload_n dL_law_885 rfl
theorem kL_law_886 (z : XKT) : XOi z xInf Y_L_law 886 (.inl (i_iload 4 888)) := ok_iload dL_law_886
theorem kL_law_888 (z : XKT) : XOi z xInf Y_L_law 888 (.inl (i_push (vI 2) 889)) := ok_iconst dL_law_888 rfl
theorem kL_law_889 (z : XKT) : XOi z xInf Y_L_law 889 (.inl (i_bin (fun x y => x + y) 890)) := ok_iadd dL_law_889
theorem kL_law_890 (z : XKT) : XOi z xInf Y_L_law 890 (.inl (i_ald 1000 891)) := ok_iald dL_law_890
theorem kL_law_891 (z : XKT) : XOi z xInf Y_L_law 891 (.inl (i_aload 3 892)) := ok_aload_n dL_law_891 rfl
theorem kL_law_892 (z : XKT) : XOi z xInf Y_L_law 892 (.inr (.inl (895, g_stat 21 4))) := show XOkC z xInf Y_L_law 892 895 (g_stat 21 4) from okc_SX (q := Y_L_law) (q1 := Y_X0_marked) Z_X0_marked rfl (by decide) dL_law_892 q2116 q2117 q124 q2118 hy_23
theorem kL_law_895 (z : XKT) : XOi z xInf Y_L_law 895 (.inl (i_istore 5 897)) := ok_istore dL_law_895
theorem kL_law_897 (z : XKT) : XOi z xInf Y_L_law 897 (.inl (i_aload 2 898)) := ok_aload_n dL_law_897 rfl
theorem kL_law_898 (z : XKT) : XOi z xInf Y_L_law 898 (.inl (i_aload 0 899)) := ok_aload_n dL_law_898 rfl
theorem kL_law_899 (z : XKT) : XOi z xInf Y_L_law 899 (.inl (i_iload 4 901)) := ok_iload dL_law_899
theorem kL_law_901 (z : XKT) : XOi z xInf Y_L_law 901 (.inl (i_push (vI 1) 902)) := ok_iconst dL_law_901 rfl
theorem kL_law_902 (z : XKT) : XOi z xInf Y_L_law 902 (.inl (i_bin (fun x y => x + y) 903)) := ok_iadd dL_law_902
theorem kL_law_903 (z : XKT) : XOi z xInf Y_L_law 903 (.inl (i_ald 1000 904)) := ok_iald dL_law_903
theorem kL_law_904 (z : XKT) : XOi z xInf Y_L_law 904 (.inl (i_aload 0 905)) := ok_aload_n dL_law_904 rfl
theorem kL_law_905 (z : XKT) : XOi z xInf Y_L_law 905 (.inl (i_iload 4 907)) := ok_iload dL_law_905
theorem kL_law_907 (z : XKT) : XOi z xInf Y_L_law 907 (.inl (i_push (vI 2) 908)) := ok_iconst dL_law_907 rfl
theorem kL_law_908 (z : XKT) : XOi z xInf Y_L_law 908 (.inl (i_bin (fun x y => x + y) 909)) := ok_iadd dL_law_908
theorem kL_law_909 (z : XKT) : XOi z xInf Y_L_law 909 (.inl (i_ald 1000 910)) := ok_iald dL_law_909
theorem kL_law_910 (z : XKT) : XOi z xInf Y_L_law 910 (.inr (.inl (913, g_virt [(4, 251)] 2))) := show XOkC z xInf Y_L_law 910 913 (g_virt [(4, 251)] 2) from okc_V (q := Y_L_law) (List.forall_mem_cons.mpr ⟨(show XOkV z xInf Y_L_law 910 913 2 (4, 251) from okv_V (q := Y_L_law) (q1 := Y_X5_marked) Z_X5_marked rfl (by decide) ⟨by decide, by decide, Or.inl ⟨_, _, (List.mem_of_getElem? (l := xCls) (i := 3) rfl)⟩⟩ dL_law_910 q2697 q2698 q2699 q153 q2700 hy_24), (fun _ h => absurd h List.not_mem_nil)⟩)
theorem kL_law_913 (z : XKT) : XOi z xInf Y_L_law 913 (.inl (i_istore 6 915)) := ok_istore dL_law_913
theorem kL_law_915 (z : XKT) : XOi z xInf Y_L_law 915 (.inl (i_aload 2 916)) := ok_aload_n dL_law_915 rfl
theorem kL_law_916 (z : XKT) : XOi z xInf Y_L_law 916 (.inr (.inl (919, g_virt [(4, 292)] 0))) := show XOkC z xInf Y_L_law 916 919 (g_virt [(4, 292)] 0) from okc_V (q := Y_L_law) (List.forall_mem_cons.mpr ⟨(show XOkV z xInf Y_L_law 916 919 0 (4, 292) from okv_V (q := Y_L_law) (q1 := Y_X5_thrown) Z_X5_thrown rfl (by decide) ⟨by decide, by decide, Or.inl ⟨_, _, (List.mem_of_getElem? (l := xCls) (i := 3) rfl)⟩⟩ dL_law_916 q2595 q2596 q2597 q153 q2598 hy_6), (fun _ h => absurd h List.not_mem_nil)⟩)
theorem kL_law_919 (z : XKT) : XOi z xInf Y_L_law 919 (.inl (i_iload 5 921)) := ok_iload dL_law_919
theorem kL_law_921 (z : XKT) : XOi z xInf Y_L_law 921 (.inl (i_icmp (fun x y => x = y) 926 924)) := ok_icmp_eq dL_law_921 rfl
theorem kL_law_924 (z : XKT) : XOi z xInf Y_L_law 924 (.inl (i_push (vI 0) 925)) := ok_iconst dL_law_924 rfl
theorem kL_law_925 (z : XKT) : XOi z xInf Y_L_law 925 (.inr (.inr (.inl (r_i .boolean)))) := show XOkR Y_L_law 925 ((r_i .boolean)) from okr_i (q := Y_L_law) (ty := .boolean) rfl rfl dL_law_925
theorem kL_law_926 (z : XKT) : XOi z xInf Y_L_law 926 (.inl (i_iload 5 928)) := ok_iload dL_law_926
theorem kL_law_928 (z : XKT) : XOi z xInf Y_L_law 928 (.inl (i_if (fun x => ¬ x = 0) 943 931)) := ok_if_ne dL_law_928 rfl
theorem kL_law_931 (z : XKT) : XOi z xInf Y_L_law 931 (.inl (i_aload 3 932)) := ok_aload_n dL_law_931 rfl
theorem kL_law_932 (z : XKT) : XOi z xInf Y_L_law 932 (.inl (i_push (vI 0) 933)) := ok_iconst dL_law_932 rfl
theorem kL_law_933 (z : XKT) : XOi z xInf Y_L_law 933 (.inl (i_ajld 1002 934)) := ok_lald dL_law_933
theorem kL_law_934 (z : XKT) : XOi z xInf Y_L_law 934 (.inl (i_iload 6 936)) := ok_iload dL_law_934
theorem kL_law_936 (z : XKT) : XOi z xInf Y_L_law 936 (.inl (i_i2l 937)) := ok_i2l dL_law_936
theorem kL_law_937 (z : XKT) : XOi z xInf Y_L_law 937 (.inl (i_lcmp 938)) := ok_lcmp dL_law_937
theorem kL_law_938 (z : XKT) : XOi z xInf Y_L_law 938 (.inl (i_if (fun x => x = 0) 943 941)) := ok_if_eq dL_law_938 rfl
theorem kL_law_941 (z : XKT) : XOi z xInf Y_L_law 941 (.inl (i_push (vI 0) 942)) := ok_iconst dL_law_941 rfl
theorem kL_law_942 (z : XKT) : XOi z xInf Y_L_law 942 (.inr (.inr (.inl (r_i .boolean)))) := show XOkR Y_L_law 942 ((r_i .boolean)) from okr_i (q := Y_L_law) (ty := .boolean) rfl rfl dL_law_942
theorem kL_law_943 (z : XKT) : XOi z xInf Y_L_law 943 (.inl (i_goto 2723)) := ok_goto dL_law_943 rfl
theorem kL_law_946 (z : XKT) : XOi z xInf Y_L_law 946 (.inl (i_aload 1 947)) := ok_aload_n dL_law_946 rfl
theorem kL_law_947 (z : XKT) : XOi z xInf Y_L_law 947 (.inl (i_aload 0 948)) := ok_aload_n dL_law_947 rfl
theorem kL_law_948 (z : XKT) : XOi z xInf Y_L_law 948 (.inl (i_iload 4 950)) := ok_iload dL_law_948
theorem kL_law_950 (z : XKT) : XOi z xInf Y_L_law 950 (.inl (i_push (vI 1) 951)) := ok_iconst dL_law_950 rfl
theorem kL_law_951 (z : XKT) : XOi z xInf Y_L_law 951 (.inl (i_bin (fun x y => x + y) 952)) := ok_iadd dL_law_951
theorem kL_law_952 (z : XKT) : XOi z xInf Y_L_law 952 (.inl (i_ald 1000 953)) := ok_iald dL_law_952
theorem kL_law_953 (z : XKT) : XOi z xInf Y_L_law 953 (.inr (.inl (956, g_virt [(1, 109)] 1))) := show XOkC z xInf Y_L_law 953 956 (g_virt [(1, 109)] 1) from okc_V (q := Y_L_law) (List.forall_mem_cons.mpr ⟨(show XOkV z xInf Y_L_law 953 956 1 (1, 109) from okv_V (q := Y_L_law) (q1 := Y_X1_ranked) Z_X1_ranked rfl (by decide) ⟨by decide, by decide, Or.inl ⟨_, _, (List.mem_of_getElem? (l := xCls) (i := 0) rfl)⟩⟩ dL_law_953 q841 q842 q843 q125 q844 hy_25), (fun _ h => absurd h List.not_mem_nil)⟩)
theorem kL_law_956 (z : XKT) : XOi z xInf Y_L_law 956 (.inl (i_aload 2 957)) := ok_aload_n dL_law_956 rfl
theorem kL_law_957 (z : XKT) : XOi z xInf Y_L_law 957 (.inl (i_aload 0 958)) := ok_aload_n dL_law_957 rfl
theorem kL_law_958 (z : XKT) : XOi z xInf Y_L_law 958 (.inl (i_iload 4 960)) := ok_iload dL_law_958
theorem kL_law_960 (z : XKT) : XOi z xInf Y_L_law 960 (.inl (i_push (vI 1) 961)) := ok_iconst dL_law_960 rfl
theorem kL_law_961 (z : XKT) : XOi z xInf Y_L_law 961 (.inl (i_bin (fun x y => x + y) 962)) := ok_iadd dL_law_961
theorem kL_law_962 (z : XKT) : XOi z xInf Y_L_law 962 (.inl (i_ald 1000 963)) := ok_iald dL_law_962
theorem kL_law_963 (z : XKT) : XOi z xInf Y_L_law 963 (.inr (.inl (966, g_virt [(4, 268)] 1))) := show XOkC z xInf Y_L_law 963 966 (g_virt [(4, 268)] 1) from okc_V (q := Y_L_law) (List.forall_mem_cons.mpr ⟨(show XOkV z xInf Y_L_law 963 966 1 (4, 268) from okv_V (q := Y_L_law) (q1 := Y_X5_ranked) Z_X5_ranked rfl (by decide) ⟨by decide, by decide, Or.inl ⟨_, _, (List.mem_of_getElem? (l := xCls) (i := 3) rfl)⟩⟩ dL_law_963 q2701 q2702 q2703 q153 q2704 hy_26), (fun _ h => absurd h List.not_mem_nil)⟩)
theorem kL_law_966 (z : XKT) : XOi z xInf Y_L_law 966 (.inl (i_icmp (fun x y => x = y) 2723 969)) := ok_icmp_eq dL_law_966 rfl
theorem kL_law_969 (z : XKT) : XOi z xInf Y_L_law 969 (.inl (i_push (vI 0) 970)) := ok_iconst dL_law_969 rfl
theorem kL_law_970 (z : XKT) : XOi z xInf Y_L_law 970 (.inr (.inr (.inl (r_i .boolean)))) := show XOkR Y_L_law 970 ((r_i .boolean)) from okr_i (q := Y_L_law) (ty := .boolean) rfl rfl dL_law_970
theorem kL_law_971 (z : XKT) : XOi z xInf Y_L_law 971 (.inl (i_aload 1 972)) := ok_aload_n dL_law_971 rfl
theorem kL_law_972 (z : XKT) : XOi z xInf Y_L_law 972 (.inl (i_aload 0 973)) := ok_aload_n dL_law_972 rfl
theorem kL_law_973 (z : XKT) : XOi z xInf Y_L_law 973 (.inl (i_iload 4 975)) := ok_iload dL_law_973
theorem kL_law_975 (z : XKT) : XOi z xInf Y_L_law 975 (.inl (i_push (vI 1) 976)) := ok_iconst dL_law_975 rfl
theorem kL_law_976 (z : XKT) : XOi z xInf Y_L_law 976 (.inl (i_bin (fun x y => x + y) 977)) := ok_iadd dL_law_976
theorem kL_law_977 (z : XKT) : XOi z xInf Y_L_law 977 (.inl (i_ald 1000 978)) := ok_iald dL_law_977
theorem kL_law_978 (z : XKT) : XOi z xInf Y_L_law 978 (.inl (i_aload 3 979)) := ok_aload_n dL_law_978 rfl
theorem kL_law_979 (z : XKT) : XOi z xInf Y_L_law 979 (.inr (.inl (982, g_stat 11 3))) := show XOkC z xInf Y_L_law 979 982 (g_stat 11 3) from okc_SX (q := Y_L_law) (q1 := Y_X0_earned) Z_X0_earned rfl (by decide) dL_law_979 q2123 q2124 q124 q2125 hy_27
theorem kL_law_982 (z : XKT) : XOi z xInf Y_L_law 982 (.inl (i_istore 5 984)) := ok_istore dL_law_982
theorem kL_law_984 (z : XKT) : XOi z xInf Y_L_law 984 (.inl (i_aload 2 985)) := ok_aload_n dL_law_984 rfl
theorem kL_law_985 (z : XKT) : XOi z xInf Y_L_law 985 (.inl (i_aload 0 986)) := ok_aload_n dL_law_985 rfl
theorem kL_law_986 (z : XKT) : XOi z xInf Y_L_law 986 (.inl (i_iload 4 988)) := ok_iload dL_law_986
theorem kL_law_988 (z : XKT) : XOi z xInf Y_L_law 988 (.inl (i_push (vI 1) 989)) := ok_iconst dL_law_988 rfl
theorem kL_law_989 (z : XKT) : XOi z xInf Y_L_law 989 (.inl (i_bin (fun x y => x + y) 990)) := ok_iadd dL_law_989
theorem kL_law_990 (z : XKT) : XOi z xInf Y_L_law 990 (.inl (i_ald 1000 991)) := ok_iald dL_law_990
theorem kL_law_991 (z : XKT) : XOi z xInf Y_L_law 991 (.inr (.inl (994, g_virt [(4, 210)] 1))) := show XOkC z xInf Y_L_law 991 994 (g_virt [(4, 210)] 1) from okc_V (q := Y_L_law) (List.forall_mem_cons.mpr ⟨(show XOkV z xInf Y_L_law 991 994 1 (4, 210) from okv_V (q := Y_L_law) (q1 := Y_X5_earned) Z_X5_earned rfl (by decide) ⟨by decide, by decide, Or.inl ⟨_, _, (List.mem_of_getElem? (l := xCls) (i := 3) rfl)⟩⟩ dL_law_991 q2709 q2710 q2711 q153 q2712 hy_28), (fun _ h => absurd h List.not_mem_nil)⟩)
theorem kL_law_994 (z : XKT) : XOi z xInf Y_L_law 994 (.inl (i_istore 6 996)) := ok_istore dL_law_994
theorem kL_law_996 (z : XKT) : XOi z xInf Y_L_law 996 (.inl (i_aload 2 997)) := ok_aload_n dL_law_996 rfl
theorem kL_law_997 (z : XKT) : XOi z xInf Y_L_law 997 (.inr (.inl (1000, g_virt [(4, 292)] 0))) := show XOkC z xInf Y_L_law 997 1000 (g_virt [(4, 292)] 0) from okc_V (q := Y_L_law) (List.forall_mem_cons.mpr ⟨(show XOkV z xInf Y_L_law 997 1000 0 (4, 292) from okv_V (q := Y_L_law) (q1 := Y_X5_thrown) Z_X5_thrown rfl (by decide) ⟨by decide, by decide, Or.inl ⟨_, _, (List.mem_of_getElem? (l := xCls) (i := 3) rfl)⟩⟩ dL_law_997 q2595 q2596 q2597 q153 q2598 hy_6), (fun _ h => absurd h List.not_mem_nil)⟩)
theorem kL_law_1000 (z : XKT) : XOi z xInf Y_L_law 1000 (.inl (i_iload 5 1002)) := ok_iload dL_law_1000
theorem kL_law_1002 (z : XKT) : XOi z xInf Y_L_law 1002 (.inl (i_icmp (fun x y => x = y) 1007 1005)) := ok_icmp_eq dL_law_1002 rfl
theorem kL_law_1005 (z : XKT) : XOi z xInf Y_L_law 1005 (.inl (i_push (vI 0) 1006)) := ok_iconst dL_law_1005 rfl
theorem kL_law_1006 (z : XKT) : XOi z xInf Y_L_law 1006 (.inr (.inr (.inl (r_i .boolean)))) := show XOkR Y_L_law 1006 ((r_i .boolean)) from okr_i (q := Y_L_law) (ty := .boolean) rfl rfl dL_law_1006
theorem kL_law_1007 (z : XKT) : XOi z xInf Y_L_law 1007 (.inl (i_iload 5 1009)) := ok_iload dL_law_1007
theorem kL_law_1009 (z : XKT) : XOi z xInf Y_L_law 1009 (.inl (i_if (fun x => ¬ x = 0) 1024 1012)) := ok_if_ne dL_law_1009 rfl
theorem kL_law_1012 (z : XKT) : XOi z xInf Y_L_law 1012 (.inl (i_aload 3 1013)) := ok_aload_n dL_law_1012 rfl
theorem kL_law_1013 (z : XKT) : XOi z xInf Y_L_law 1013 (.inl (i_push (vI 0) 1014)) := ok_iconst dL_law_1013 rfl
theorem kL_law_1014 (z : XKT) : XOi z xInf Y_L_law 1014 (.inl (i_ajld 1002 1015)) := ok_lald dL_law_1014
theorem kL_law_1015 (z : XKT) : XOi z xInf Y_L_law 1015 (.inl (i_iload 6 1017)) := ok_iload dL_law_1015
theorem kL_law_1017 (z : XKT) : XOi z xInf Y_L_law 1017 (.inl (i_i2l 1018)) := ok_i2l dL_law_1017
theorem kL_law_1018 (z : XKT) : XOi z xInf Y_L_law 1018 (.inl (i_lcmp 1019)) := ok_lcmp dL_law_1018
theorem kL_law_1019 (z : XKT) : XOi z xInf Y_L_law 1019 (.inl (i_if (fun x => x = 0) 1024 1022)) := ok_if_eq dL_law_1019 rfl
theorem kL_law_1022 (z : XKT) : XOi z xInf Y_L_law 1022 (.inl (i_push (vI 0) 1023)) := ok_iconst dL_law_1022 rfl
theorem kL_law_1023 (z : XKT) : XOi z xInf Y_L_law 1023 (.inr (.inr (.inl (r_i .boolean)))) := show XOkR Y_L_law 1023 ((r_i .boolean)) from okr_i (q := Y_L_law) (ty := .boolean) rfl rfl dL_law_1023
theorem kL_law_1024 (z : XKT) : XOi z xInf Y_L_law 1024 (.inl (i_goto 2723)) := ok_goto dL_law_1024 rfl
theorem kL_law_1027 (z : XKT) : XOi z xInf Y_L_law 1027 (.inl (i_aload 1 1028)) := ok_aload_n dL_law_1027 rfl
theorem kL_law_1028 (z : XKT) : XOi z xInf Y_L_law 1028 (.inr (.inl (1031, g_virt [(1, 115)] 0))) := show XOkC z xInf Y_L_law 1028 1031 (g_virt [(1, 115)] 0) from okc_V (q := Y_L_law) (List.forall_mem_cons.mpr ⟨(show XOkV z xInf Y_L_law 1028 1031 0 (1, 115) from okv_V (q := Y_L_law) (q1 := Y_X1_richest) Z_X1_richest rfl (by decide) ⟨by decide, by decide, Or.inl ⟨_, _, (List.mem_of_getElem? (l := xCls) (i := 0) rfl)⟩⟩ dL_law_1028 q852 q853 q854 q125 q855 hy_29), (fun _ h => absurd h List.not_mem_nil)⟩)
theorem kL_law_1031 (z : XKT) : XOi z xInf Y_L_law 1031 (.inl (i_aload 2 1032)) := ok_aload_n dL_law_1031 rfl
theorem kL_law_1032 (z : XKT) : XOi z xInf Y_L_law 1032 (.inr (.inl (1035, g_virt [(4, 279)] 0))) := show XOkC z xInf Y_L_law 1032 1035 (g_virt [(4, 279)] 0) from okc_V (q := Y_L_law) (List.forall_mem_cons.mpr ⟨(show XOkV z xInf Y_L_law 1032 1035 0 (4, 279) from okv_V (q := Y_L_law) (q1 := Y_X5_richest) Z_X5_richest rfl (by decide) ⟨by decide, by decide, Or.inl ⟨_, _, (List.mem_of_getElem? (l := xCls) (i := 3) rfl)⟩⟩ dL_law_1032 q2749 q2750 q2751 q153 q2752 hy_30), (fun _ h => absurd h List.not_mem_nil)⟩)
theorem kL_law_1035 (z : XKT) : XOi z xInf Y_L_law 1035 (.inl (i_icmp (fun x y => x = y) 2723 1038)) := ok_icmp_eq dL_law_1035 rfl
theorem kL_law_1038 (z : XKT) : XOi z xInf Y_L_law 1038 (.inl (i_push (vI 0) 1039)) := ok_iconst dL_law_1038 rfl
theorem kL_law_1039 (z : XKT) : XOi z xInf Y_L_law 1039 (.inr (.inr (.inl (r_i .boolean)))) := show XOkR Y_L_law 1039 ((r_i .boolean)) from okr_i (q := Y_L_law) (ty := .boolean) rfl rfl dL_law_1039
theorem kL_law_1040 (z : XKT) : XOi z xInf Y_L_law 1040 (.inl (i_aload 1 1041)) := ok_aload_n dL_law_1040 rfl
theorem kL_law_1041 (z : XKT) : XOi z xInf Y_L_law 1041 (.inr (.inl (1044, g_virt [(1, 65)] 0))) := show XOkC z xInf Y_L_law 1041 1044 (g_virt [(1, 65)] 0) from okc_V (q := Y_L_law) (List.forall_mem_cons.mpr ⟨(show XOkV z xInf Y_L_law 1041 1044 0 (1, 65) from okv_V (q := Y_L_law) (q1 := Y_X1_gap) Z_X1_gap rfl (by decide) ⟨by decide, by decide, Or.inl ⟨_, _, (List.mem_of_getElem? (l := xCls) (i := 0) rfl)⟩⟩ dL_law_1041 q856 q857 q858 q125 q859 hy_31), (fun _ h => absurd h List.not_mem_nil)⟩)
theorem kL_law_1044 (z : XKT) : XOi z xInf Y_L_law 1044 (.inl (i_aload 2 1045)) := ok_aload_n dL_law_1044 rfl
theorem kL_law_1045 (z : XKT) : XOi z xInf Y_L_law 1045 (.inr (.inl (1048, g_virt [(4, 220)] 0))) := show XOkC z xInf Y_L_law 1045 1048 (g_virt [(4, 220)] 0) from okc_V (q := Y_L_law) (List.forall_mem_cons.mpr ⟨(show XOkV z xInf Y_L_law 1045 1048 0 (4, 220) from okv_V (q := Y_L_law) (q1 := Y_X5_gap) Z_X5_gap rfl (by decide) ⟨by decide, by decide, Or.inl ⟨_, _, (List.mem_of_getElem? (l := xCls) (i := 3) rfl)⟩⟩ dL_law_1045 q2753 q2754 q2755 q153 q2756 hy_32), (fun _ h => absurd h List.not_mem_nil)⟩)
theorem kL_law_1048 (z : XKT) : XOi z xInf Y_L_law 1048 (.inl (i_icmp (fun x y => x = y) 2723 1051)) := ok_icmp_eq dL_law_1048 rfl
theorem kL_law_1051 (z : XKT) : XOi z xInf Y_L_law 1051 (.inl (i_push (vI 0) 1052)) := ok_iconst dL_law_1051 rfl
theorem kL_law_1052 (z : XKT) : XOi z xInf Y_L_law 1052 (.inr (.inr (.inl (r_i .boolean)))) := show XOkR Y_L_law 1052 ((r_i .boolean)) from okr_i (q := Y_L_law) (ty := .boolean) rfl rfl dL_law_1052
theorem kL_law_1053 (z : XKT) : XOi z xInf Y_L_law 1053 (.inl (i_aload 1 1054)) := ok_aload_n dL_law_1053 rfl
theorem kL_law_1054 (z : XKT) : XOi z xInf Y_L_law 1054 (.inl (i_aload 0 1055)) := ok_aload_n dL_law_1054 rfl
theorem kL_law_1055 (z : XKT) : XOi z xInf Y_L_law 1055 (.inl (i_iload 4 1057)) := ok_iload dL_law_1055
theorem kL_law_1057 (z : XKT) : XOi z xInf Y_L_law 1057 (.inl (i_push (vI 1) 1058)) := ok_iconst dL_law_1057 rfl
theorem kL_law_1058 (z : XKT) : XOi z xInf Y_L_law 1058 (.inl (i_bin (fun x y => x + y) 1059)) := ok_iadd dL_law_1058
theorem kL_law_1059 (z : XKT) : XOi z xInf Y_L_law 1059 (.inl (i_ald 1000 1060)) := ok_iald dL_law_1059
theorem kL_law_1060 (z : XKT) : XOi z xInf Y_L_law 1060 (.inl (i_aload 3 1061)) := ok_aload_n dL_law_1060 rfl
theorem kL_law_1061 (z : XKT) : XOi z xInf Y_L_law 1061 (.inr (.inl (1064, g_stat 17 3))) := show XOkC z xInf Y_L_law 1061 1064 (g_stat 17 3) from okc_SX (q := Y_L_law) (q1 := Y_X0_level) Z_X0_level rfl (by decide) dL_law_1061 q2165 q2166 q124 q2167 hy_33
theorem kL_law_1064 (z : XKT) : XOi z xInf Y_L_law 1064 (.inl (i_istore 5 1066)) := ok_istore dL_law_1064
theorem kL_law_1066 (z : XKT) : XOi z xInf Y_L_law 1066 (.inl (i_aload 2 1067)) := ok_aload_n dL_law_1066 rfl
theorem kL_law_1067 (z : XKT) : XOi z xInf Y_L_law 1067 (.inl (i_aload 0 1068)) := ok_aload_n dL_law_1067 rfl
theorem kL_law_1068 (z : XKT) : XOi z xInf Y_L_law 1068 (.inl (i_iload 4 1070)) := ok_iload dL_law_1068
theorem kL_law_1070 (z : XKT) : XOi z xInf Y_L_law 1070 (.inl (i_push (vI 1) 1071)) := ok_iconst dL_law_1070 rfl
theorem kL_law_1071 (z : XKT) : XOi z xInf Y_L_law 1071 (.inl (i_bin (fun x y => x + y) 1072)) := ok_iadd dL_law_1071
theorem kL_law_1072 (z : XKT) : XOi z xInf Y_L_law 1072 (.inl (i_ald 1000 1073)) := ok_iald dL_law_1072
theorem kL_law_1073 (z : XKT) : XOi z xInf Y_L_law 1073 (.inr (.inl (1076, g_virt [(4, 244)] 1))) := show XOkC z xInf Y_L_law 1073 1076 (g_virt [(4, 244)] 1) from okc_V (q := Y_L_law) (List.forall_mem_cons.mpr ⟨(show XOkV z xInf Y_L_law 1073 1076 1 (4, 244) from okv_V (q := Y_L_law) (q1 := Y_X5_level) Z_X5_level rfl (by decide) ⟨by decide, by decide, Or.inl ⟨_, _, (List.mem_of_getElem? (l := xCls) (i := 3) rfl)⟩⟩ dL_law_1073 q2761 q2762 q2763 q153 q2764 hy_34), (fun _ h => absurd h List.not_mem_nil)⟩)
theorem kL_law_1076 (z : XKT) : XOi z xInf Y_L_law 1076 (.inl (i_istore 6 1078)) := ok_istore dL_law_1076
theorem kL_law_1078 (z : XKT) : XOi z xInf Y_L_law 1078 (.inl (i_aload 2 1079)) := ok_aload_n dL_law_1078 rfl
theorem kL_law_1079 (z : XKT) : XOi z xInf Y_L_law 1079 (.inr (.inl (1082, g_virt [(4, 292)] 0))) := show XOkC z xInf Y_L_law 1079 1082 (g_virt [(4, 292)] 0) from okc_V (q := Y_L_law) (List.forall_mem_cons.mpr ⟨(show XOkV z xInf Y_L_law 1079 1082 0 (4, 292) from okv_V (q := Y_L_law) (q1 := Y_X5_thrown) Z_X5_thrown rfl (by decide) ⟨by decide, by decide, Or.inl ⟨_, _, (List.mem_of_getElem? (l := xCls) (i := 3) rfl)⟩⟩ dL_law_1079 q2595 q2596 q2597 q153 q2598 hy_6), (fun _ h => absurd h List.not_mem_nil)⟩)
theorem kL_law_1082 (z : XKT) : XOi z xInf Y_L_law 1082 (.inl (i_iload 5 1084)) := ok_iload dL_law_1082
theorem kL_law_1084 (z : XKT) : XOi z xInf Y_L_law 1084 (.inl (i_icmp (fun x y => x = y) 1089 1087)) := ok_icmp_eq dL_law_1084 rfl
theorem kL_law_1087 (z : XKT) : XOi z xInf Y_L_law 1087 (.inl (i_push (vI 0) 1088)) := ok_iconst dL_law_1087 rfl
theorem kL_law_1088 (z : XKT) : XOi z xInf Y_L_law 1088 (.inr (.inr (.inl (r_i .boolean)))) := show XOkR Y_L_law 1088 ((r_i .boolean)) from okr_i (q := Y_L_law) (ty := .boolean) rfl rfl dL_law_1088
theorem kL_law_1089 (z : XKT) : XOi z xInf Y_L_law 1089 (.inl (i_iload 5 1091)) := ok_iload dL_law_1089
theorem kL_law_1091 (z : XKT) : XOi z xInf Y_L_law 1091 (.inl (i_if (fun x => ¬ x = 0) 1106 1094)) := ok_if_ne dL_law_1091 rfl
theorem kL_law_1094 (z : XKT) : XOi z xInf Y_L_law 1094 (.inl (i_aload 3 1095)) := ok_aload_n dL_law_1094 rfl
theorem kL_law_1095 (z : XKT) : XOi z xInf Y_L_law 1095 (.inl (i_push (vI 0) 1096)) := ok_iconst dL_law_1095 rfl
theorem kL_law_1096 (z : XKT) : XOi z xInf Y_L_law 1096 (.inl (i_ajld 1002 1097)) := ok_lald dL_law_1096
theorem kL_law_1097 (z : XKT) : XOi z xInf Y_L_law 1097 (.inl (i_iload 6 1099)) := ok_iload dL_law_1097
theorem kL_law_1099 (z : XKT) : XOi z xInf Y_L_law 1099 (.inl (i_i2l 1100)) := ok_i2l dL_law_1099
theorem kL_law_1100 (z : XKT) : XOi z xInf Y_L_law 1100 (.inl (i_lcmp 1101)) := ok_lcmp dL_law_1100
theorem kL_law_1101 (z : XKT) : XOi z xInf Y_L_law 1101 (.inl (i_if (fun x => x = 0) 1106 1104)) := ok_if_eq dL_law_1101 rfl
theorem kL_law_1104 (z : XKT) : XOi z xInf Y_L_law 1104 (.inl (i_push (vI 0) 1105)) := ok_iconst dL_law_1104 rfl
theorem kL_law_1105 (z : XKT) : XOi z xInf Y_L_law 1105 (.inr (.inr (.inl (r_i .boolean)))) := show XOkR Y_L_law 1105 ((r_i .boolean)) from okr_i (q := Y_L_law) (ty := .boolean) rfl rfl dL_law_1105
theorem kL_law_1106 (z : XKT) : XOi z xInf Y_L_law 1106 (.inl (i_goto 2723)) := ok_goto dL_law_1106 rfl
theorem kL_law_1109 (z : XKT) : XOi z xInf Y_L_law 1109 (.inl (i_aload 1 1110)) := ok_aload_n dL_law_1109 rfl
theorem kL_law_1110 (z : XKT) : XOi z xInf Y_L_law 1110 (.inl (i_aload 0 1111)) := ok_aload_n dL_law_1110 rfl
theorem kL_law_1111 (z : XKT) : XOi z xInf Y_L_law 1111 (.inl (i_iload 4 1113)) := ok_iload dL_law_1111
theorem kL_law_1113 (z : XKT) : XOi z xInf Y_L_law 1113 (.inl (i_push (vI 1) 1114)) := ok_iconst dL_law_1113 rfl
theorem kL_law_1114 (z : XKT) : XOi z xInf Y_L_law 1114 (.inl (i_bin (fun x y => x + y) 1115)) := ok_iadd dL_law_1114
theorem kL_law_1115 (z : XKT) : XOi z xInf Y_L_law 1115 (.inl (i_ald 1000 1116)) := ok_iald dL_law_1115
theorem kL_law_1116 (z : XKT) : XOi z xInf Y_L_law 1116 (.inl (i_if (fun x => x = 0) 1123 1119)) := ok_if_eq dL_law_1116 rfl
theorem kL_law_1119 (z : XKT) : XOi z xInf Y_L_law 1119 (.inl (i_push (vI 1) 1120)) := ok_iconst dL_law_1119 rfl
theorem kL_law_1120 (z : XKT) : XOi z xInf Y_L_law 1120 (.inl (i_goto 1124)) := ok_goto dL_law_1120 rfl
theorem kL_law_1123 (z : XKT) : XOi z xInf Y_L_law 1123 (.inl (i_push (vI 0) 1124)) := ok_iconst dL_law_1123 rfl
theorem kL_law_1124 (z : XKT) : XOi z xInf Y_L_law 1124 (.inr (.inl (1127, g_virt [(1, 124)] 1))) := show XOkC z xInf Y_L_law 1124 1127 (g_virt [(1, 124)] 1) from okc_V (q := Y_L_law) (List.forall_mem_cons.mpr ⟨(show XOkV z xInf Y_L_law 1124 1127 1 (1, 124) from okv_V (q := Y_L_law) (q1 := Y_X1_turnIn) Z_X1_turnIn rfl (by decide) ⟨by decide, by decide, Or.inl ⟨_, _, (List.mem_of_getElem? (l := xCls) (i := 0) rfl)⟩⟩ dL_law_1124 q1272 q1273 q1274 q125 q1275 hy_35), (fun _ h => absurd h List.not_mem_nil)⟩)
theorem kL_law_1127 (z : XKT) : XOi z xInf Y_L_law 1127 (.inl (i_aload 2 1128)) := ok_aload_n dL_law_1127 rfl
theorem kL_law_1128 (z : XKT) : XOi z xInf Y_L_law 1128 (.inl (i_aload 0 1129)) := ok_aload_n dL_law_1128 rfl
theorem kL_law_1129 (z : XKT) : XOi z xInf Y_L_law 1129 (.inl (i_iload 4 1131)) := ok_iload dL_law_1129
theorem kL_law_1131 (z : XKT) : XOi z xInf Y_L_law 1131 (.inl (i_push (vI 1) 1132)) := ok_iconst dL_law_1131 rfl
theorem kL_law_1132 (z : XKT) : XOi z xInf Y_L_law 1132 (.inl (i_bin (fun x y => x + y) 1133)) := ok_iadd dL_law_1132
theorem kL_law_1133 (z : XKT) : XOi z xInf Y_L_law 1133 (.inl (i_ald 1000 1134)) := ok_iald dL_law_1133
theorem kL_law_1134 (z : XKT) : XOi z xInf Y_L_law 1134 (.inl (i_if (fun x => x = 0) 1141 1137)) := ok_if_eq dL_law_1134 rfl
theorem kL_law_1137 (z : XKT) : XOi z xInf Y_L_law 1137 (.inl (i_push (vI 1) 1138)) := ok_iconst dL_law_1137 rfl
theorem kL_law_1138 (z : XKT) : XOi z xInf Y_L_law 1138 (.inl (i_goto 1142)) := ok_goto dL_law_1138 rfl
theorem kL_law_1141 (z : XKT) : XOi z xInf Y_L_law 1141 (.inl (i_push (vI 0) 1142)) := ok_iconst dL_law_1141 rfl
theorem kL_law_1142 (z : XKT) : XOi z xInf Y_L_law 1142 (.inr (.inl (1145, g_virt [(4, 297)] 1))) := show XOkC z xInf Y_L_law 1142 1145 (g_virt [(4, 297)] 1) from okc_V (q := Y_L_law) (List.forall_mem_cons.mpr ⟨(show XOkV z xInf Y_L_law 1142 1145 1 (4, 297) from okv_V (q := Y_L_law) (q1 := Y_X5_turnIn) Z_X5_turnIn rfl (by decide) ⟨by decide, by decide, Or.inl ⟨_, _, (List.mem_of_getElem? (l := xCls) (i := 3) rfl)⟩⟩ dL_law_1142 q2766 q2767 q2768 q153 q2769 hy_36), (fun _ h => absurd h List.not_mem_nil)⟩)
theorem kL_law_1145 (z : XKT) : XOi z xInf Y_L_law 1145 (.inl (i_icmp (fun x y => x = y) 2723 1148)) := ok_icmp_eq dL_law_1145 rfl
theorem kL_law_1148 (z : XKT) : XOi z xInf Y_L_law 1148 (.inl (i_push (vI 0) 1149)) := ok_iconst dL_law_1148 rfl
theorem kL_law_1149 (z : XKT) : XOi z xInf Y_L_law 1149 (.inr (.inr (.inl (r_i .boolean)))) := show XOkR Y_L_law 1149 ((r_i .boolean)) from okr_i (q := Y_L_law) (ty := .boolean) rfl rfl dL_law_1149
theorem kL_law_1150 (z : XKT) : XOi z xInf Y_L_law 1150 (.inl (i_aload 1 1151)) := ok_aload_n dL_law_1150 rfl
theorem kL_law_1151 (z : XKT) : XOi z xInf Y_L_law 1151 (.inl (i_aload 0 1152)) := ok_aload_n dL_law_1151 rfl
theorem kL_law_1152 (z : XKT) : XOi z xInf Y_L_law 1152 (.inl (i_iload 4 1154)) := ok_iload dL_law_1152
theorem kL_law_1154 (z : XKT) : XOi z xInf Y_L_law 1154 (.inl (i_push (vI 1) 1155)) := ok_iconst dL_law_1154 rfl
theorem kL_law_1155 (z : XKT) : XOi z xInf Y_L_law 1155 (.inl (i_bin (fun x y => x + y) 1156)) := ok_iadd dL_law_1155
theorem kL_law_1156 (z : XKT) : XOi z xInf Y_L_law 1156 (.inl (i_ald 1000 1157)) := ok_iald dL_law_1156
theorem kL_law_1157 (z : XKT) : XOi z xInf Y_L_law 1157 (.inl (i_aload 3 1158)) := ok_aload_n dL_law_1157 rfl
theorem kL_law_1158 (z : XKT) : XOi z xInf Y_L_law 1158 (.inr (.inl (1161, g_stat 9 3))) := show XOkC z xInf Y_L_law 1158 1161 (g_stat 9 3) from okc_SX (q := Y_L_law) (q1 := Y_X0_dryIn) Z_X0_dryIn rfl (by decide) dL_law_1158 q2173 q2174 q124 q2175 hy_37
theorem kL_law_1161 (z : XKT) : XOi z xInf Y_L_law 1161 (.inl (i_istore 5 1163)) := ok_istore dL_law_1161
theorem kL_law_1163 (z : XKT) : XOi z xInf Y_L_law 1163 (.inl (i_aload 2 1164)) := ok_aload_n dL_law_1163 rfl
theorem kL_law_1164 (z : XKT) : XOi z xInf Y_L_law 1164 (.inl (i_aload 0 1165)) := ok_aload_n dL_law_1164 rfl
theorem kL_law_1165 (z : XKT) : XOi z xInf Y_L_law 1165 (.inl (i_iload 4 1167)) := ok_iload dL_law_1165
theorem kL_law_1167 (z : XKT) : XOi z xInf Y_L_law 1167 (.inl (i_push (vI 1) 1168)) := ok_iconst dL_law_1167 rfl
theorem kL_law_1168 (z : XKT) : XOi z xInf Y_L_law 1168 (.inl (i_bin (fun x y => x + y) 1169)) := ok_iadd dL_law_1168
theorem kL_law_1169 (z : XKT) : XOi z xInf Y_L_law 1169 (.inl (i_ald 1000 1170)) := ok_iald dL_law_1169
theorem kL_law_1170 (z : XKT) : XOi z xInf Y_L_law 1170 (.inr (.inl (1173, g_virt [(4, 208)] 1))) := show XOkC z xInf Y_L_law 1170 1173 (g_virt [(4, 208)] 1) from okc_V (q := Y_L_law) (List.forall_mem_cons.mpr ⟨(show XOkV z xInf Y_L_law 1170 1173 1 (4, 208) from okv_V (q := Y_L_law) (q1 := Y_X5_dryIn) Z_X5_dryIn rfl (by decide) ⟨by decide, by decide, Or.inl ⟨_, _, (List.mem_of_getElem? (l := xCls) (i := 3) rfl)⟩⟩ dL_law_1170 q2770 q2771 q2772 q153 q2773 hy_38), (fun _ h => absurd h List.not_mem_nil)⟩)
theorem kL_law_1173 (z : XKT) : XOi z xInf Y_L_law 1173 (.inl (i_istore 6 1175)) := ok_istore dL_law_1173
theorem kL_law_1175 (z : XKT) : XOi z xInf Y_L_law 1175 (.inl (i_aload 2 1176)) := ok_aload_n dL_law_1175 rfl
theorem kL_law_1176 (z : XKT) : XOi z xInf Y_L_law 1176 (.inr (.inl (1179, g_virt [(4, 292)] 0))) := show XOkC z xInf Y_L_law 1176 1179 (g_virt [(4, 292)] 0) from okc_V (q := Y_L_law) (List.forall_mem_cons.mpr ⟨(show XOkV z xInf Y_L_law 1176 1179 0 (4, 292) from okv_V (q := Y_L_law) (q1 := Y_X5_thrown) Z_X5_thrown rfl (by decide) ⟨by decide, by decide, Or.inl ⟨_, _, (List.mem_of_getElem? (l := xCls) (i := 3) rfl)⟩⟩ dL_law_1176 q2595 q2596 q2597 q153 q2598 hy_6), (fun _ h => absurd h List.not_mem_nil)⟩)
theorem kL_law_1179 (z : XKT) : XOi z xInf Y_L_law 1179 (.inl (i_iload 5 1181)) := ok_iload dL_law_1179
theorem kL_law_1181 (z : XKT) : XOi z xInf Y_L_law 1181 (.inl (i_icmp (fun x y => x = y) 1186 1184)) := ok_icmp_eq dL_law_1181 rfl
theorem kL_law_1184 (z : XKT) : XOi z xInf Y_L_law 1184 (.inl (i_push (vI 0) 1185)) := ok_iconst dL_law_1184 rfl
theorem kL_law_1185 (z : XKT) : XOi z xInf Y_L_law 1185 (.inr (.inr (.inl (r_i .boolean)))) := show XOkR Y_L_law 1185 ((r_i .boolean)) from okr_i (q := Y_L_law) (ty := .boolean) rfl rfl dL_law_1185
theorem kL_law_1186 (z : XKT) : XOi z xInf Y_L_law 1186 (.inl (i_iload 5 1188)) := ok_iload dL_law_1186
theorem kL_law_1188 (z : XKT) : XOi z xInf Y_L_law 1188 (.inl (i_if (fun x => ¬ x = 0) 1203 1191)) := ok_if_ne dL_law_1188 rfl
theorem kL_law_1191 (z : XKT) : XOi z xInf Y_L_law 1191 (.inl (i_aload 3 1192)) := ok_aload_n dL_law_1191 rfl
theorem kL_law_1192 (z : XKT) : XOi z xInf Y_L_law 1192 (.inl (i_push (vI 0) 1193)) := ok_iconst dL_law_1192 rfl
theorem kL_law_1193 (z : XKT) : XOi z xInf Y_L_law 1193 (.inl (i_ajld 1002 1194)) := ok_lald dL_law_1193
theorem kL_law_1194 (z : XKT) : XOi z xInf Y_L_law 1194 (.inl (i_iload 6 1196)) := ok_iload dL_law_1194
theorem kL_law_1196 (z : XKT) : XOi z xInf Y_L_law 1196 (.inl (i_i2l 1197)) := ok_i2l dL_law_1196
theorem kL_law_1197 (z : XKT) : XOi z xInf Y_L_law 1197 (.inl (i_lcmp 1198)) := ok_lcmp dL_law_1197
theorem kL_law_1198 (z : XKT) : XOi z xInf Y_L_law 1198 (.inl (i_if (fun x => x = 0) 1203 1201)) := ok_if_eq dL_law_1198 rfl
theorem kL_law_1201 (z : XKT) : XOi z xInf Y_L_law 1201 (.inl (i_push (vI 0) 1202)) := ok_iconst dL_law_1201 rfl
theorem kL_law_1202 (z : XKT) : XOi z xInf Y_L_law 1202 (.inr (.inr (.inl (r_i .boolean)))) := show XOkR Y_L_law 1202 ((r_i .boolean)) from okr_i (q := Y_L_law) (ty := .boolean) rfl rfl dL_law_1202
theorem kL_law_1203 (z : XKT) : XOi z xInf Y_L_law 1203 (.inl (i_goto 2723)) := ok_goto dL_law_1203 rfl
theorem kL_law_1206 (z : XKT) : XOi z xInf Y_L_law 1206 (.inl (i_aload 1 1207)) := ok_aload_n dL_law_1206 rfl
theorem kL_law_1207 (z : XKT) : XOi z xInf Y_L_law 1207 (.inl (i_aload 0 1208)) := ok_aload_n dL_law_1207 rfl
theorem kL_law_1208 (z : XKT) : XOi z xInf Y_L_law 1208 (.inl (i_iload 4 1210)) := ok_iload dL_law_1208
theorem kL_law_1210 (z : XKT) : XOi z xInf Y_L_law 1210 (.inl (i_push (vI 1) 1211)) := ok_iconst dL_law_1210 rfl
theorem kL_law_1211 (z : XKT) : XOi z xInf Y_L_law 1211 (.inl (i_bin (fun x y => x + y) 1212)) := ok_iadd dL_law_1211
theorem kL_law_1212 (z : XKT) : XOi z xInf Y_L_law 1212 (.inl (i_ald 1000 1213)) := ok_iald dL_law_1212
theorem kL_law_1213 (z : XKT) : XOi z xInf Y_L_law 1213 (.inl (i_aload 3 1214)) := ok_aload_n dL_law_1213 rfl
theorem kL_law_1214 (z : XKT) : XOi z xInf Y_L_law 1214 (.inr (.inl (1217, g_stat 10 3))) := show XOkC z xInf Y_L_law 1214 1217 (g_stat 10 3) from okc_SX (q := Y_L_law) (q1 := Y_X0_dryTicks) Z_X0_dryTicks rfl (by decide) dL_law_1214 q2184 q2185 q124 q2186 hy_39
theorem kL_law_1217 (z : XKT) : XOi z xInf Y_L_law 1217 (.inl (i_istore 5 1219)) := ok_istore dL_law_1217
theorem kL_law_1219 (z : XKT) : XOi z xInf Y_L_law 1219 (.inl (i_aload 2 1220)) := ok_aload_n dL_law_1219 rfl
theorem kL_law_1220 (z : XKT) : XOi z xInf Y_L_law 1220 (.inl (i_aload 0 1221)) := ok_aload_n dL_law_1220 rfl
theorem kL_law_1221 (z : XKT) : XOi z xInf Y_L_law 1221 (.inl (i_iload 4 1223)) := ok_iload dL_law_1221
theorem kL_law_1223 (z : XKT) : XOi z xInf Y_L_law 1223 (.inl (i_push (vI 1) 1224)) := ok_iconst dL_law_1223 rfl
theorem kL_law_1224 (z : XKT) : XOi z xInf Y_L_law 1224 (.inl (i_bin (fun x y => x + y) 1225)) := ok_iadd dL_law_1224
theorem kL_law_1225 (z : XKT) : XOi z xInf Y_L_law 1225 (.inl (i_ald 1000 1226)) := ok_iald dL_law_1225
theorem kL_law_1226 (z : XKT) : XOi z xInf Y_L_law 1226 (.inr (.inl (1229, g_virt [(4, 209)] 1))) := show XOkC z xInf Y_L_law 1226 1229 (g_virt [(4, 209)] 1) from okc_V (q := Y_L_law) (List.forall_mem_cons.mpr ⟨(show XOkV z xInf Y_L_law 1226 1229 1 (4, 209) from okv_V (q := Y_L_law) (q1 := Y_X5_dryTicks) Z_X5_dryTicks rfl (by decide) ⟨by decide, by decide, Or.inl ⟨_, _, (List.mem_of_getElem? (l := xCls) (i := 3) rfl)⟩⟩ dL_law_1226 q2778 q2779 q2780 q153 q2781 hy_40), (fun _ h => absurd h List.not_mem_nil)⟩)
theorem kL_law_1229 (z : XKT) : XOi z xInf Y_L_law 1229 (.inl (i_istore 6 1231)) := ok_istore dL_law_1229
theorem kL_law_1231 (z : XKT) : XOi z xInf Y_L_law 1231 (.inl (i_aload 2 1232)) := ok_aload_n dL_law_1231 rfl
theorem kL_law_1232 (z : XKT) : XOi z xInf Y_L_law 1232 (.inr (.inl (1235, g_virt [(4, 292)] 0))) := show XOkC z xInf Y_L_law 1232 1235 (g_virt [(4, 292)] 0) from okc_V (q := Y_L_law) (List.forall_mem_cons.mpr ⟨(show XOkV z xInf Y_L_law 1232 1235 0 (4, 292) from okv_V (q := Y_L_law) (q1 := Y_X5_thrown) Z_X5_thrown rfl (by decide) ⟨by decide, by decide, Or.inl ⟨_, _, (List.mem_of_getElem? (l := xCls) (i := 3) rfl)⟩⟩ dL_law_1232 q2595 q2596 q2597 q153 q2598 hy_6), (fun _ h => absurd h List.not_mem_nil)⟩)
theorem kL_law_1235 (z : XKT) : XOi z xInf Y_L_law 1235 (.inl (i_iload 5 1237)) := ok_iload dL_law_1235
theorem kL_law_1237 (z : XKT) : XOi z xInf Y_L_law 1237 (.inl (i_icmp (fun x y => x = y) 1242 1240)) := ok_icmp_eq dL_law_1237 rfl
theorem kL_law_1240 (z : XKT) : XOi z xInf Y_L_law 1240 (.inl (i_push (vI 0) 1241)) := ok_iconst dL_law_1240 rfl
theorem kL_law_1241 (z : XKT) : XOi z xInf Y_L_law 1241 (.inr (.inr (.inl (r_i .boolean)))) := show XOkR Y_L_law 1241 ((r_i .boolean)) from okr_i (q := Y_L_law) (ty := .boolean) rfl rfl dL_law_1241
theorem kL_law_1242 (z : XKT) : XOi z xInf Y_L_law 1242 (.inl (i_iload 5 1244)) := ok_iload dL_law_1242
theorem kL_law_1244 (z : XKT) : XOi z xInf Y_L_law 1244 (.inl (i_if (fun x => ¬ x = 0) 1259 1247)) := ok_if_ne dL_law_1244 rfl
theorem kL_law_1247 (z : XKT) : XOi z xInf Y_L_law 1247 (.inl (i_aload 3 1248)) := ok_aload_n dL_law_1247 rfl
theorem kL_law_1248 (z : XKT) : XOi z xInf Y_L_law 1248 (.inl (i_push (vI 0) 1249)) := ok_iconst dL_law_1248 rfl
theorem kL_law_1249 (z : XKT) : XOi z xInf Y_L_law 1249 (.inl (i_ajld 1002 1250)) := ok_lald dL_law_1249
theorem kL_law_1250 (z : XKT) : XOi z xInf Y_L_law 1250 (.inl (i_iload 6 1252)) := ok_iload dL_law_1250
theorem kL_law_1252 (z : XKT) : XOi z xInf Y_L_law 1252 (.inl (i_i2l 1253)) := ok_i2l dL_law_1252
theorem kL_law_1253 (z : XKT) : XOi z xInf Y_L_law 1253 (.inl (i_lcmp 1254)) := ok_lcmp dL_law_1253
theorem kL_law_1254 (z : XKT) : XOi z xInf Y_L_law 1254 (.inl (i_if (fun x => x = 0) 1259 1257)) := ok_if_eq dL_law_1254 rfl
theorem kL_law_1257 (z : XKT) : XOi z xInf Y_L_law 1257 (.inl (i_push (vI 0) 1258)) := ok_iconst dL_law_1257 rfl
theorem kL_law_1258 (z : XKT) : XOi z xInf Y_L_law 1258 (.inr (.inr (.inl (r_i .boolean)))) := show XOkR Y_L_law 1258 ((r_i .boolean)) from okr_i (q := Y_L_law) (ty := .boolean) rfl rfl dL_law_1258
theorem kL_law_1259 (z : XKT) : XOi z xInf Y_L_law 1259 (.inl (i_goto 2723)) := ok_goto dL_law_1259 rfl
theorem kL_law_1262 (z : XKT) : XOi z xInf Y_L_law 1262 (.inl (i_aload 1 1263)) := ok_aload_n dL_law_1262 rfl
theorem kL_law_1263 (z : XKT) : XOi z xInf Y_L_law 1263 (.inl (i_aload 0 1264)) := ok_aload_n dL_law_1263 rfl
theorem kL_law_1264 (z : XKT) : XOi z xInf Y_L_law 1264 (.inl (i_iload 4 1266)) := ok_iload dL_law_1264
theorem kL_law_1266 (z : XKT) : XOi z xInf Y_L_law 1266 (.inl (i_push (vI 1) 1267)) := ok_iconst dL_law_1266 rfl
theorem kL_law_1267 (z : XKT) : XOi z xInf Y_L_law 1267 (.inl (i_bin (fun x y => x + y) 1268)) := ok_iadd dL_law_1267
theorem kL_law_1268 (z : XKT) : XOi z xInf Y_L_law 1268 (.inl (i_ald 1000 1269)) := ok_iald dL_law_1268
theorem kL_law_1269 (z : XKT) : XOi z xInf Y_L_law 1269 (.inl (i_aload 3 1270)) := ok_aload_n dL_law_1269 rfl
theorem kL_law_1270 (z : XKT) : XOi z xInf Y_L_law 1270 (.inr (.inl (1273, g_stat 20 3))) := show XOkC z xInf Y_L_law 1270 1273 (g_stat 20 3) from okc_SX (q := Y_L_law) (q1 := Y_X0_lostIn) Z_X0_lostIn rfl (by decide) dL_law_1270 q2192 q2193 q124 q2194 hy_41
theorem kL_law_1273 (z : XKT) : XOi z xInf Y_L_law 1273 (.inl (i_istore 5 1275)) := ok_istore dL_law_1273
theorem kL_law_1275 (z : XKT) : XOi z xInf Y_L_law 1275 (.inl (i_aload 2 1276)) := ok_aload_n dL_law_1275 rfl
theorem kL_law_1276 (z : XKT) : XOi z xInf Y_L_law 1276 (.inl (i_aload 0 1277)) := ok_aload_n dL_law_1276 rfl
theorem kL_law_1277 (z : XKT) : XOi z xInf Y_L_law 1277 (.inl (i_iload 4 1279)) := ok_iload dL_law_1277
theorem kL_law_1279 (z : XKT) : XOi z xInf Y_L_law 1279 (.inl (i_push (vI 1) 1280)) := ok_iconst dL_law_1279 rfl
theorem kL_law_1280 (z : XKT) : XOi z xInf Y_L_law 1280 (.inl (i_bin (fun x y => x + y) 1281)) := ok_iadd dL_law_1280
theorem kL_law_1281 (z : XKT) : XOi z xInf Y_L_law 1281 (.inl (i_ald 1000 1282)) := ok_iald dL_law_1281
theorem kL_law_1282 (z : XKT) : XOi z xInf Y_L_law 1282 (.inr (.inl (1285, g_virt [(4, 250)] 1))) := show XOkC z xInf Y_L_law 1282 1285 (g_virt [(4, 250)] 1) from okc_V (q := Y_L_law) (List.forall_mem_cons.mpr ⟨(show XOkV z xInf Y_L_law 1282 1285 1 (4, 250) from okv_V (q := Y_L_law) (q1 := Y_X5_lostIn) Z_X5_lostIn rfl (by decide) ⟨by decide, by decide, Or.inl ⟨_, _, (List.mem_of_getElem? (l := xCls) (i := 3) rfl)⟩⟩ dL_law_1282 q2786 q2787 q2788 q153 q2789 hy_42), (fun _ h => absurd h List.not_mem_nil)⟩)
theorem kL_law_1285 (z : XKT) : XOi z xInf Y_L_law 1285 (.inl (i_istore 6 1287)) := ok_istore dL_law_1285
theorem kL_law_1287 (z : XKT) : XOi z xInf Y_L_law 1287 (.inl (i_aload 2 1288)) := ok_aload_n dL_law_1287 rfl
theorem kL_law_1288 (z : XKT) : XOi z xInf Y_L_law 1288 (.inr (.inl (1291, g_virt [(4, 292)] 0))) := show XOkC z xInf Y_L_law 1288 1291 (g_virt [(4, 292)] 0) from okc_V (q := Y_L_law) (List.forall_mem_cons.mpr ⟨(show XOkV z xInf Y_L_law 1288 1291 0 (4, 292) from okv_V (q := Y_L_law) (q1 := Y_X5_thrown) Z_X5_thrown rfl (by decide) ⟨by decide, by decide, Or.inl ⟨_, _, (List.mem_of_getElem? (l := xCls) (i := 3) rfl)⟩⟩ dL_law_1288 q2595 q2596 q2597 q153 q2598 hy_6), (fun _ h => absurd h List.not_mem_nil)⟩)
theorem kL_law_1291 (z : XKT) : XOi z xInf Y_L_law 1291 (.inl (i_iload 5 1293)) := ok_iload dL_law_1291
theorem kL_law_1293 (z : XKT) : XOi z xInf Y_L_law 1293 (.inl (i_icmp (fun x y => x = y) 1298 1296)) := ok_icmp_eq dL_law_1293 rfl
theorem kL_law_1296 (z : XKT) : XOi z xInf Y_L_law 1296 (.inl (i_push (vI 0) 1297)) := ok_iconst dL_law_1296 rfl
theorem kL_law_1297 (z : XKT) : XOi z xInf Y_L_law 1297 (.inr (.inr (.inl (r_i .boolean)))) := show XOkR Y_L_law 1297 ((r_i .boolean)) from okr_i (q := Y_L_law) (ty := .boolean) rfl rfl dL_law_1297
theorem kL_law_1298 (z : XKT) : XOi z xInf Y_L_law 1298 (.inl (i_iload 5 1300)) := ok_iload dL_law_1298
theorem kL_law_1300 (z : XKT) : XOi z xInf Y_L_law 1300 (.inl (i_if (fun x => ¬ x = 0) 1315 1303)) := ok_if_ne dL_law_1300 rfl
theorem kL_law_1303 (z : XKT) : XOi z xInf Y_L_law 1303 (.inl (i_aload 3 1304)) := ok_aload_n dL_law_1303 rfl
theorem kL_law_1304 (z : XKT) : XOi z xInf Y_L_law 1304 (.inl (i_push (vI 0) 1305)) := ok_iconst dL_law_1304 rfl
theorem kL_law_1305 (z : XKT) : XOi z xInf Y_L_law 1305 (.inl (i_ajld 1002 1306)) := ok_lald dL_law_1305
theorem kL_law_1306 (z : XKT) : XOi z xInf Y_L_law 1306 (.inl (i_iload 6 1308)) := ok_iload dL_law_1306
theorem kL_law_1308 (z : XKT) : XOi z xInf Y_L_law 1308 (.inl (i_i2l 1309)) := ok_i2l dL_law_1308
theorem kL_law_1309 (z : XKT) : XOi z xInf Y_L_law 1309 (.inl (i_lcmp 1310)) := ok_lcmp dL_law_1309
theorem kL_law_1310 (z : XKT) : XOi z xInf Y_L_law 1310 (.inl (i_if (fun x => x = 0) 1315 1313)) := ok_if_eq dL_law_1310 rfl
theorem kL_law_1313 (z : XKT) : XOi z xInf Y_L_law 1313 (.inl (i_push (vI 0) 1314)) := ok_iconst dL_law_1313 rfl
theorem kL_law_1314 (z : XKT) : XOi z xInf Y_L_law 1314 (.inr (.inr (.inl (r_i .boolean)))) := show XOkR Y_L_law 1314 ((r_i .boolean)) from okr_i (q := Y_L_law) (ty := .boolean) rfl rfl dL_law_1314
theorem kL_law_1315 (z : XKT) : XOi z xInf Y_L_law 1315 (.inl (i_goto 2723)) := ok_goto dL_law_1315 rfl
theorem kL_law_1318 (z : XKT) : XOi z xInf Y_L_law 1318 (.inl (i_aload 1 1319)) := ok_aload_n dL_law_1318 rfl
theorem kL_law_1319 (z : XKT) : XOi z xInf Y_L_law 1319 (.inr (.inl (1322, g_virt [(1, 98)] 0))) := show XOkC z xInf Y_L_law 1319 1322 (g_virt [(1, 98)] 0) from okc_V (q := Y_L_law) (List.forall_mem_cons.mpr ⟨(show XOkV z xInf Y_L_law 1319 1322 0 (1, 98) from okv_V (q := Y_L_law) (q1 := Y_X1_nextLost) Z_X1_nextLost rfl (by decide) ⟨by decide, by decide, Or.inl ⟨_, _, (List.mem_of_getElem? (l := xCls) (i := 0) rfl)⟩⟩ dL_law_1319 q1276 q1277 q1278 q125 q1279 hy_43), (fun _ h => absurd h List.not_mem_nil)⟩)
theorem kL_law_1322 (z : XKT) : XOi z xInf Y_L_law 1322 (.inl (i_aload 2 1323)) := ok_aload_n dL_law_1322 rfl
theorem kL_law_1323 (z : XKT) : XOi z xInf Y_L_law 1323 (.inr (.inl (1326, g_virt [(4, 252)] 0))) := show XOkC z xInf Y_L_law 1323 1326 (g_virt [(4, 252)] 0) from okc_V (q := Y_L_law) (List.forall_mem_cons.mpr ⟨(show XOkV z xInf Y_L_law 1323 1326 0 (4, 252) from okv_V (q := Y_L_law) (q1 := Y_X5_nextLost) Z_X5_nextLost rfl (by decide) ⟨by decide, by decide, Or.inl ⟨_, _, (List.mem_of_getElem? (l := xCls) (i := 3) rfl)⟩⟩ dL_law_1323 q2794 q2795 q2796 q153 q2797 hy_44), (fun _ h => absurd h List.not_mem_nil)⟩)
theorem kL_law_1326 (z : XKT) : XOi z xInf Y_L_law 1326 (.inl (i_icmp (fun x y => x = y) 2723 1329)) := ok_icmp_eq dL_law_1326 rfl
theorem kL_law_1329 (z : XKT) : XOi z xInf Y_L_law 1329 (.inl (i_push (vI 0) 1330)) := ok_iconst dL_law_1329 rfl
theorem kL_law_1330 (z : XKT) : XOi z xInf Y_L_law 1330 (.inr (.inr (.inl (r_i .boolean)))) := show XOkR Y_L_law 1330 ((r_i .boolean)) from okr_i (q := Y_L_law) (ty := .boolean) rfl rfl dL_law_1330
theorem kL_law_1331 (z : XKT) : XOi z xInf Y_L_law 1331 (.inl (i_aload 1 1332)) := ok_aload_n dL_law_1331 rfl
theorem kL_law_1332 (z : XKT) : XOi z xInf Y_L_law 1332 (.inl (i_aload 0 1333)) := ok_aload_n dL_law_1332 rfl
theorem kL_law_1333 (z : XKT) : XOi z xInf Y_L_law 1333 (.inl (i_iload 4 1335)) := ok_iload dL_law_1333
theorem kL_law_1335 (z : XKT) : XOi z xInf Y_L_law 1335 (.inl (i_push (vI 1) 1336)) := ok_iconst dL_law_1335 rfl
theorem kL_law_1336 (z : XKT) : XOi z xInf Y_L_law 1336 (.inl (i_bin (fun x y => x + y) 1337)) := ok_iadd dL_law_1336
theorem kL_law_1337 (z : XKT) : XOi z xInf Y_L_law 1337 (.inl (i_ald 1000 1338)) := ok_iald dL_law_1337
theorem kL_law_1338 (z : XKT) : XOi z xInf Y_L_law 1338 (.inl (i_aload 3 1339)) := ok_aload_n dL_law_1338 rfl
theorem kL_law_1339 (z : XKT) : XOi z xInf Y_L_law 1339 (.inr (.inl (1342, g_stat 19 3))) := show XOkC z xInf Y_L_law 1339 1342 (g_stat 19 3) from okc_SX (q := Y_L_law) (q1 := Y_X0_lossIn) Z_X0_lossIn rfl (by decide) dL_law_1339 q2199 q2200 q124 q2201 hy_45
theorem kL_law_1342 (z : XKT) : XOi z xInf Y_L_law 1342 (.inl (i_istore 5 1344)) := ok_istore dL_law_1342
theorem kL_law_1344 (z : XKT) : XOi z xInf Y_L_law 1344 (.inl (i_aload 2 1345)) := ok_aload_n dL_law_1344 rfl
theorem kL_law_1345 (z : XKT) : XOi z xInf Y_L_law 1345 (.inl (i_aload 0 1346)) := ok_aload_n dL_law_1345 rfl
theorem kL_law_1346 (z : XKT) : XOi z xInf Y_L_law 1346 (.inl (i_iload 4 1348)) := ok_iload dL_law_1346
theorem kL_law_1348 (z : XKT) : XOi z xInf Y_L_law 1348 (.inl (i_push (vI 1) 1349)) := ok_iconst dL_law_1348 rfl
theorem kL_law_1349 (z : XKT) : XOi z xInf Y_L_law 1349 (.inl (i_bin (fun x y => x + y) 1350)) := ok_iadd dL_law_1349
theorem kL_law_1350 (z : XKT) : XOi z xInf Y_L_law 1350 (.inl (i_ald 1000 1351)) := ok_iald dL_law_1350
theorem kL_law_1351 (z : XKT) : XOi z xInf Y_L_law 1351 (.inr (.inl (1354, g_virt [(4, 249)] 1))) := show XOkC z xInf Y_L_law 1351 1354 (g_virt [(4, 249)] 1) from okc_V (q := Y_L_law) (List.forall_mem_cons.mpr ⟨(show XOkV z xInf Y_L_law 1351 1354 1 (4, 249) from okv_V (q := Y_L_law) (q1 := Y_X5_lossIn) Z_X5_lossIn rfl (by decide) ⟨by decide, by decide, Or.inl ⟨_, _, (List.mem_of_getElem? (l := xCls) (i := 3) rfl)⟩⟩ dL_law_1351 q2798 q2799 q2800 q153 q2801 hy_46), (fun _ h => absurd h List.not_mem_nil)⟩)
theorem kL_law_1354 (z : XKT) : XOi z xInf Y_L_law 1354 (.inl (i_istore 6 1356)) := ok_istore dL_law_1354
theorem kL_law_1356 (z : XKT) : XOi z xInf Y_L_law 1356 (.inl (i_aload 2 1357)) := ok_aload_n dL_law_1356 rfl
theorem kL_law_1357 (z : XKT) : XOi z xInf Y_L_law 1357 (.inr (.inl (1360, g_virt [(4, 292)] 0))) := show XOkC z xInf Y_L_law 1357 1360 (g_virt [(4, 292)] 0) from okc_V (q := Y_L_law) (List.forall_mem_cons.mpr ⟨(show XOkV z xInf Y_L_law 1357 1360 0 (4, 292) from okv_V (q := Y_L_law) (q1 := Y_X5_thrown) Z_X5_thrown rfl (by decide) ⟨by decide, by decide, Or.inl ⟨_, _, (List.mem_of_getElem? (l := xCls) (i := 3) rfl)⟩⟩ dL_law_1357 q2595 q2596 q2597 q153 q2598 hy_6), (fun _ h => absurd h List.not_mem_nil)⟩)
theorem kL_law_1360 (z : XKT) : XOi z xInf Y_L_law 1360 (.inl (i_iload 5 1362)) := ok_iload dL_law_1360
theorem kL_law_1362 (z : XKT) : XOi z xInf Y_L_law 1362 (.inl (i_icmp (fun x y => x = y) 1367 1365)) := ok_icmp_eq dL_law_1362 rfl
theorem kL_law_1365 (z : XKT) : XOi z xInf Y_L_law 1365 (.inl (i_push (vI 0) 1366)) := ok_iconst dL_law_1365 rfl
theorem kL_law_1366 (z : XKT) : XOi z xInf Y_L_law 1366 (.inr (.inr (.inl (r_i .boolean)))) := show XOkR Y_L_law 1366 ((r_i .boolean)) from okr_i (q := Y_L_law) (ty := .boolean) rfl rfl dL_law_1366
theorem kL_law_1367 (z : XKT) : XOi z xInf Y_L_law 1367 (.inl (i_iload 5 1369)) := ok_iload dL_law_1367
theorem kL_law_1369 (z : XKT) : XOi z xInf Y_L_law 1369 (.inl (i_if (fun x => ¬ x = 0) 1384 1372)) := ok_if_ne dL_law_1369 rfl
theorem kL_law_1372 (z : XKT) : XOi z xInf Y_L_law 1372 (.inl (i_aload 3 1373)) := ok_aload_n dL_law_1372 rfl
theorem kL_law_1373 (z : XKT) : XOi z xInf Y_L_law 1373 (.inl (i_push (vI 0) 1374)) := ok_iconst dL_law_1373 rfl
theorem kL_law_1374 (z : XKT) : XOi z xInf Y_L_law 1374 (.inl (i_ajld 1002 1375)) := ok_lald dL_law_1374
theorem kL_law_1375 (z : XKT) : XOi z xInf Y_L_law 1375 (.inl (i_iload 6 1377)) := ok_iload dL_law_1375
theorem kL_law_1377 (z : XKT) : XOi z xInf Y_L_law 1377 (.inl (i_i2l 1378)) := ok_i2l dL_law_1377
theorem kL_law_1378 (z : XKT) : XOi z xInf Y_L_law 1378 (.inl (i_lcmp 1379)) := ok_lcmp dL_law_1378
theorem kL_law_1379 (z : XKT) : XOi z xInf Y_L_law 1379 (.inl (i_if (fun x => x = 0) 1384 1382)) := ok_if_eq dL_law_1379 rfl
theorem kL_law_1382 (z : XKT) : XOi z xInf Y_L_law 1382 (.inl (i_push (vI 0) 1383)) := ok_iconst dL_law_1382 rfl
theorem kL_law_1383 (z : XKT) : XOi z xInf Y_L_law 1383 (.inr (.inr (.inl (r_i .boolean)))) := show XOkR Y_L_law 1383 ((r_i .boolean)) from okr_i (q := Y_L_law) (ty := .boolean) rfl rfl dL_law_1383
theorem kL_law_1384 (z : XKT) : XOi z xInf Y_L_law 1384 (.inl (i_goto 2723)) := ok_goto dL_law_1384 rfl
theorem kL_law_1387 (z : XKT) : XOi z xInf Y_L_law 1387 (.inl (i_aload 1 1388)) := ok_aload_n dL_law_1387 rfl
theorem kL_law_1388 (z : XKT) : XOi z xInf Y_L_law 1388 (.inl (i_aload 0 1389)) := ok_aload_n dL_law_1388 rfl
theorem kL_law_1389 (z : XKT) : XOi z xInf Y_L_law 1389 (.inl (i_iload 4 1391)) := ok_iload dL_law_1389
theorem kL_law_1391 (z : XKT) : XOi z xInf Y_L_law 1391 (.inl (i_push (vI 1) 1392)) := ok_iconst dL_law_1391 rfl
theorem kL_law_1392 (z : XKT) : XOi z xInf Y_L_law 1392 (.inl (i_bin (fun x y => x + y) 1393)) := ok_iadd dL_law_1392
theorem kL_law_1393 (z : XKT) : XOi z xInf Y_L_law 1393 (.inl (i_ald 1000 1394)) := ok_iald dL_law_1393
theorem kL_law_1394 (z : XKT) : XOi z xInf Y_L_law 1394 (.inl (i_aload 0 1395)) := ok_aload_n dL_law_1394 rfl
theorem kL_law_1395 (z : XKT) : XOi z xInf Y_L_law 1395 (.inl (i_iload 4 1397)) := ok_iload dL_law_1395
theorem kL_law_1397 (z : XKT) : XOi z xInf Y_L_law 1397 (.inl (i_push (vI 2) 1398)) := ok_iconst dL_law_1397 rfl
theorem kL_law_1398 (z : XKT) : XOi z xInf Y_L_law 1398 (.inl (i_bin (fun x y => x + y) 1399)) := ok_iadd dL_law_1398
theorem kL_law_1399 (z : XKT) : XOi z xInf Y_L_law 1399 (.inl (i_ald 1000 1400)) := ok_iald dL_law_1399
theorem kL_law_1400 (z : XKT) : XOi z xInf Y_L_law 1400 (.inl (i_aload 3 1401)) := ok_aload_n dL_law_1400 rfl
theorem kL_law_1401 (z : XKT) : XOi z xInf Y_L_law 1401 (.inr (.inl (1404, g_stat 29 4))) := show XOkC z xInf Y_L_law 1401 1404 (g_stat 29 4) from okc_SX (q := Y_L_law) (q1 := Y_X0_share) Z_X0_share rfl (by decide) dL_law_1401 q2206 q2207 q124 q2208 hy_47
theorem kL_law_1404 (z : XKT) : XOi z xInf Y_L_law 1404 (.inl (i_istore 5 1406)) := ok_istore dL_law_1404
theorem kL_law_1406 (z : XKT) : XOi z xInf Y_L_law 1406 (.inl (i_aload 2 1407)) := ok_aload_n dL_law_1406 rfl
theorem kL_law_1407 (z : XKT) : XOi z xInf Y_L_law 1407 (.inl (i_aload 0 1408)) := ok_aload_n dL_law_1407 rfl
theorem kL_law_1408 (z : XKT) : XOi z xInf Y_L_law 1408 (.inl (i_iload 4 1410)) := ok_iload dL_law_1408
theorem kL_law_1410 (z : XKT) : XOi z xInf Y_L_law 1410 (.inl (i_push (vI 1) 1411)) := ok_iconst dL_law_1410 rfl
theorem kL_law_1411 (z : XKT) : XOi z xInf Y_L_law 1411 (.inl (i_bin (fun x y => x + y) 1412)) := ok_iadd dL_law_1411
theorem kL_law_1412 (z : XKT) : XOi z xInf Y_L_law 1412 (.inl (i_ald 1000 1413)) := ok_iald dL_law_1412
theorem kL_law_1413 (z : XKT) : XOi z xInf Y_L_law 1413 (.inl (i_aload 0 1414)) := ok_aload_n dL_law_1413 rfl
theorem kL_law_1414 (z : XKT) : XOi z xInf Y_L_law 1414 (.inl (i_iload 4 1416)) := ok_iload dL_law_1414
theorem kL_law_1416 (z : XKT) : XOi z xInf Y_L_law 1416 (.inl (i_push (vI 2) 1417)) := ok_iconst dL_law_1416 rfl
theorem kL_law_1417 (z : XKT) : XOi z xInf Y_L_law 1417 (.inl (i_bin (fun x y => x + y) 1418)) := ok_iadd dL_law_1417
theorem kL_law_1418 (z : XKT) : XOi z xInf Y_L_law 1418 (.inl (i_ald 1000 1419)) := ok_iald dL_law_1418
theorem kL_law_1419 (z : XKT) : XOi z xInf Y_L_law 1419 (.inr (.inl (1422, g_virt [(4, 285)] 2))) := show XOkC z xInf Y_L_law 1419 1422 (g_virt [(4, 285)] 2) from okc_V (q := Y_L_law) (List.forall_mem_cons.mpr ⟨(show XOkV z xInf Y_L_law 1419 1422 2 (4, 285) from okv_V (q := Y_L_law) (q1 := Y_X5_share) Z_X5_share rfl (by decide) ⟨by decide, by decide, Or.inl ⟨_, _, (List.mem_of_getElem? (l := xCls) (i := 3) rfl)⟩⟩ dL_law_1419 q2802 q2803 q2804 q153 q2805 hy_48), (fun _ h => absurd h List.not_mem_nil)⟩)
theorem kL_law_1422 (z : XKT) : XOi z xInf Y_L_law 1422 (.inl (i_istore 6 1424)) := ok_istore dL_law_1422
theorem kL_law_1424 (z : XKT) : XOi z xInf Y_L_law 1424 (.inl (i_aload 2 1425)) := ok_aload_n dL_law_1424 rfl
theorem kL_law_1425 (z : XKT) : XOi z xInf Y_L_law 1425 (.inr (.inl (1428, g_virt [(4, 292)] 0))) := show XOkC z xInf Y_L_law 1425 1428 (g_virt [(4, 292)] 0) from okc_V (q := Y_L_law) (List.forall_mem_cons.mpr ⟨(show XOkV z xInf Y_L_law 1425 1428 0 (4, 292) from okv_V (q := Y_L_law) (q1 := Y_X5_thrown) Z_X5_thrown rfl (by decide) ⟨by decide, by decide, Or.inl ⟨_, _, (List.mem_of_getElem? (l := xCls) (i := 3) rfl)⟩⟩ dL_law_1425 q2595 q2596 q2597 q153 q2598 hy_6), (fun _ h => absurd h List.not_mem_nil)⟩)
theorem kL_law_1428 (z : XKT) : XOi z xInf Y_L_law 1428 (.inl (i_iload 5 1430)) := ok_iload dL_law_1428
theorem kL_law_1430 (z : XKT) : XOi z xInf Y_L_law 1430 (.inl (i_icmp (fun x y => x = y) 1435 1433)) := ok_icmp_eq dL_law_1430 rfl
theorem kL_law_1433 (z : XKT) : XOi z xInf Y_L_law 1433 (.inl (i_push (vI 0) 1434)) := ok_iconst dL_law_1433 rfl
theorem kL_law_1434 (z : XKT) : XOi z xInf Y_L_law 1434 (.inr (.inr (.inl (r_i .boolean)))) := show XOkR Y_L_law 1434 ((r_i .boolean)) from okr_i (q := Y_L_law) (ty := .boolean) rfl rfl dL_law_1434
theorem kL_law_1435 (z : XKT) : XOi z xInf Y_L_law 1435 (.inl (i_iload 5 1437)) := ok_iload dL_law_1435
theorem kL_law_1437 (z : XKT) : XOi z xInf Y_L_law 1437 (.inl (i_if (fun x => ¬ x = 0) 1452 1440)) := ok_if_ne dL_law_1437 rfl
theorem kL_law_1440 (z : XKT) : XOi z xInf Y_L_law 1440 (.inl (i_aload 3 1441)) := ok_aload_n dL_law_1440 rfl
theorem kL_law_1441 (z : XKT) : XOi z xInf Y_L_law 1441 (.inl (i_push (vI 0) 1442)) := ok_iconst dL_law_1441 rfl
theorem kL_law_1442 (z : XKT) : XOi z xInf Y_L_law 1442 (.inl (i_ajld 1002 1443)) := ok_lald dL_law_1442
theorem kL_law_1443 (z : XKT) : XOi z xInf Y_L_law 1443 (.inl (i_iload 6 1445)) := ok_iload dL_law_1443
theorem kL_law_1445 (z : XKT) : XOi z xInf Y_L_law 1445 (.inl (i_i2l 1446)) := ok_i2l dL_law_1445
theorem kL_law_1446 (z : XKT) : XOi z xInf Y_L_law 1446 (.inl (i_lcmp 1447)) := ok_lcmp dL_law_1446
theorem kL_law_1447 (z : XKT) : XOi z xInf Y_L_law 1447 (.inl (i_if (fun x => x = 0) 1452 1450)) := ok_if_eq dL_law_1447 rfl
theorem kL_law_1450 (z : XKT) : XOi z xInf Y_L_law 1450 (.inl (i_push (vI 0) 1451)) := ok_iconst dL_law_1450 rfl
theorem kL_law_1451 (z : XKT) : XOi z xInf Y_L_law 1451 (.inr (.inr (.inl (r_i .boolean)))) := show XOkR Y_L_law 1451 ((r_i .boolean)) from okr_i (q := Y_L_law) (ty := .boolean) rfl rfl dL_law_1451
theorem kL_law_1452 (z : XKT) : XOi z xInf Y_L_law 1452 (.inl (i_goto 2723)) := ok_goto dL_law_1452 rfl
theorem kL_law_1455 (z : XKT) : XOi z xInf Y_L_law 1455 (.inl (i_aload 1 1456)) := ok_aload_n dL_law_1455 rfl
theorem kL_law_1456 (z : XKT) : XOi z xInf Y_L_law 1456 (.inl (i_aload 0 1457)) := ok_aload_n dL_law_1456 rfl
theorem kL_law_1457 (z : XKT) : XOi z xInf Y_L_law 1457 (.inl (i_iload 4 1459)) := ok_iload dL_law_1457
theorem kL_law_1459 (z : XKT) : XOi z xInf Y_L_law 1459 (.inl (i_push (vI 1) 1460)) := ok_iconst dL_law_1459 rfl
theorem kL_law_1460 (z : XKT) : XOi z xInf Y_L_law 1460 (.inl (i_bin (fun x y => x + y) 1461)) := ok_iadd dL_law_1460
theorem kL_law_1461 (z : XKT) : XOi z xInf Y_L_law 1461 (.inl (i_ald 1000 1462)) := ok_iald dL_law_1461
theorem kL_law_1462 (z : XKT) : XOi z xInf Y_L_law 1462 (.inl (i_aload 3 1463)) := ok_aload_n dL_law_1462 rfl
theorem kL_law_1463 (z : XKT) : XOi z xInf Y_L_law 1463 (.inr (.inl (1466, g_stat 7 3))) := show XOkC z xInf Y_L_law 1463 1466 (g_stat 7 3) from okc_SX (q := Y_L_law) (q1 := Y_X0_crownShare) Z_X0_crownShare rfl (by decide) dL_law_1463 q2213 q2214 q124 q2215 hy_49
theorem kL_law_1466 (z : XKT) : XOi z xInf Y_L_law 1466 (.inl (i_istore 5 1468)) := ok_istore dL_law_1466
theorem kL_law_1468 (z : XKT) : XOi z xInf Y_L_law 1468 (.inl (i_aload 2 1469)) := ok_aload_n dL_law_1468 rfl
theorem kL_law_1469 (z : XKT) : XOi z xInf Y_L_law 1469 (.inl (i_aload 0 1470)) := ok_aload_n dL_law_1469 rfl
theorem kL_law_1470 (z : XKT) : XOi z xInf Y_L_law 1470 (.inl (i_iload 4 1472)) := ok_iload dL_law_1470
theorem kL_law_1472 (z : XKT) : XOi z xInf Y_L_law 1472 (.inl (i_push (vI 1) 1473)) := ok_iconst dL_law_1472 rfl
theorem kL_law_1473 (z : XKT) : XOi z xInf Y_L_law 1473 (.inl (i_bin (fun x y => x + y) 1474)) := ok_iadd dL_law_1473
theorem kL_law_1474 (z : XKT) : XOi z xInf Y_L_law 1474 (.inl (i_ald 1000 1475)) := ok_iald dL_law_1474
theorem kL_law_1475 (z : XKT) : XOi z xInf Y_L_law 1475 (.inr (.inl (1478, g_virt [(4, 193)] 1))) := show XOkC z xInf Y_L_law 1475 1478 (g_virt [(4, 193)] 1) from okc_V (q := Y_L_law) (List.forall_mem_cons.mpr ⟨(show XOkV z xInf Y_L_law 1475 1478 1 (4, 193) from okv_V (q := Y_L_law) (q1 := Y_X5_crownShare) Z_X5_crownShare rfl (by decide) ⟨by decide, by decide, Or.inl ⟨_, _, (List.mem_of_getElem? (l := xCls) (i := 3) rfl)⟩⟩ dL_law_1475 q2806 q2807 q2808 q153 q2809 hy_50), (fun _ h => absurd h List.not_mem_nil)⟩)
theorem kL_law_1478 (z : XKT) : XOi z xInf Y_L_law 1478 (.inl (i_istore 6 1480)) := ok_istore dL_law_1478
theorem kL_law_1480 (z : XKT) : XOi z xInf Y_L_law 1480 (.inl (i_aload 2 1481)) := ok_aload_n dL_law_1480 rfl
theorem kL_law_1481 (z : XKT) : XOi z xInf Y_L_law 1481 (.inr (.inl (1484, g_virt [(4, 292)] 0))) := show XOkC z xInf Y_L_law 1481 1484 (g_virt [(4, 292)] 0) from okc_V (q := Y_L_law) (List.forall_mem_cons.mpr ⟨(show XOkV z xInf Y_L_law 1481 1484 0 (4, 292) from okv_V (q := Y_L_law) (q1 := Y_X5_thrown) Z_X5_thrown rfl (by decide) ⟨by decide, by decide, Or.inl ⟨_, _, (List.mem_of_getElem? (l := xCls) (i := 3) rfl)⟩⟩ dL_law_1481 q2595 q2596 q2597 q153 q2598 hy_6), (fun _ h => absurd h List.not_mem_nil)⟩)
theorem kL_law_1484 (z : XKT) : XOi z xInf Y_L_law 1484 (.inl (i_iload 5 1486)) := ok_iload dL_law_1484
theorem kL_law_1486 (z : XKT) : XOi z xInf Y_L_law 1486 (.inl (i_icmp (fun x y => x = y) 1491 1489)) := ok_icmp_eq dL_law_1486 rfl
theorem kL_law_1489 (z : XKT) : XOi z xInf Y_L_law 1489 (.inl (i_push (vI 0) 1490)) := ok_iconst dL_law_1489 rfl
theorem kL_law_1490 (z : XKT) : XOi z xInf Y_L_law 1490 (.inr (.inr (.inl (r_i .boolean)))) := show XOkR Y_L_law 1490 ((r_i .boolean)) from okr_i (q := Y_L_law) (ty := .boolean) rfl rfl dL_law_1490
theorem kL_law_1491 (z : XKT) : XOi z xInf Y_L_law 1491 (.inl (i_iload 5 1493)) := ok_iload dL_law_1491
theorem kL_law_1493 (z : XKT) : XOi z xInf Y_L_law 1493 (.inl (i_if (fun x => ¬ x = 0) 1508 1496)) := ok_if_ne dL_law_1493 rfl
theorem kL_law_1496 (z : XKT) : XOi z xInf Y_L_law 1496 (.inl (i_aload 3 1497)) := ok_aload_n dL_law_1496 rfl
theorem kL_law_1497 (z : XKT) : XOi z xInf Y_L_law 1497 (.inl (i_push (vI 0) 1498)) := ok_iconst dL_law_1497 rfl
theorem kL_law_1498 (z : XKT) : XOi z xInf Y_L_law 1498 (.inl (i_ajld 1002 1499)) := ok_lald dL_law_1498
theorem kL_law_1499 (z : XKT) : XOi z xInf Y_L_law 1499 (.inl (i_iload 6 1501)) := ok_iload dL_law_1499
theorem kL_law_1501 (z : XKT) : XOi z xInf Y_L_law 1501 (.inl (i_i2l 1502)) := ok_i2l dL_law_1501
theorem kL_law_1502 (z : XKT) : XOi z xInf Y_L_law 1502 (.inl (i_lcmp 1503)) := ok_lcmp dL_law_1502
theorem kL_law_1503 (z : XKT) : XOi z xInf Y_L_law 1503 (.inl (i_if (fun x => x = 0) 1508 1506)) := ok_if_eq dL_law_1503 rfl
theorem kL_law_1506 (z : XKT) : XOi z xInf Y_L_law 1506 (.inl (i_push (vI 0) 1507)) := ok_iconst dL_law_1506 rfl
theorem kL_law_1507 (z : XKT) : XOi z xInf Y_L_law 1507 (.inr (.inr (.inl (r_i .boolean)))) := show XOkR Y_L_law 1507 ((r_i .boolean)) from okr_i (q := Y_L_law) (ty := .boolean) rfl rfl dL_law_1507
theorem kL_law_1508 (z : XKT) : XOi z xInf Y_L_law 1508 (.inl (i_goto 2723)) := ok_goto dL_law_1508 rfl
theorem kL_law_1511 (z : XKT) : XOi z xInf Y_L_law 1511 (.inl (i_aload 1 1512)) := ok_aload_n dL_law_1511 rfl
theorem kL_law_1512 (z : XKT) : XOi z xInf Y_L_law 1512 (.inl (i_aload 0 1513)) := ok_aload_n dL_law_1512 rfl
theorem kL_law_1513 (z : XKT) : XOi z xInf Y_L_law 1513 (.inl (i_iload 4 1515)) := ok_iload dL_law_1513
theorem kL_law_1515 (z : XKT) : XOi z xInf Y_L_law 1515 (.inl (i_push (vI 1) 1516)) := ok_iconst dL_law_1515 rfl
theorem kL_law_1516 (z : XKT) : XOi z xInf Y_L_law 1516 (.inl (i_bin (fun x y => x + y) 1517)) := ok_iadd dL_law_1516
theorem kL_law_1517 (z : XKT) : XOi z xInf Y_L_law 1517 (.inl (i_ald 1000 1518)) := ok_iald dL_law_1517
theorem kL_law_1518 (z : XKT) : XOi z xInf Y_L_law 1518 (.inl (i_aload 3 1519)) := ok_aload_n dL_law_1518 rfl
theorem kL_law_1519 (z : XKT) : XOi z xInf Y_L_law 1519 (.inr (.inl (1522, g_stat 24 3))) := show XOkC z xInf Y_L_law 1519 1522 (g_stat 24 3) from okc_SX (q := Y_L_law) (q1 := Y_X0_ownerShare) Z_X0_ownerShare rfl (by decide) dL_law_1519 q2223 q2224 q124 q2225 hy_51
theorem kL_law_1522 (z : XKT) : XOi z xInf Y_L_law 1522 (.inl (i_istore 5 1524)) := ok_istore dL_law_1522
theorem kL_law_1524 (z : XKT) : XOi z xInf Y_L_law 1524 (.inl (i_aload 2 1525)) := ok_aload_n dL_law_1524 rfl
theorem kL_law_1525 (z : XKT) : XOi z xInf Y_L_law 1525 (.inl (i_aload 0 1526)) := ok_aload_n dL_law_1525 rfl
theorem kL_law_1526 (z : XKT) : XOi z xInf Y_L_law 1526 (.inl (i_iload 4 1528)) := ok_iload dL_law_1526
theorem kL_law_1528 (z : XKT) : XOi z xInf Y_L_law 1528 (.inl (i_push (vI 1) 1529)) := ok_iconst dL_law_1528 rfl
theorem kL_law_1529 (z : XKT) : XOi z xInf Y_L_law 1529 (.inl (i_bin (fun x y => x + y) 1530)) := ok_iadd dL_law_1529
theorem kL_law_1530 (z : XKT) : XOi z xInf Y_L_law 1530 (.inl (i_ald 1000 1531)) := ok_iald dL_law_1530
theorem kL_law_1531 (z : XKT) : XOi z xInf Y_L_law 1531 (.inr (.inl (1534, g_virt [(4, 260)] 1))) := show XOkC z xInf Y_L_law 1531 1534 (g_virt [(4, 260)] 1) from okc_V (q := Y_L_law) (List.forall_mem_cons.mpr ⟨(show XOkV z xInf Y_L_law 1531 1534 1 (4, 260) from okv_V (q := Y_L_law) (q1 := Y_X5_ownerShare) Z_X5_ownerShare rfl (by decide) ⟨by decide, by decide, Or.inl ⟨_, _, (List.mem_of_getElem? (l := xCls) (i := 3) rfl)⟩⟩ dL_law_1531 q2810 q2811 q2812 q153 q2813 hy_52), (fun _ h => absurd h List.not_mem_nil)⟩)
theorem kL_law_1534 (z : XKT) : XOi z xInf Y_L_law 1534 (.inl (i_istore 6 1536)) := ok_istore dL_law_1534
theorem kL_law_1536 (z : XKT) : XOi z xInf Y_L_law 1536 (.inl (i_aload 2 1537)) := ok_aload_n dL_law_1536 rfl
theorem kL_law_1537 (z : XKT) : XOi z xInf Y_L_law 1537 (.inr (.inl (1540, g_virt [(4, 292)] 0))) := show XOkC z xInf Y_L_law 1537 1540 (g_virt [(4, 292)] 0) from okc_V (q := Y_L_law) (List.forall_mem_cons.mpr ⟨(show XOkV z xInf Y_L_law 1537 1540 0 (4, 292) from okv_V (q := Y_L_law) (q1 := Y_X5_thrown) Z_X5_thrown rfl (by decide) ⟨by decide, by decide, Or.inl ⟨_, _, (List.mem_of_getElem? (l := xCls) (i := 3) rfl)⟩⟩ dL_law_1537 q2595 q2596 q2597 q153 q2598 hy_6), (fun _ h => absurd h List.not_mem_nil)⟩)
theorem kL_law_1540 (z : XKT) : XOi z xInf Y_L_law 1540 (.inl (i_iload 5 1542)) := ok_iload dL_law_1540
theorem kL_law_1542 (z : XKT) : XOi z xInf Y_L_law 1542 (.inl (i_icmp (fun x y => x = y) 1547 1545)) := ok_icmp_eq dL_law_1542 rfl
theorem kL_law_1545 (z : XKT) : XOi z xInf Y_L_law 1545 (.inl (i_push (vI 0) 1546)) := ok_iconst dL_law_1545 rfl
theorem kL_law_1546 (z : XKT) : XOi z xInf Y_L_law 1546 (.inr (.inr (.inl (r_i .boolean)))) := show XOkR Y_L_law 1546 ((r_i .boolean)) from okr_i (q := Y_L_law) (ty := .boolean) rfl rfl dL_law_1546
theorem kL_law_1547 (z : XKT) : XOi z xInf Y_L_law 1547 (.inl (i_iload 5 1549)) := ok_iload dL_law_1547
theorem kL_law_1549 (z : XKT) : XOi z xInf Y_L_law 1549 (.inl (i_if (fun x => ¬ x = 0) 1564 1552)) := ok_if_ne dL_law_1549 rfl
theorem kL_law_1552 (z : XKT) : XOi z xInf Y_L_law 1552 (.inl (i_aload 3 1553)) := ok_aload_n dL_law_1552 rfl
theorem kL_law_1553 (z : XKT) : XOi z xInf Y_L_law 1553 (.inl (i_push (vI 0) 1554)) := ok_iconst dL_law_1553 rfl
theorem kL_law_1554 (z : XKT) : XOi z xInf Y_L_law 1554 (.inl (i_ajld 1002 1555)) := ok_lald dL_law_1554
theorem kL_law_1555 (z : XKT) : XOi z xInf Y_L_law 1555 (.inl (i_iload 6 1557)) := ok_iload dL_law_1555
theorem kL_law_1557 (z : XKT) : XOi z xInf Y_L_law 1557 (.inl (i_i2l 1558)) := ok_i2l dL_law_1557
theorem kL_law_1558 (z : XKT) : XOi z xInf Y_L_law 1558 (.inl (i_lcmp 1559)) := ok_lcmp dL_law_1558
theorem kL_law_1559 (z : XKT) : XOi z xInf Y_L_law 1559 (.inl (i_if (fun x => x = 0) 1564 1562)) := ok_if_eq dL_law_1559 rfl
theorem kL_law_1562 (z : XKT) : XOi z xInf Y_L_law 1562 (.inl (i_push (vI 0) 1563)) := ok_iconst dL_law_1562 rfl
theorem kL_law_1563 (z : XKT) : XOi z xInf Y_L_law 1563 (.inr (.inr (.inl (r_i .boolean)))) := show XOkR Y_L_law 1563 ((r_i .boolean)) from okr_i (q := Y_L_law) (ty := .boolean) rfl rfl dL_law_1563
theorem kL_law_1564 (z : XKT) : XOi z xInf Y_L_law 1564 (.inl (i_goto 2723)) := ok_goto dL_law_1564 rfl
theorem kL_law_1567 (z : XKT) : XOi z xInf Y_L_law 1567 (.inl (i_aload 1 1568)) := ok_aload_n dL_law_1567 rfl
theorem kL_law_1568 (z : XKT) : XOi z xInf Y_L_law 1568 (.inl (i_aload 0 1569)) := ok_aload_n dL_law_1568 rfl
theorem kL_law_1569 (z : XKT) : XOi z xInf Y_L_law 1569 (.inl (i_iload 4 1571)) := ok_iload dL_law_1569
theorem kL_law_1571 (z : XKT) : XOi z xInf Y_L_law 1571 (.inl (i_push (vI 1) 1572)) := ok_iconst dL_law_1571 rfl
theorem kL_law_1572 (z : XKT) : XOi z xInf Y_L_law 1572 (.inl (i_bin (fun x y => x + y) 1573)) := ok_iadd dL_law_1572
theorem kL_law_1573 (z : XKT) : XOi z xInf Y_L_law 1573 (.inl (i_ald 1000 1574)) := ok_iald dL_law_1573
theorem kL_law_1574 (z : XKT) : XOi z xInf Y_L_law 1574 (.inl (i_aload 3 1575)) := ok_aload_n dL_law_1574 rfl
theorem kL_law_1575 (z : XKT) : XOi z xInf Y_L_law 1575 (.inr (.inl (1578, g_stat 32 3))) := show XOkC z xInf Y_L_law 1575 1578 (g_stat 32 3) from okc_SX (q := Y_L_law) (q1 := Y_X0_unequal) Z_X0_unequal rfl (by decide) dL_law_1575 q2233 q2234 q124 q2235 hy_53
theorem kL_law_1578 (z : XKT) : XOi z xInf Y_L_law 1578 (.inl (i_istore 5 1580)) := ok_istore dL_law_1578
theorem kL_law_1580 (z : XKT) : XOi z xInf Y_L_law 1580 (.inl (i_aload 2 1581)) := ok_aload_n dL_law_1580 rfl
theorem kL_law_1581 (z : XKT) : XOi z xInf Y_L_law 1581 (.inl (i_aload 0 1582)) := ok_aload_n dL_law_1581 rfl
theorem kL_law_1582 (z : XKT) : XOi z xInf Y_L_law 1582 (.inl (i_iload 4 1584)) := ok_iload dL_law_1582
theorem kL_law_1584 (z : XKT) : XOi z xInf Y_L_law 1584 (.inl (i_push (vI 1) 1585)) := ok_iconst dL_law_1584 rfl
theorem kL_law_1585 (z : XKT) : XOi z xInf Y_L_law 1585 (.inl (i_bin (fun x y => x + y) 1586)) := ok_iadd dL_law_1585
theorem kL_law_1586 (z : XKT) : XOi z xInf Y_L_law 1586 (.inl (i_ald 1000 1587)) := ok_iald dL_law_1586
theorem kL_law_1587 (z : XKT) : XOi z xInf Y_L_law 1587 (.inr (.inl (1590, g_virt [(4, 300)] 1))) := show XOkC z xInf Y_L_law 1587 1590 (g_virt [(4, 300)] 1) from okc_V (q := Y_L_law) (List.forall_mem_cons.mpr ⟨(show XOkV z xInf Y_L_law 1587 1590 1 (4, 300) from okv_V (q := Y_L_law) (q1 := Y_X5_unequal) Z_X5_unequal rfl (by decide) ⟨by decide, by decide, Or.inl ⟨_, _, (List.mem_of_getElem? (l := xCls) (i := 3) rfl)⟩⟩ dL_law_1587 q2814 q2815 q2816 q153 q2817 hy_54), (fun _ h => absurd h List.not_mem_nil)⟩)
theorem kL_law_1590 (z : XKT) : XOi z xInf Y_L_law 1590 (.inl (i_istore 6 1592)) := ok_istore dL_law_1590
theorem kL_law_1592 (z : XKT) : XOi z xInf Y_L_law 1592 (.inl (i_aload 2 1593)) := ok_aload_n dL_law_1592 rfl
theorem kL_law_1593 (z : XKT) : XOi z xInf Y_L_law 1593 (.inr (.inl (1596, g_virt [(4, 292)] 0))) := show XOkC z xInf Y_L_law 1593 1596 (g_virt [(4, 292)] 0) from okc_V (q := Y_L_law) (List.forall_mem_cons.mpr ⟨(show XOkV z xInf Y_L_law 1593 1596 0 (4, 292) from okv_V (q := Y_L_law) (q1 := Y_X5_thrown) Z_X5_thrown rfl (by decide) ⟨by decide, by decide, Or.inl ⟨_, _, (List.mem_of_getElem? (l := xCls) (i := 3) rfl)⟩⟩ dL_law_1593 q2595 q2596 q2597 q153 q2598 hy_6), (fun _ h => absurd h List.not_mem_nil)⟩)
theorem kL_law_1596 (z : XKT) : XOi z xInf Y_L_law 1596 (.inl (i_iload 5 1598)) := ok_iload dL_law_1596
theorem kL_law_1598 (z : XKT) : XOi z xInf Y_L_law 1598 (.inl (i_icmp (fun x y => x = y) 1603 1601)) := ok_icmp_eq dL_law_1598 rfl
theorem kL_law_1601 (z : XKT) : XOi z xInf Y_L_law 1601 (.inl (i_push (vI 0) 1602)) := ok_iconst dL_law_1601 rfl
theorem kL_law_1602 (z : XKT) : XOi z xInf Y_L_law 1602 (.inr (.inr (.inl (r_i .boolean)))) := show XOkR Y_L_law 1602 ((r_i .boolean)) from okr_i (q := Y_L_law) (ty := .boolean) rfl rfl dL_law_1602
theorem kL_law_1603 (z : XKT) : XOi z xInf Y_L_law 1603 (.inl (i_iload 5 1605)) := ok_iload dL_law_1603
theorem kL_law_1605 (z : XKT) : XOi z xInf Y_L_law 1605 (.inl (i_if (fun x => ¬ x = 0) 1620 1608)) := ok_if_ne dL_law_1605 rfl
theorem kL_law_1608 (z : XKT) : XOi z xInf Y_L_law 1608 (.inl (i_aload 3 1609)) := ok_aload_n dL_law_1608 rfl
theorem kL_law_1609 (z : XKT) : XOi z xInf Y_L_law 1609 (.inl (i_push (vI 0) 1610)) := ok_iconst dL_law_1609 rfl
theorem kL_law_1610 (z : XKT) : XOi z xInf Y_L_law 1610 (.inl (i_ajld 1002 1611)) := ok_lald dL_law_1610
theorem kL_law_1611 (z : XKT) : XOi z xInf Y_L_law 1611 (.inl (i_iload 6 1613)) := ok_iload dL_law_1611
theorem kL_law_1613 (z : XKT) : XOi z xInf Y_L_law 1613 (.inl (i_i2l 1614)) := ok_i2l dL_law_1613
theorem kL_law_1614 (z : XKT) : XOi z xInf Y_L_law 1614 (.inl (i_lcmp 1615)) := ok_lcmp dL_law_1614
theorem kL_law_1615 (z : XKT) : XOi z xInf Y_L_law 1615 (.inl (i_if (fun x => x = 0) 1620 1618)) := ok_if_eq dL_law_1615 rfl
theorem kL_law_1618 (z : XKT) : XOi z xInf Y_L_law 1618 (.inl (i_push (vI 0) 1619)) := ok_iconst dL_law_1618 rfl
theorem kL_law_1619 (z : XKT) : XOi z xInf Y_L_law 1619 (.inr (.inr (.inl (r_i .boolean)))) := show XOkR Y_L_law 1619 ((r_i .boolean)) from okr_i (q := Y_L_law) (ty := .boolean) rfl rfl dL_law_1619
theorem kL_law_1620 (z : XKT) : XOi z xInf Y_L_law 1620 (.inl (i_goto 2723)) := ok_goto dL_law_1620 rfl
theorem kL_law_1623 (z : XKT) : XOi z xInf Y_L_law 1623 (.inl (i_aload 1 1624)) := ok_aload_n dL_law_1623 rfl
theorem kL_law_1624 (z : XKT) : XOi z xInf Y_L_law 1624 (.inl (i_aload 0 1625)) := ok_aload_n dL_law_1624 rfl
theorem kL_law_1625 (z : XKT) : XOi z xInf Y_L_law 1625 (.inl (i_iload 4 1627)) := ok_iload dL_law_1625
theorem kL_law_1627 (z : XKT) : XOi z xInf Y_L_law 1627 (.inl (i_push (vI 1) 1628)) := ok_iconst dL_law_1627 rfl
theorem kL_law_1628 (z : XKT) : XOi z xInf Y_L_law 1628 (.inl (i_bin (fun x y => x + y) 1629)) := ok_iadd dL_law_1628
theorem kL_law_1629 (z : XKT) : XOi z xInf Y_L_law 1629 (.inl (i_ald 1000 1630)) := ok_iald dL_law_1629
theorem kL_law_1630 (z : XKT) : XOi z xInf Y_L_law 1630 (.inl (i_aload 3 1631)) := ok_aload_n dL_law_1630 rfl
theorem kL_law_1631 (z : XKT) : XOi z xInf Y_L_law 1631 (.inr (.inl (1634, g_stat 5 3))) := show XOkC z xInf Y_L_law 1631 1634 (g_stat 5 3) from okc_SX (q := Y_L_law) (q1 := Y_X0_claimTime) Z_X0_claimTime rfl (by decide) dL_law_1631 q2245 q2246 q124 q2247 hy_55
theorem kL_law_1634 (z : XKT) : XOi z xInf Y_L_law 1634 (.inl (i_istore 5 1636)) := ok_istore dL_law_1634
theorem kL_law_1636 (z : XKT) : XOi z xInf Y_L_law 1636 (.inl (i_aload 2 1637)) := ok_aload_n dL_law_1636 rfl
theorem kL_law_1637 (z : XKT) : XOi z xInf Y_L_law 1637 (.inl (i_aload 0 1638)) := ok_aload_n dL_law_1637 rfl
theorem kL_law_1638 (z : XKT) : XOi z xInf Y_L_law 1638 (.inl (i_iload 4 1640)) := ok_iload dL_law_1638
theorem kL_law_1640 (z : XKT) : XOi z xInf Y_L_law 1640 (.inl (i_push (vI 1) 1641)) := ok_iconst dL_law_1640 rfl
theorem kL_law_1641 (z : XKT) : XOi z xInf Y_L_law 1641 (.inl (i_bin (fun x y => x + y) 1642)) := ok_iadd dL_law_1641
theorem kL_law_1642 (z : XKT) : XOi z xInf Y_L_law 1642 (.inl (i_ald 1000 1643)) := ok_iald dL_law_1642
theorem kL_law_1643 (z : XKT) : XOi z xInf Y_L_law 1643 (.inr (.inl (1646, g_virt [(4, 181)] 1))) := show XOkC z xInf Y_L_law 1643 1646 (g_virt [(4, 181)] 1) from okc_V (q := Y_L_law) (List.forall_mem_cons.mpr ⟨(show XOkV z xInf Y_L_law 1643 1646 1 (4, 181) from okv_V (q := Y_L_law) (q1 := Y_X5_claimTime) Z_X5_claimTime rfl (by decide) ⟨by decide, by decide, Or.inl ⟨_, _, (List.mem_of_getElem? (l := xCls) (i := 3) rfl)⟩⟩ dL_law_1643 q2818 q2819 q2820 q153 q2821 hy_56), (fun _ h => absurd h List.not_mem_nil)⟩)
theorem kL_law_1646 (z : XKT) : XOi z xInf Y_L_law 1646 (.inl (i_istore 6 1648)) := ok_istore dL_law_1646
theorem kL_law_1648 (z : XKT) : XOi z xInf Y_L_law 1648 (.inl (i_aload 2 1649)) := ok_aload_n dL_law_1648 rfl
theorem kL_law_1649 (z : XKT) : XOi z xInf Y_L_law 1649 (.inr (.inl (1652, g_virt [(4, 292)] 0))) := show XOkC z xInf Y_L_law 1649 1652 (g_virt [(4, 292)] 0) from okc_V (q := Y_L_law) (List.forall_mem_cons.mpr ⟨(show XOkV z xInf Y_L_law 1649 1652 0 (4, 292) from okv_V (q := Y_L_law) (q1 := Y_X5_thrown) Z_X5_thrown rfl (by decide) ⟨by decide, by decide, Or.inl ⟨_, _, (List.mem_of_getElem? (l := xCls) (i := 3) rfl)⟩⟩ dL_law_1649 q2595 q2596 q2597 q153 q2598 hy_6), (fun _ h => absurd h List.not_mem_nil)⟩)
theorem kL_law_1652 (z : XKT) : XOi z xInf Y_L_law 1652 (.inl (i_iload 5 1654)) := ok_iload dL_law_1652
theorem kL_law_1654 (z : XKT) : XOi z xInf Y_L_law 1654 (.inl (i_icmp (fun x y => x = y) 1659 1657)) := ok_icmp_eq dL_law_1654 rfl
theorem kL_law_1657 (z : XKT) : XOi z xInf Y_L_law 1657 (.inl (i_push (vI 0) 1658)) := ok_iconst dL_law_1657 rfl
theorem kL_law_1658 (z : XKT) : XOi z xInf Y_L_law 1658 (.inr (.inr (.inl (r_i .boolean)))) := show XOkR Y_L_law 1658 ((r_i .boolean)) from okr_i (q := Y_L_law) (ty := .boolean) rfl rfl dL_law_1658
theorem kL_law_1659 (z : XKT) : XOi z xInf Y_L_law 1659 (.inl (i_iload 5 1661)) := ok_iload dL_law_1659
theorem kL_law_1661 (z : XKT) : XOi z xInf Y_L_law 1661 (.inl (i_if (fun x => ¬ x = 0) 1676 1664)) := ok_if_ne dL_law_1661 rfl
theorem kL_law_1664 (z : XKT) : XOi z xInf Y_L_law 1664 (.inl (i_aload 3 1665)) := ok_aload_n dL_law_1664 rfl
theorem kL_law_1665 (z : XKT) : XOi z xInf Y_L_law 1665 (.inl (i_push (vI 0) 1666)) := ok_iconst dL_law_1665 rfl
theorem kL_law_1666 (z : XKT) : XOi z xInf Y_L_law 1666 (.inl (i_ajld 1002 1667)) := ok_lald dL_law_1666
theorem kL_law_1667 (z : XKT) : XOi z xInf Y_L_law 1667 (.inl (i_iload 6 1669)) := ok_iload dL_law_1667
theorem kL_law_1669 (z : XKT) : XOi z xInf Y_L_law 1669 (.inl (i_i2l 1670)) := ok_i2l dL_law_1669
theorem kL_law_1670 (z : XKT) : XOi z xInf Y_L_law 1670 (.inl (i_lcmp 1671)) := ok_lcmp dL_law_1670
theorem kL_law_1671 (z : XKT) : XOi z xInf Y_L_law 1671 (.inl (i_if (fun x => x = 0) 1676 1674)) := ok_if_eq dL_law_1671 rfl
theorem kL_law_1674 (z : XKT) : XOi z xInf Y_L_law 1674 (.inl (i_push (vI 0) 1675)) := ok_iconst dL_law_1674 rfl
theorem kL_law_1675 (z : XKT) : XOi z xInf Y_L_law 1675 (.inr (.inr (.inl (r_i .boolean)))) := show XOkR Y_L_law 1675 ((r_i .boolean)) from okr_i (q := Y_L_law) (ty := .boolean) rfl rfl dL_law_1675
theorem kL_law_1676 (z : XKT) : XOi z xInf Y_L_law 1676 (.inl (i_goto 2723)) := ok_goto dL_law_1676 rfl
theorem kL_law_1679 (z : XKT) : XOi z xInf Y_L_law 1679 (.inl (i_aload 1 1680)) := ok_aload_n dL_law_1679 rfl
theorem kL_law_1680 (z : XKT) : XOi z xInf Y_L_law 1680 (.inr (.inl (1683, g_virt [(1, 38)] 0))) := show XOkC z xInf Y_L_law 1680 1683 (g_virt [(1, 38)] 0) from okc_V (q := Y_L_law) (List.forall_mem_cons.mpr ⟨(show XOkV z xInf Y_L_law 1680 1683 0 (1, 38) from okv_V (q := Y_L_law) (q1 := Y_X1_bestClaim) Z_X1_bestClaim rfl (by decide) ⟨by decide, by decide, Or.inl ⟨_, _, (List.mem_of_getElem? (l := xCls) (i := 0) rfl)⟩⟩ dL_law_1680 q1299 q1300 q1301 q125 q1302 hy_57), (fun _ h => absurd h List.not_mem_nil)⟩)
theorem kL_law_1683 (z : XKT) : XOi z xInf Y_L_law 1683 (.inl (i_aload 2 1684)) := ok_aload_n dL_law_1683 rfl
theorem kL_law_1684 (z : XKT) : XOi z xInf Y_L_law 1684 (.inr (.inl (1687, g_virt [(4, 174)] 0))) := show XOkC z xInf Y_L_law 1684 1687 (g_virt [(4, 174)] 0) from okc_V (q := Y_L_law) (List.forall_mem_cons.mpr ⟨(show XOkV z xInf Y_L_law 1684 1687 0 (4, 174) from okv_V (q := Y_L_law) (q1 := Y_X5_bestClaim) Z_X5_bestClaim rfl (by decide) ⟨by decide, by decide, Or.inl ⟨_, _, (List.mem_of_getElem? (l := xCls) (i := 3) rfl)⟩⟩ dL_law_1684 q2822 q2823 q2824 q153 q2825 hy_58), (fun _ h => absurd h List.not_mem_nil)⟩)
theorem kL_law_1687 (z : XKT) : XOi z xInf Y_L_law 1687 (.inl (i_icmp (fun x y => x = y) 2723 1690)) := ok_icmp_eq dL_law_1687 rfl
theorem kL_law_1690 (z : XKT) : XOi z xInf Y_L_law 1690 (.inl (i_push (vI 0) 1691)) := ok_iconst dL_law_1690 rfl
theorem kL_law_1691 (z : XKT) : XOi z xInf Y_L_law 1691 (.inr (.inr (.inl (r_i .boolean)))) := show XOkR Y_L_law 1691 ((r_i .boolean)) from okr_i (q := Y_L_law) (ty := .boolean) rfl rfl dL_law_1691
theorem kL_law_1692 (z : XKT) : XOi z xInf Y_L_law 1692 (.inl (i_aload 1 1693)) := ok_aload_n dL_law_1692 rfl
theorem kL_law_1693 (z : XKT) : XOi z xInf Y_L_law 1693 (.inr (.inl (1696, g_virt [(1, 62)] 0))) := show XOkC z xInf Y_L_law 1693 1696 (g_virt [(1, 62)] 0) from okc_V (q := Y_L_law) (List.forall_mem_cons.mpr ⟨(show XOkV z xInf Y_L_law 1693 1696 0 (1, 62) from okv_V (q := Y_L_law) (q1 := Y_X1_firstDue) Z_X1_firstDue rfl (by decide) ⟨by decide, by decide, Or.inl ⟨_, _, (List.mem_of_getElem? (l := xCls) (i := 0) rfl)⟩⟩ dL_law_1693 q1308 q1309 q1310 q125 q1311 hy_59), (fun _ h => absurd h List.not_mem_nil)⟩)
theorem kL_law_1696 (z : XKT) : XOi z xInf Y_L_law 1696 (.inl (i_aload 2 1697)) := ok_aload_n dL_law_1696 rfl
theorem kL_law_1697 (z : XKT) : XOi z xInf Y_L_law 1697 (.inr (.inl (1700, g_virt [(4, 217)] 0))) := show XOkC z xInf Y_L_law 1697 1700 (g_virt [(4, 217)] 0) from okc_V (q := Y_L_law) (List.forall_mem_cons.mpr ⟨(show XOkV z xInf Y_L_law 1697 1700 0 (4, 217) from okv_V (q := Y_L_law) (q1 := Y_X5_firstDue) Z_X5_firstDue rfl (by decide) ⟨by decide, by decide, Or.inl ⟨_, _, (List.mem_of_getElem? (l := xCls) (i := 3) rfl)⟩⟩ dL_law_1697 q2830 q2831 q2832 q153 q2833 hy_60), (fun _ h => absurd h List.not_mem_nil)⟩)
theorem kL_law_1700 (z : XKT) : XOi z xInf Y_L_law 1700 (.inl (i_icmp (fun x y => x = y) 2723 1703)) := ok_icmp_eq dL_law_1700 rfl
theorem kL_law_1703 (z : XKT) : XOi z xInf Y_L_law 1703 (.inl (i_push (vI 0) 1704)) := ok_iconst dL_law_1703 rfl
theorem kL_law_1704 (z : XKT) : XOi z xInf Y_L_law 1704 (.inr (.inr (.inl (r_i .boolean)))) := show XOkR Y_L_law 1704 ((r_i .boolean)) from okr_i (q := Y_L_law) (ty := .boolean) rfl rfl dL_law_1704
theorem kL_law_1705 (z : XKT) : XOi z xInf Y_L_law 1705 (.inl (i_aload 1 1706)) := ok_aload_n dL_law_1705 rfl
theorem kL_law_1706 (z : XKT) : XOi z xInf Y_L_law 1706 (.inl (i_aload 0 1707)) := ok_aload_n dL_law_1706 rfl
theorem kL_law_1707 (z : XKT) : XOi z xInf Y_L_law 1707 (.inl (i_iload 4 1709)) := ok_iload dL_law_1707
theorem kL_law_1709 (z : XKT) : XOi z xInf Y_L_law 1709 (.inl (i_push (vI 1) 1710)) := ok_iconst dL_law_1709 rfl
theorem kL_law_1710 (z : XKT) : XOi z xInf Y_L_law 1710 (.inl (i_bin (fun x y => x + y) 1711)) := ok_iadd dL_law_1710
theorem kL_law_1711 (z : XKT) : XOi z xInf Y_L_law 1711 (.inl (i_ald 1000 1712)) := ok_iald dL_law_1711
theorem kL_law_1712 (z : XKT) : XOi z xInf Y_L_law 1712 (.inl (i_aload 3 1713)) := ok_aload_n dL_law_1712 rfl
theorem kL_law_1713 (z : XKT) : XOi z xInf Y_L_law 1713 (.inr (.inl (1716, g_stat 4 3))) := show XOkC z xInf Y_L_law 1713 1716 (g_stat 4 3) from okc_SX (q := Y_L_law) (q1 := Y_X0_claimCosts) Z_X0_claimCosts rfl (by decide) dL_law_1713 q2252 q2253 q124 q2254 hy_61
theorem kL_law_1716 (z : XKT) : XOi z xInf Y_L_law 1716 (.inl (i_istore 5 1718)) := ok_istore dL_law_1716
theorem kL_law_1718 (z : XKT) : XOi z xInf Y_L_law 1718 (.inl (i_aload 2 1719)) := ok_aload_n dL_law_1718 rfl
theorem kL_law_1719 (z : XKT) : XOi z xInf Y_L_law 1719 (.inl (i_aload 0 1720)) := ok_aload_n dL_law_1719 rfl
theorem kL_law_1720 (z : XKT) : XOi z xInf Y_L_law 1720 (.inl (i_iload 4 1722)) := ok_iload dL_law_1720
theorem kL_law_1722 (z : XKT) : XOi z xInf Y_L_law 1722 (.inl (i_push (vI 1) 1723)) := ok_iconst dL_law_1722 rfl
theorem kL_law_1723 (z : XKT) : XOi z xInf Y_L_law 1723 (.inl (i_bin (fun x y => x + y) 1724)) := ok_iadd dL_law_1723
theorem kL_law_1724 (z : XKT) : XOi z xInf Y_L_law 1724 (.inl (i_ald 1000 1725)) := ok_iald dL_law_1724
theorem kL_law_1725 (z : XKT) : XOi z xInf Y_L_law 1725 (.inr (.inl (1728, g_virt [(4, 180)] 1))) := show XOkC z xInf Y_L_law 1725 1728 (g_virt [(4, 180)] 1) from okc_V (q := Y_L_law) (List.forall_mem_cons.mpr ⟨(show XOkV z xInf Y_L_law 1725 1728 1 (4, 180) from okv_V (q := Y_L_law) (q1 := Y_X5_claimCosts) Z_X5_claimCosts rfl (by decide) ⟨by decide, by decide, Or.inl ⟨_, _, (List.mem_of_getElem? (l := xCls) (i := 3) rfl)⟩⟩ dL_law_1725 q2834 q2835 q2836 q153 q2837 hy_62), (fun _ h => absurd h List.not_mem_nil)⟩)
theorem kL_law_1728 (z : XKT) : XOi z xInf Y_L_law 1728 (.inl (i_istore 6 1730)) := ok_istore dL_law_1728
theorem kL_law_1730 (z : XKT) : XOi z xInf Y_L_law 1730 (.inl (i_aload 2 1731)) := ok_aload_n dL_law_1730 rfl
theorem kL_law_1731 (z : XKT) : XOi z xInf Y_L_law 1731 (.inr (.inl (1734, g_virt [(4, 292)] 0))) := show XOkC z xInf Y_L_law 1731 1734 (g_virt [(4, 292)] 0) from okc_V (q := Y_L_law) (List.forall_mem_cons.mpr ⟨(show XOkV z xInf Y_L_law 1731 1734 0 (4, 292) from okv_V (q := Y_L_law) (q1 := Y_X5_thrown) Z_X5_thrown rfl (by decide) ⟨by decide, by decide, Or.inl ⟨_, _, (List.mem_of_getElem? (l := xCls) (i := 3) rfl)⟩⟩ dL_law_1731 q2595 q2596 q2597 q153 q2598 hy_6), (fun _ h => absurd h List.not_mem_nil)⟩)
theorem kL_law_1734 (z : XKT) : XOi z xInf Y_L_law 1734 (.inl (i_iload 5 1736)) := ok_iload dL_law_1734
theorem kL_law_1736 (z : XKT) : XOi z xInf Y_L_law 1736 (.inl (i_icmp (fun x y => x = y) 1741 1739)) := ok_icmp_eq dL_law_1736 rfl
theorem kL_law_1739 (z : XKT) : XOi z xInf Y_L_law 1739 (.inl (i_push (vI 0) 1740)) := ok_iconst dL_law_1739 rfl
theorem kL_law_1740 (z : XKT) : XOi z xInf Y_L_law 1740 (.inr (.inr (.inl (r_i .boolean)))) := show XOkR Y_L_law 1740 ((r_i .boolean)) from okr_i (q := Y_L_law) (ty := .boolean) rfl rfl dL_law_1740
theorem kL_law_1741 (z : XKT) : XOi z xInf Y_L_law 1741 (.inl (i_iload 5 1743)) := ok_iload dL_law_1741
theorem kL_law_1743 (z : XKT) : XOi z xInf Y_L_law 1743 (.inl (i_if (fun x => ¬ x = 0) 1758 1746)) := ok_if_ne dL_law_1743 rfl
theorem kL_law_1746 (z : XKT) : XOi z xInf Y_L_law 1746 (.inl (i_aload 3 1747)) := ok_aload_n dL_law_1746 rfl
theorem kL_law_1747 (z : XKT) : XOi z xInf Y_L_law 1747 (.inl (i_push (vI 0) 1748)) := ok_iconst dL_law_1747 rfl
theorem kL_law_1748 (z : XKT) : XOi z xInf Y_L_law 1748 (.inl (i_ajld 1002 1749)) := ok_lald dL_law_1748
theorem kL_law_1749 (z : XKT) : XOi z xInf Y_L_law 1749 (.inl (i_iload 6 1751)) := ok_iload dL_law_1749
theorem kL_law_1751 (z : XKT) : XOi z xInf Y_L_law 1751 (.inl (i_i2l 1752)) := ok_i2l dL_law_1751
theorem kL_law_1752 (z : XKT) : XOi z xInf Y_L_law 1752 (.inl (i_lcmp 1753)) := ok_lcmp dL_law_1752
theorem kL_law_1753 (z : XKT) : XOi z xInf Y_L_law 1753 (.inl (i_if (fun x => x = 0) 1758 1756)) := ok_if_eq dL_law_1753 rfl
theorem kL_law_1756 (z : XKT) : XOi z xInf Y_L_law 1756 (.inl (i_push (vI 0) 1757)) := ok_iconst dL_law_1756 rfl
theorem kL_law_1757 (z : XKT) : XOi z xInf Y_L_law 1757 (.inr (.inr (.inl (r_i .boolean)))) := show XOkR Y_L_law 1757 ((r_i .boolean)) from okr_i (q := Y_L_law) (ty := .boolean) rfl rfl dL_law_1757
theorem kL_law_1758 (z : XKT) : XOi z xInf Y_L_law 1758 (.inl (i_goto 2723)) := ok_goto dL_law_1758 rfl
theorem kL_law_1761 (z : XKT) : XOi z xInf Y_L_law 1761 (.inl (i_aload 1 1762)) := ok_aload_n dL_law_1761 rfl
theorem kL_law_1762 (z : XKT) : XOi z xInf Y_L_law 1762 (.inl (i_aload 0 1763)) := ok_aload_n dL_law_1762 rfl
theorem kL_law_1763 (z : XKT) : XOi z xInf Y_L_law 1763 (.inl (i_iload 4 1765)) := ok_iload dL_law_1763
theorem kL_law_1765 (z : XKT) : XOi z xInf Y_L_law 1765 (.inl (i_push (vI 1) 1766)) := ok_iconst dL_law_1765 rfl
theorem kL_law_1766 (z : XKT) : XOi z xInf Y_L_law 1766 (.inl (i_bin (fun x y => x + y) 1767)) := ok_iadd dL_law_1766
theorem kL_law_1767 (z : XKT) : XOi z xInf Y_L_law 1767 (.inl (i_ald 1000 1768)) := ok_iald dL_law_1767
theorem kL_law_1768 (z : XKT) : XOi z xInf Y_L_law 1768 (.inl (i_aload 3 1769)) := ok_aload_n dL_law_1768 rfl
theorem kL_law_1769 (z : XKT) : XOi z xInf Y_L_law 1769 (.inr (.inl (1772, g_stat 27 3))) := show XOkC z xInf Y_L_law 1769 1772 (g_stat 27 3) from okc_SX (q := Y_L_law) (q1 := Y_X0_purseIf) Z_X0_purseIf rfl (by decide) dL_law_1769 q2261 q2262 q124 q2263 hy_63
theorem kL_law_1772 (z : XKT) : XOi z xInf Y_L_law 1772 (.inl (i_istore 5 1774)) := ok_istore dL_law_1772
theorem kL_law_1774 (z : XKT) : XOi z xInf Y_L_law 1774 (.inl (i_aload 2 1775)) := ok_aload_n dL_law_1774 rfl
theorem kL_law_1775 (z : XKT) : XOi z xInf Y_L_law 1775 (.inl (i_aload 0 1776)) := ok_aload_n dL_law_1775 rfl
theorem kL_law_1776 (z : XKT) : XOi z xInf Y_L_law 1776 (.inl (i_iload 4 1778)) := ok_iload dL_law_1776
theorem kL_law_1778 (z : XKT) : XOi z xInf Y_L_law 1778 (.inl (i_push (vI 1) 1779)) := ok_iconst dL_law_1778 rfl
theorem kL_law_1779 (z : XKT) : XOi z xInf Y_L_law 1779 (.inl (i_bin (fun x y => x + y) 1780)) := ok_iadd dL_law_1779
theorem kL_law_1780 (z : XKT) : XOi z xInf Y_L_law 1780 (.inl (i_ald 1000 1781)) := ok_iald dL_law_1780
theorem kL_law_1781 (z : XKT) : XOi z xInf Y_L_law 1781 (.inr (.inl (1784, g_virt [(4, 265)] 1))) := show XOkC z xInf Y_L_law 1781 1784 (g_virt [(4, 265)] 1) from okc_V (q := Y_L_law) (List.forall_mem_cons.mpr ⟨(show XOkV z xInf Y_L_law 1781 1784 1 (4, 265) from okv_V (q := Y_L_law) (q1 := Y_X5_purseIf) Z_X5_purseIf rfl (by decide) ⟨by decide, by decide, Or.inl ⟨_, _, (List.mem_of_getElem? (l := xCls) (i := 3) rfl)⟩⟩ dL_law_1781 q2838 q2839 q2840 q153 q2841 hy_64), (fun _ h => absurd h List.not_mem_nil)⟩)
theorem kL_law_1784 (z : XKT) : XOi z xInf Y_L_law 1784 (.inl (i_istore 6 1786)) := ok_istore dL_law_1784
theorem kL_law_1786 (z : XKT) : XOi z xInf Y_L_law 1786 (.inl (i_aload 2 1787)) := ok_aload_n dL_law_1786 rfl
theorem kL_law_1787 (z : XKT) : XOi z xInf Y_L_law 1787 (.inr (.inl (1790, g_virt [(4, 292)] 0))) := show XOkC z xInf Y_L_law 1787 1790 (g_virt [(4, 292)] 0) from okc_V (q := Y_L_law) (List.forall_mem_cons.mpr ⟨(show XOkV z xInf Y_L_law 1787 1790 0 (4, 292) from okv_V (q := Y_L_law) (q1 := Y_X5_thrown) Z_X5_thrown rfl (by decide) ⟨by decide, by decide, Or.inl ⟨_, _, (List.mem_of_getElem? (l := xCls) (i := 3) rfl)⟩⟩ dL_law_1787 q2595 q2596 q2597 q153 q2598 hy_6), (fun _ h => absurd h List.not_mem_nil)⟩)
theorem kL_law_1790 (z : XKT) : XOi z xInf Y_L_law 1790 (.inl (i_iload 5 1792)) := ok_iload dL_law_1790
theorem kL_law_1792 (z : XKT) : XOi z xInf Y_L_law 1792 (.inl (i_icmp (fun x y => x = y) 1797 1795)) := ok_icmp_eq dL_law_1792 rfl
theorem kL_law_1795 (z : XKT) : XOi z xInf Y_L_law 1795 (.inl (i_push (vI 0) 1796)) := ok_iconst dL_law_1795 rfl
theorem kL_law_1796 (z : XKT) : XOi z xInf Y_L_law 1796 (.inr (.inr (.inl (r_i .boolean)))) := show XOkR Y_L_law 1796 ((r_i .boolean)) from okr_i (q := Y_L_law) (ty := .boolean) rfl rfl dL_law_1796
theorem kL_law_1797 (z : XKT) : XOi z xInf Y_L_law 1797 (.inl (i_iload 5 1799)) := ok_iload dL_law_1797
theorem kL_law_1799 (z : XKT) : XOi z xInf Y_L_law 1799 (.inl (i_if (fun x => ¬ x = 0) 1814 1802)) := ok_if_ne dL_law_1799 rfl
theorem kL_law_1802 (z : XKT) : XOi z xInf Y_L_law 1802 (.inl (i_aload 3 1803)) := ok_aload_n dL_law_1802 rfl
theorem kL_law_1803 (z : XKT) : XOi z xInf Y_L_law 1803 (.inl (i_push (vI 0) 1804)) := ok_iconst dL_law_1803 rfl
theorem kL_law_1804 (z : XKT) : XOi z xInf Y_L_law 1804 (.inl (i_ajld 1002 1805)) := ok_lald dL_law_1804
theorem kL_law_1805 (z : XKT) : XOi z xInf Y_L_law 1805 (.inl (i_iload 6 1807)) := ok_iload dL_law_1805
theorem kL_law_1807 (z : XKT) : XOi z xInf Y_L_law 1807 (.inl (i_i2l 1808)) := ok_i2l dL_law_1807
theorem kL_law_1808 (z : XKT) : XOi z xInf Y_L_law 1808 (.inl (i_lcmp 1809)) := ok_lcmp dL_law_1808
theorem kL_law_1809 (z : XKT) : XOi z xInf Y_L_law 1809 (.inl (i_if (fun x => x = 0) 1814 1812)) := ok_if_eq dL_law_1809 rfl
theorem kL_law_1812 (z : XKT) : XOi z xInf Y_L_law 1812 (.inl (i_push (vI 0) 1813)) := ok_iconst dL_law_1812 rfl
theorem kL_law_1813 (z : XKT) : XOi z xInf Y_L_law 1813 (.inr (.inr (.inl (r_i .boolean)))) := show XOkR Y_L_law 1813 ((r_i .boolean)) from okr_i (q := Y_L_law) (ty := .boolean) rfl rfl dL_law_1813
theorem kL_law_1814 (z : XKT) : XOi z xInf Y_L_law 1814 (.inl (i_goto 2723)) := ok_goto dL_law_1814 rfl
theorem kL_law_1817 (z : XKT) : XOi z xInf Y_L_law 1817 (.inl (i_aload 1 1818)) := ok_aload_n dL_law_1817 rfl
theorem kL_law_1818 (z : XKT) : XOi z xInf Y_L_law 1818 (.inl (i_aload 0 1819)) := ok_aload_n dL_law_1818 rfl
theorem kL_law_1819 (z : XKT) : XOi z xInf Y_L_law 1819 (.inl (i_iload 4 1821)) := ok_iload dL_law_1819
theorem kL_law_1821 (z : XKT) : XOi z xInf Y_L_law 1821 (.inl (i_push (vI 1) 1822)) := ok_iconst dL_law_1821 rfl
theorem kL_law_1822 (z : XKT) : XOi z xInf Y_L_law 1822 (.inl (i_bin (fun x y => x + y) 1823)) := ok_iadd dL_law_1822
theorem kL_law_1823 (z : XKT) : XOi z xInf Y_L_law 1823 (.inl (i_ald 1000 1824)) := ok_iald dL_law_1823
theorem kL_law_1824 (z : XKT) : XOi z xInf Y_L_law 1824 (.inl (i_aload 3 1825)) := ok_aload_n dL_law_1824 rfl
theorem kL_law_1825 (z : XKT) : XOi z xInf Y_L_law 1825 (.inr (.inl (1828, g_stat 33 3))) := show XOkC z xInf Y_L_law 1825 1828 (g_stat 33 3) from okc_SX (q := Y_L_law) (q1 := Y_X0_why) Z_X0_why rfl (by decide) dL_law_1825 q2268 q2269 q124 q2270 hy_65
theorem kL_law_1828 (z : XKT) : XOi z xInf Y_L_law 1828 (.inl (i_istore 5 1830)) := ok_istore dL_law_1828
theorem kL_law_1830 (z : XKT) : XOi z xInf Y_L_law 1830 (.inl (i_aload 2 1831)) := ok_aload_n dL_law_1830 rfl
theorem kL_law_1831 (z : XKT) : XOi z xInf Y_L_law 1831 (.inl (i_aload 0 1832)) := ok_aload_n dL_law_1831 rfl
theorem kL_law_1832 (z : XKT) : XOi z xInf Y_L_law 1832 (.inl (i_iload 4 1834)) := ok_iload dL_law_1832
theorem kL_law_1834 (z : XKT) : XOi z xInf Y_L_law 1834 (.inl (i_push (vI 1) 1835)) := ok_iconst dL_law_1834 rfl
theorem kL_law_1835 (z : XKT) : XOi z xInf Y_L_law 1835 (.inl (i_bin (fun x y => x + y) 1836)) := ok_iadd dL_law_1835
theorem kL_law_1836 (z : XKT) : XOi z xInf Y_L_law 1836 (.inl (i_ald 1000 1837)) := ok_iald dL_law_1836
theorem kL_law_1837 (z : XKT) : XOi z xInf Y_L_law 1837 (.inr (.inl (1840, g_virt [(4, 303)] 1))) := show XOkC z xInf Y_L_law 1837 1840 (g_virt [(4, 303)] 1) from okc_V (q := Y_L_law) (List.forall_mem_cons.mpr ⟨(show XOkV z xInf Y_L_law 1837 1840 1 (4, 303) from okv_V (q := Y_L_law) (q1 := Y_X5_why) Z_X5_why rfl (by decide) ⟨by decide, by decide, Or.inl ⟨_, _, (List.mem_of_getElem? (l := xCls) (i := 3) rfl)⟩⟩ dL_law_1837 q2842 q2843 q2844 q153 q2845 hy_66), (fun _ h => absurd h List.not_mem_nil)⟩)
theorem kL_law_1840 (z : XKT) : XOi z xInf Y_L_law 1840 (.inl (i_istore 6 1842)) := ok_istore dL_law_1840
theorem kL_law_1842 (z : XKT) : XOi z xInf Y_L_law 1842 (.inl (i_aload 2 1843)) := ok_aload_n dL_law_1842 rfl
theorem kL_law_1843 (z : XKT) : XOi z xInf Y_L_law 1843 (.inr (.inl (1846, g_virt [(4, 292)] 0))) := show XOkC z xInf Y_L_law 1843 1846 (g_virt [(4, 292)] 0) from okc_V (q := Y_L_law) (List.forall_mem_cons.mpr ⟨(show XOkV z xInf Y_L_law 1843 1846 0 (4, 292) from okv_V (q := Y_L_law) (q1 := Y_X5_thrown) Z_X5_thrown rfl (by decide) ⟨by decide, by decide, Or.inl ⟨_, _, (List.mem_of_getElem? (l := xCls) (i := 3) rfl)⟩⟩ dL_law_1843 q2595 q2596 q2597 q153 q2598 hy_6), (fun _ h => absurd h List.not_mem_nil)⟩)
theorem kL_law_1846 (z : XKT) : XOi z xInf Y_L_law 1846 (.inl (i_iload 5 1848)) := ok_iload dL_law_1846
theorem kL_law_1848 (z : XKT) : XOi z xInf Y_L_law 1848 (.inl (i_icmp (fun x y => x = y) 1853 1851)) := ok_icmp_eq dL_law_1848 rfl
theorem kL_law_1851 (z : XKT) : XOi z xInf Y_L_law 1851 (.inl (i_push (vI 0) 1852)) := ok_iconst dL_law_1851 rfl
theorem kL_law_1852 (z : XKT) : XOi z xInf Y_L_law 1852 (.inr (.inr (.inl (r_i .boolean)))) := show XOkR Y_L_law 1852 ((r_i .boolean)) from okr_i (q := Y_L_law) (ty := .boolean) rfl rfl dL_law_1852
theorem kL_law_1853 (z : XKT) : XOi z xInf Y_L_law 1853 (.inl (i_iload 5 1855)) := ok_iload dL_law_1853
theorem kL_law_1855 (z : XKT) : XOi z xInf Y_L_law 1855 (.inl (i_if (fun x => ¬ x = 0) 1870 1858)) := ok_if_ne dL_law_1855 rfl
theorem kL_law_1858 (z : XKT) : XOi z xInf Y_L_law 1858 (.inl (i_aload 3 1859)) := ok_aload_n dL_law_1858 rfl
theorem kL_law_1859 (z : XKT) : XOi z xInf Y_L_law 1859 (.inl (i_push (vI 0) 1860)) := ok_iconst dL_law_1859 rfl
theorem kL_law_1860 (z : XKT) : XOi z xInf Y_L_law 1860 (.inl (i_ajld 1002 1861)) := ok_lald dL_law_1860
theorem kL_law_1861 (z : XKT) : XOi z xInf Y_L_law 1861 (.inl (i_iload 6 1863)) := ok_iload dL_law_1861
theorem kL_law_1863 (z : XKT) : XOi z xInf Y_L_law 1863 (.inl (i_i2l 1864)) := ok_i2l dL_law_1863
theorem kL_law_1864 (z : XKT) : XOi z xInf Y_L_law 1864 (.inl (i_lcmp 1865)) := ok_lcmp dL_law_1864
theorem kL_law_1865 (z : XKT) : XOi z xInf Y_L_law 1865 (.inl (i_if (fun x => x = 0) 1870 1868)) := ok_if_eq dL_law_1865 rfl
theorem kL_law_1868 (z : XKT) : XOi z xInf Y_L_law 1868 (.inl (i_push (vI 0) 1869)) := ok_iconst dL_law_1868 rfl
theorem kL_law_1869 (z : XKT) : XOi z xInf Y_L_law 1869 (.inr (.inr (.inl (r_i .boolean)))) := show XOkR Y_L_law 1869 ((r_i .boolean)) from okr_i (q := Y_L_law) (ty := .boolean) rfl rfl dL_law_1869
theorem kL_law_1870 (z : XKT) : XOi z xInf Y_L_law 1870 (.inl (i_goto 2723)) := ok_goto dL_law_1870 rfl
theorem kL_law_1873 (z : XKT) : XOi z xInf Y_L_law 1873 (.inl (i_aload 1 1874)) := ok_aload_n dL_law_1873 rfl
theorem kL_law_1874 (z : XKT) : XOi z xInf Y_L_law 1874 (.inl (i_aload 0 1875)) := ok_aload_n dL_law_1874 rfl
theorem kL_law_1875 (z : XKT) : XOi z xInf Y_L_law 1875 (.inl (i_iload 4 1877)) := ok_iload dL_law_1875
theorem kL_law_1877 (z : XKT) : XOi z xInf Y_L_law 1877 (.inl (i_push (vI 1) 1878)) := ok_iconst dL_law_1877 rfl
theorem kL_law_1878 (z : XKT) : XOi z xInf Y_L_law 1878 (.inl (i_bin (fun x y => x + y) 1879)) := ok_iadd dL_law_1878
theorem kL_law_1879 (z : XKT) : XOi z xInf Y_L_law 1879 (.inl (i_ald 1000 1880)) := ok_iald dL_law_1879
theorem kL_law_1880 (z : XKT) : XOi z xInf Y_L_law 1880 (.inl (i_aload 3 1881)) := ok_aload_n dL_law_1880 rfl
theorem kL_law_1881 (z : XKT) : XOi z xInf Y_L_law 1881 (.inr (.inl (1884, g_stat 2 3))) := show XOkC z xInf Y_L_law 1881 1884 (g_stat 2 3) from okc_SX (q := Y_L_law) (q1 := Y_X0_cause) Z_X0_cause rfl (by decide) dL_law_1881 q2280 q2281 q124 q2282 hy_67
theorem kL_law_1884 (z : XKT) : XOi z xInf Y_L_law 1884 (.inl (i_istore 5 1886)) := ok_istore dL_law_1884
theorem kL_law_1886 (z : XKT) : XOi z xInf Y_L_law 1886 (.inl (i_aload 2 1887)) := ok_aload_n dL_law_1886 rfl
theorem kL_law_1887 (z : XKT) : XOi z xInf Y_L_law 1887 (.inl (i_aload 0 1888)) := ok_aload_n dL_law_1887 rfl
theorem kL_law_1888 (z : XKT) : XOi z xInf Y_L_law 1888 (.inl (i_iload 4 1890)) := ok_iload dL_law_1888
theorem kL_law_1890 (z : XKT) : XOi z xInf Y_L_law 1890 (.inl (i_push (vI 1) 1891)) := ok_iconst dL_law_1890 rfl
theorem kL_law_1891 (z : XKT) : XOi z xInf Y_L_law 1891 (.inl (i_bin (fun x y => x + y) 1892)) := ok_iadd dL_law_1891
theorem kL_law_1892 (z : XKT) : XOi z xInf Y_L_law 1892 (.inl (i_ald 1000 1893)) := ok_iald dL_law_1892
theorem kL_law_1893 (z : XKT) : XOi z xInf Y_L_law 1893 (.inr (.inl (1896, g_virt [(4, 177)] 1))) := show XOkC z xInf Y_L_law 1893 1896 (g_virt [(4, 177)] 1) from okc_V (q := Y_L_law) (List.forall_mem_cons.mpr ⟨(show XOkV z xInf Y_L_law 1893 1896 1 (4, 177) from okv_V (q := Y_L_law) (q1 := Y_X5_cause) Z_X5_cause rfl (by decide) ⟨by decide, by decide, Or.inl ⟨_, _, (List.mem_of_getElem? (l := xCls) (i := 3) rfl)⟩⟩ dL_law_1893 q2850 q2851 q2852 q153 q2853 hy_68), (fun _ h => absurd h List.not_mem_nil)⟩)
theorem kL_law_1896 (z : XKT) : XOi z xInf Y_L_law 1896 (.inl (i_istore 6 1898)) := ok_istore dL_law_1896
theorem kL_law_1898 (z : XKT) : XOi z xInf Y_L_law 1898 (.inl (i_aload 2 1899)) := ok_aload_n dL_law_1898 rfl
theorem kL_law_1899 (z : XKT) : XOi z xInf Y_L_law 1899 (.inr (.inl (1902, g_virt [(4, 292)] 0))) := show XOkC z xInf Y_L_law 1899 1902 (g_virt [(4, 292)] 0) from okc_V (q := Y_L_law) (List.forall_mem_cons.mpr ⟨(show XOkV z xInf Y_L_law 1899 1902 0 (4, 292) from okv_V (q := Y_L_law) (q1 := Y_X5_thrown) Z_X5_thrown rfl (by decide) ⟨by decide, by decide, Or.inl ⟨_, _, (List.mem_of_getElem? (l := xCls) (i := 3) rfl)⟩⟩ dL_law_1899 q2595 q2596 q2597 q153 q2598 hy_6), (fun _ h => absurd h List.not_mem_nil)⟩)
theorem kL_law_1902 (z : XKT) : XOi z xInf Y_L_law 1902 (.inl (i_iload 5 1904)) := ok_iload dL_law_1902
theorem kL_law_1904 (z : XKT) : XOi z xInf Y_L_law 1904 (.inl (i_icmp (fun x y => x = y) 1909 1907)) := ok_icmp_eq dL_law_1904 rfl
theorem kL_law_1907 (z : XKT) : XOi z xInf Y_L_law 1907 (.inl (i_push (vI 0) 1908)) := ok_iconst dL_law_1907 rfl
theorem kL_law_1908 (z : XKT) : XOi z xInf Y_L_law 1908 (.inr (.inr (.inl (r_i .boolean)))) := show XOkR Y_L_law 1908 ((r_i .boolean)) from okr_i (q := Y_L_law) (ty := .boolean) rfl rfl dL_law_1908
theorem kL_law_1909 (z : XKT) : XOi z xInf Y_L_law 1909 (.inl (i_iload 5 1911)) := ok_iload dL_law_1909
theorem kL_law_1911 (z : XKT) : XOi z xInf Y_L_law 1911 (.inl (i_if (fun x => ¬ x = 0) 1926 1914)) := ok_if_ne dL_law_1911 rfl
theorem kL_law_1914 (z : XKT) : XOi z xInf Y_L_law 1914 (.inl (i_aload 3 1915)) := ok_aload_n dL_law_1914 rfl
theorem kL_law_1915 (z : XKT) : XOi z xInf Y_L_law 1915 (.inl (i_push (vI 0) 1916)) := ok_iconst dL_law_1915 rfl
theorem kL_law_1916 (z : XKT) : XOi z xInf Y_L_law 1916 (.inl (i_ajld 1002 1917)) := ok_lald dL_law_1916
theorem kL_law_1917 (z : XKT) : XOi z xInf Y_L_law 1917 (.inl (i_iload 6 1919)) := ok_iload dL_law_1917
theorem kL_law_1919 (z : XKT) : XOi z xInf Y_L_law 1919 (.inl (i_i2l 1920)) := ok_i2l dL_law_1919
theorem kL_law_1920 (z : XKT) : XOi z xInf Y_L_law 1920 (.inl (i_lcmp 1921)) := ok_lcmp dL_law_1920
theorem kL_law_1921 (z : XKT) : XOi z xInf Y_L_law 1921 (.inl (i_if (fun x => x = 0) 1926 1924)) := ok_if_eq dL_law_1921 rfl
theorem kL_law_1924 (z : XKT) : XOi z xInf Y_L_law 1924 (.inl (i_push (vI 0) 1925)) := ok_iconst dL_law_1924 rfl
theorem kL_law_1925 (z : XKT) : XOi z xInf Y_L_law 1925 (.inr (.inr (.inl (r_i .boolean)))) := show XOkR Y_L_law 1925 ((r_i .boolean)) from okr_i (q := Y_L_law) (ty := .boolean) rfl rfl dL_law_1925
theorem kL_law_1926 (z : XKT) : XOi z xInf Y_L_law 1926 (.inl (i_goto 2723)) := ok_goto dL_law_1926 rfl
theorem kL_law_1929 (z : XKT) : XOi z xInf Y_L_law 1929 (.inl (i_aload 1 1930)) := ok_aload_n dL_law_1929 rfl
theorem kL_law_1930 (z : XKT) : XOi z xInf Y_L_law 1930 (.inl (i_aload 0 1931)) := ok_aload_n dL_law_1930 rfl
theorem kL_law_1931 (z : XKT) : XOi z xInf Y_L_law 1931 (.inl (i_iload 4 1933)) := ok_iload dL_law_1931
theorem kL_law_1933 (z : XKT) : XOi z xInf Y_L_law 1933 (.inl (i_push (vI 1) 1934)) := ok_iconst dL_law_1933 rfl
theorem kL_law_1934 (z : XKT) : XOi z xInf Y_L_law 1934 (.inl (i_bin (fun x y => x + y) 1935)) := ok_iadd dL_law_1934
theorem kL_law_1935 (z : XKT) : XOi z xInf Y_L_law 1935 (.inl (i_ald 1000 1936)) := ok_iald dL_law_1935
theorem kL_law_1936 (z : XKT) : XOi z xInf Y_L_law 1936 (.inl (i_aload 3 1937)) := ok_aload_n dL_law_1936 rfl
theorem kL_law_1937 (z : XKT) : XOi z xInf Y_L_law 1937 (.inr (.inl (1940, g_stat 34 3))) := show XOkC z xInf Y_L_law 1937 1940 (g_stat 34 3) from okc_SX (q := Y_L_law) (q1 := Y_X0_whyDivide) Z_X0_whyDivide rfl (by decide) dL_law_1937 q2287 q2288 q124 q2289 hy_69
theorem kL_law_1940 (z : XKT) : XOi z xInf Y_L_law 1940 (.inl (i_istore 5 1942)) := ok_istore dL_law_1940
theorem kL_law_1942 (z : XKT) : XOi z xInf Y_L_law 1942 (.inl (i_aload 2 1943)) := ok_aload_n dL_law_1942 rfl
theorem kL_law_1943 (z : XKT) : XOi z xInf Y_L_law 1943 (.inl (i_aload 0 1944)) := ok_aload_n dL_law_1943 rfl
theorem kL_law_1944 (z : XKT) : XOi z xInf Y_L_law 1944 (.inl (i_iload 4 1946)) := ok_iload dL_law_1944
theorem kL_law_1946 (z : XKT) : XOi z xInf Y_L_law 1946 (.inl (i_push (vI 1) 1947)) := ok_iconst dL_law_1946 rfl
theorem kL_law_1947 (z : XKT) : XOi z xInf Y_L_law 1947 (.inl (i_bin (fun x y => x + y) 1948)) := ok_iadd dL_law_1947
theorem kL_law_1948 (z : XKT) : XOi z xInf Y_L_law 1948 (.inl (i_ald 1000 1949)) := ok_iald dL_law_1948
theorem kL_law_1949 (z : XKT) : XOi z xInf Y_L_law 1949 (.inr (.inl (1952, g_virt [(4, 304)] 1))) := show XOkC z xInf Y_L_law 1949 1952 (g_virt [(4, 304)] 1) from okc_V (q := Y_L_law) (List.forall_mem_cons.mpr ⟨(show XOkV z xInf Y_L_law 1949 1952 1 (4, 304) from okv_V (q := Y_L_law) (q1 := Y_X5_whyDivide) Z_X5_whyDivide rfl (by decide) ⟨by decide, by decide, Or.inl ⟨_, _, (List.mem_of_getElem? (l := xCls) (i := 3) rfl)⟩⟩ dL_law_1949 q2854 q2855 q2856 q153 q2857 hy_70), (fun _ h => absurd h List.not_mem_nil)⟩)
theorem kL_law_1952 (z : XKT) : XOi z xInf Y_L_law 1952 (.inl (i_istore 6 1954)) := ok_istore dL_law_1952
theorem kL_law_1954 (z : XKT) : XOi z xInf Y_L_law 1954 (.inl (i_aload 2 1955)) := ok_aload_n dL_law_1954 rfl
theorem kL_law_1955 (z : XKT) : XOi z xInf Y_L_law 1955 (.inr (.inl (1958, g_virt [(4, 292)] 0))) := show XOkC z xInf Y_L_law 1955 1958 (g_virt [(4, 292)] 0) from okc_V (q := Y_L_law) (List.forall_mem_cons.mpr ⟨(show XOkV z xInf Y_L_law 1955 1958 0 (4, 292) from okv_V (q := Y_L_law) (q1 := Y_X5_thrown) Z_X5_thrown rfl (by decide) ⟨by decide, by decide, Or.inl ⟨_, _, (List.mem_of_getElem? (l := xCls) (i := 3) rfl)⟩⟩ dL_law_1955 q2595 q2596 q2597 q153 q2598 hy_6), (fun _ h => absurd h List.not_mem_nil)⟩)
theorem kL_law_1958 (z : XKT) : XOi z xInf Y_L_law 1958 (.inl (i_iload 5 1960)) := ok_iload dL_law_1958
theorem kL_law_1960 (z : XKT) : XOi z xInf Y_L_law 1960 (.inl (i_icmp (fun x y => x = y) 1965 1963)) := ok_icmp_eq dL_law_1960 rfl
theorem kL_law_1963 (z : XKT) : XOi z xInf Y_L_law 1963 (.inl (i_push (vI 0) 1964)) := ok_iconst dL_law_1963 rfl
theorem kL_law_1964 (z : XKT) : XOi z xInf Y_L_law 1964 (.inr (.inr (.inl (r_i .boolean)))) := show XOkR Y_L_law 1964 ((r_i .boolean)) from okr_i (q := Y_L_law) (ty := .boolean) rfl rfl dL_law_1964
theorem kL_law_1965 (z : XKT) : XOi z xInf Y_L_law 1965 (.inl (i_iload 5 1967)) := ok_iload dL_law_1965
theorem kL_law_1967 (z : XKT) : XOi z xInf Y_L_law 1967 (.inl (i_if (fun x => ¬ x = 0) 1982 1970)) := ok_if_ne dL_law_1967 rfl
theorem kL_law_1970 (z : XKT) : XOi z xInf Y_L_law 1970 (.inl (i_aload 3 1971)) := ok_aload_n dL_law_1970 rfl
theorem kL_law_1971 (z : XKT) : XOi z xInf Y_L_law 1971 (.inl (i_push (vI 0) 1972)) := ok_iconst dL_law_1971 rfl
theorem kL_law_1972 (z : XKT) : XOi z xInf Y_L_law 1972 (.inl (i_ajld 1002 1973)) := ok_lald dL_law_1972
theorem kL_law_1973 (z : XKT) : XOi z xInf Y_L_law 1973 (.inl (i_iload 6 1975)) := ok_iload dL_law_1973
theorem kL_law_1975 (z : XKT) : XOi z xInf Y_L_law 1975 (.inl (i_i2l 1976)) := ok_i2l dL_law_1975
theorem kL_law_1976 (z : XKT) : XOi z xInf Y_L_law 1976 (.inl (i_lcmp 1977)) := ok_lcmp dL_law_1976
theorem kL_law_1977 (z : XKT) : XOi z xInf Y_L_law 1977 (.inl (i_if (fun x => x = 0) 1982 1980)) := ok_if_eq dL_law_1977 rfl
theorem kL_law_1980 (z : XKT) : XOi z xInf Y_L_law 1980 (.inl (i_push (vI 0) 1981)) := ok_iconst dL_law_1980 rfl
theorem kL_law_1981 (z : XKT) : XOi z xInf Y_L_law 1981 (.inr (.inr (.inl (r_i .boolean)))) := show XOkR Y_L_law 1981 ((r_i .boolean)) from okr_i (q := Y_L_law) (ty := .boolean) rfl rfl dL_law_1981
theorem kL_law_1982 (z : XKT) : XOi z xInf Y_L_law 1982 (.inl (i_goto 2723)) := ok_goto dL_law_1982 rfl
theorem kL_law_1985 (z : XKT) : XOi z xInf Y_L_law 1985 (.inl (i_aload 1 1986)) := ok_aload_n dL_law_1985 rfl
theorem kL_law_1986 (z : XKT) : XOi z xInf Y_L_law 1986 (.inr (.inl (1989, g_virt [(1, 39)] 0))) := show XOkC z xInf Y_L_law 1986 1989 (g_virt [(1, 39)] 0) from okc_V (q := Y_L_law) (List.forall_mem_cons.mpr ⟨(show XOkV z xInf Y_L_law 1986 1989 0 (1, 39) from okv_V (q := Y_L_law) (q1 := Y_X1_bestHaul) Z_X1_bestHaul rfl (by decide) ⟨by decide, by decide, Or.inl ⟨_, _, (List.mem_of_getElem? (l := xCls) (i := 0) rfl)⟩⟩ dL_law_1986 q1312 q1313 q1314 q125 q1315 hy_71), (fun _ h => absurd h List.not_mem_nil)⟩)
theorem kL_law_1989 (z : XKT) : XOi z xInf Y_L_law 1989 (.inl (i_aload 2 1990)) := ok_aload_n dL_law_1989 rfl
theorem kL_law_1990 (z : XKT) : XOi z xInf Y_L_law 1990 (.inr (.inl (1993, g_virt [(4, 175)] 0))) := show XOkC z xInf Y_L_law 1990 1993 (g_virt [(4, 175)] 0) from okc_V (q := Y_L_law) (List.forall_mem_cons.mpr ⟨(show XOkV z xInf Y_L_law 1990 1993 0 (4, 175) from okv_V (q := Y_L_law) (q1 := Y_X5_bestHaul) Z_X5_bestHaul rfl (by decide) ⟨by decide, by decide, Or.inl ⟨_, _, (List.mem_of_getElem? (l := xCls) (i := 3) rfl)⟩⟩ dL_law_1990 q2862 q2863 q2864 q153 q2865 hy_72), (fun _ h => absurd h List.not_mem_nil)⟩)
theorem kL_law_1993 (z : XKT) : XOi z xInf Y_L_law 1993 (.inl (i_icmp (fun x y => x = y) 2723 1996)) := ok_icmp_eq dL_law_1993 rfl
theorem kL_law_1996 (z : XKT) : XOi z xInf Y_L_law 1996 (.inl (i_push (vI 0) 1997)) := ok_iconst dL_law_1996 rfl
theorem kL_law_1997 (z : XKT) : XOi z xInf Y_L_law 1997 (.inr (.inr (.inl (r_i .boolean)))) := show XOkR Y_L_law 1997 ((r_i .boolean)) from okr_i (q := Y_L_law) (ty := .boolean) rfl rfl dL_law_1997
theorem kL_law_1998 (z : XKT) : XOi z xInf Y_L_law 1998 (.inl (i_aload 1 1999)) := ok_aload_n dL_law_1998 rfl
theorem kL_law_1999 (z : XKT) : XOi z xInf Y_L_law 1999 (.inr (.inl (2002, g_virt [(1, 119)] 0))) := show XOkC z xInf Y_L_law 1999 2002 (g_virt [(1, 119)] 0) from okc_V (q := Y_L_law) (List.forall_mem_cons.mpr ⟨(show XOkV z xInf Y_L_law 1999 2002 0 (1, 119) from okv_V (q := Y_L_law) (q1 := Y_X1_savedShare) Z_X1_savedShare rfl (by decide) ⟨by decide, by decide, Or.inl ⟨_, _, (List.mem_of_getElem? (l := xCls) (i := 0) rfl)⟩⟩ dL_law_1999 q1410 q1411 q1412 q125 q1413 hy_73), (fun _ h => absurd h List.not_mem_nil)⟩)
theorem kL_law_2002 (z : XKT) : XOi z xInf Y_L_law 2002 (.inl (i_f2d 2003)) := ok_f2d dL_law_2002
theorem kL_law_2003 (z : XKT) : XOi z xInf Y_L_law 2003 (.inl (i_dstore 5 2005)) := ok_dstore dL_law_2003
theorem kL_law_2005 (z : XKT) : XOi z xInf Y_L_law 2005 (.inl (i_aload 2 2006)) := ok_aload_n dL_law_2005 rfl
theorem kL_law_2006 (z : XKT) : XOi z xInf Y_L_law 2006 (.inr (.inl (2009, g_virt [(4, 283)] 0))) := show XOkC z xInf Y_L_law 2006 2009 (g_virt [(4, 283)] 0) from okc_V (q := Y_L_law) (List.forall_mem_cons.mpr ⟨(show XOkV z xInf Y_L_law 2006 2009 0 (4, 283) from okv_V (q := Y_L_law) (q1 := Y_X5_savedShare) Z_X5_savedShare rfl (by decide) ⟨by decide, by decide, Or.inl ⟨_, _, (List.mem_of_getElem? (l := xCls) (i := 3) rfl)⟩⟩ dL_law_2006 q2866 q2867 q2868 q153 q2869 hy_74), (fun _ h => absurd h List.not_mem_nil)⟩)
theorem kL_law_2009 (z : XKT) : XOi z xInf Y_L_law 2009 (.inl (i_f2d 2010)) := ok_f2d dL_law_2009
theorem kL_law_2010 (z : XKT) : XOi z xInf Y_L_law 2010 (.inl (i_dstore 7 2012)) := ok_dstore dL_law_2010
theorem kL_law_2012 (z : XKT) : XOi z xInf Y_L_law 2012 (.inl (i_dload 5 2014)) := ok_dload dL_law_2012
theorem kL_law_2014 (z : XKT) : XOi z xInf Y_L_law 2014 (.inl (i_dload 7 2016)) := ok_dload dL_law_2014
theorem kL_law_2016 (z : XKT) : XOi z xInf Y_L_law 2016 (.inl (i_dcmp .l 2017)) := ok_dcmp dL_law_2016
theorem kL_law_2017 (z : XKT) : XOi z xInf Y_L_law 2017 (.inl (i_if (fun x => x = 0) 2038 2020)) := ok_if_eq dL_law_2017 rfl
theorem kL_law_2020 (z : XKT) : XOi z xInf Y_L_law 2020 (.inl (i_dload 5 2022)) := ok_dload dL_law_2020
theorem kL_law_2022 (z : XKT) : XOi z xInf Y_L_law 2022 (.inl (i_dload 5 2024)) := ok_dload dL_law_2022
theorem kL_law_2024 (z : XKT) : XOi z xInf Y_L_law 2024 (.inl (i_dcmp .l 2025)) := ok_dcmp dL_law_2024
theorem kL_law_2025 (z : XKT) : XOi z xInf Y_L_law 2025 (.inl (i_if (fun x => x = 0) 2036 2028)) := ok_if_eq dL_law_2025 rfl
theorem kL_law_2028 (z : XKT) : XOi z xInf Y_L_law 2028 (.inl (i_dload 7 2030)) := ok_dload dL_law_2028
theorem kL_law_2030 (z : XKT) : XOi z xInf Y_L_law 2030 (.inl (i_dload 7 2032)) := ok_dload dL_law_2030
theorem kL_law_2032 (z : XKT) : XOi z xInf Y_L_law 2032 (.inl (i_dcmp .l 2033)) := ok_dcmp dL_law_2032
theorem kL_law_2033 (z : XKT) : XOi z xInf Y_L_law 2033 (.inl (i_if (fun x => ¬ x = 0) 2038 2036)) := ok_if_ne dL_law_2033 rfl
theorem kL_law_2036 (z : XKT) : XOi z xInf Y_L_law 2036 (.inl (i_push (vI 0) 2037)) := ok_iconst dL_law_2036 rfl
theorem kL_law_2037 (z : XKT) : XOi z xInf Y_L_law 2037 (.inr (.inr (.inl (r_i .boolean)))) := show XOkR Y_L_law 2037 ((r_i .boolean)) from okr_i (q := Y_L_law) (ty := .boolean) rfl rfl dL_law_2037
theorem kL_law_2038 (z : XKT) : XOi z xInf Y_L_law 2038 (.inl (i_goto 2723)) := ok_goto dL_law_2038 rfl
theorem kL_law_2041 (z : XKT) : XOi z xInf Y_L_law 2041 (.inl (i_aload 1 2042)) := ok_aload_n dL_law_2041 rfl
theorem kL_law_2042 (z : XKT) : XOi z xInf Y_L_law 2042 (.inr (.inl (2045, g_virt [(1, 47)] 0))) := show XOkC z xInf Y_L_law 2042 2045 (g_virt [(1, 47)] 0) from okc_V (q := Y_L_law) (List.forall_mem_cons.mpr ⟨(show XOkV z xInf Y_L_law 2042 2045 0 (1, 47) from okv_V (q := Y_L_law) (q1 := Y_X1_crownPart) Z_X1_crownPart rfl (by decide) ⟨by decide, by decide, Or.inl ⟨_, _, (List.mem_of_getElem? (l := xCls) (i := 0) rfl)⟩⟩ dL_law_2042 q1414 q1415 q1416 q125 q1417 hy_75), (fun _ h => absurd h List.not_mem_nil)⟩)
theorem kL_law_2045 (z : XKT) : XOi z xInf Y_L_law 2045 (.inl (i_dstore 5 2047)) := ok_dstore dL_law_2045
theorem kL_law_2047 (z : XKT) : XOi z xInf Y_L_law 2047 (.inl (i_aload 2 2048)) := ok_aload_n dL_law_2047 rfl
theorem kL_law_2048 (z : XKT) : XOi z xInf Y_L_law 2048 (.inr (.inl (2051, g_virt [(4, 192)] 0))) := show XOkC z xInf Y_L_law 2048 2051 (g_virt [(4, 192)] 0) from okc_V (q := Y_L_law) (List.forall_mem_cons.mpr ⟨(show XOkV z xInf Y_L_law 2048 2051 0 (4, 192) from okv_V (q := Y_L_law) (q1 := Y_X5_crownPart) Z_X5_crownPart rfl (by decide) ⟨by decide, by decide, Or.inl ⟨_, _, (List.mem_of_getElem? (l := xCls) (i := 3) rfl)⟩⟩ dL_law_2048 q2870 q2871 q2872 q153 q2873 hy_76), (fun _ h => absurd h List.not_mem_nil)⟩)
theorem kL_law_2051 (z : XKT) : XOi z xInf Y_L_law 2051 (.inl (i_dstore 7 2053)) := ok_dstore dL_law_2051
theorem kL_law_2053 (z : XKT) : XOi z xInf Y_L_law 2053 (.inl (i_dload 5 2055)) := ok_dload dL_law_2053
theorem kL_law_2055 (z : XKT) : XOi z xInf Y_L_law 2055 (.inl (i_dload 7 2057)) := ok_dload dL_law_2055
theorem kL_law_2057 (z : XKT) : XOi z xInf Y_L_law 2057 (.inl (i_dcmp .l 2058)) := ok_dcmp dL_law_2057
theorem kL_law_2058 (z : XKT) : XOi z xInf Y_L_law 2058 (.inl (i_if (fun x => x = 0) 2079 2061)) := ok_if_eq dL_law_2058 rfl
theorem kL_law_2061 (z : XKT) : XOi z xInf Y_L_law 2061 (.inl (i_dload 5 2063)) := ok_dload dL_law_2061
theorem kL_law_2063 (z : XKT) : XOi z xInf Y_L_law 2063 (.inl (i_dload 5 2065)) := ok_dload dL_law_2063
theorem kL_law_2065 (z : XKT) : XOi z xInf Y_L_law 2065 (.inl (i_dcmp .l 2066)) := ok_dcmp dL_law_2065
theorem kL_law_2066 (z : XKT) : XOi z xInf Y_L_law 2066 (.inl (i_if (fun x => x = 0) 2077 2069)) := ok_if_eq dL_law_2066 rfl
theorem kL_law_2069 (z : XKT) : XOi z xInf Y_L_law 2069 (.inl (i_dload 7 2071)) := ok_dload dL_law_2069
theorem kL_law_2071 (z : XKT) : XOi z xInf Y_L_law 2071 (.inl (i_dload 7 2073)) := ok_dload dL_law_2071
theorem kL_law_2073 (z : XKT) : XOi z xInf Y_L_law 2073 (.inl (i_dcmp .l 2074)) := ok_dcmp dL_law_2073
theorem kL_law_2074 (z : XKT) : XOi z xInf Y_L_law 2074 (.inl (i_if (fun x => ¬ x = 0) 2079 2077)) := ok_if_ne dL_law_2074 rfl
theorem kL_law_2077 (z : XKT) : XOi z xInf Y_L_law 2077 (.inl (i_push (vI 0) 2078)) := ok_iconst dL_law_2077 rfl
theorem kL_law_2078 (z : XKT) : XOi z xInf Y_L_law 2078 (.inr (.inr (.inl (r_i .boolean)))) := show XOkR Y_L_law 2078 ((r_i .boolean)) from okr_i (q := Y_L_law) (ty := .boolean) rfl rfl dL_law_2078
theorem kL_law_2079 (z : XKT) : XOi z xInf Y_L_law 2079 (.inl (i_goto 2723)) := ok_goto dL_law_2079 rfl
theorem kL_law_2082 (z : XKT) : XOi z xInf Y_L_law 2082 (.inl (i_aload 1 2083)) := ok_aload_n dL_law_2082 rfl
theorem kL_law_2083 (z : XKT) : XOi z xInf Y_L_law 2083 (.inl (i_aload 0 2084)) := ok_aload_n dL_law_2083 rfl
theorem kL_law_2084 (z : XKT) : XOi z xInf Y_L_law 2084 (.inl (i_iload 4 2086)) := ok_iload dL_law_2084
theorem kL_law_2086 (z : XKT) : XOi z xInf Y_L_law 2086 (.inl (i_push (vI 1) 2087)) := ok_iconst dL_law_2086 rfl
theorem kL_law_2087 (z : XKT) : XOi z xInf Y_L_law 2087 (.inl (i_bin (fun x y => x + y) 2088)) := ok_iadd dL_law_2087
theorem kL_law_2088 (z : XKT) : XOi z xInf Y_L_law 2088 (.inl (i_ald 1000 2089)) := ok_iald dL_law_2088
theorem kL_law_2089 (z : XKT) : XOi z xInf Y_L_law 2089 (.inl (i_aload 0 2090)) := ok_aload_n dL_law_2089 rfl
theorem kL_law_2090 (z : XKT) : XOi z xInf Y_L_law 2090 (.inl (i_iload 4 2092)) := ok_iload dL_law_2090
theorem kL_law_2092 (z : XKT) : XOi z xInf Y_L_law 2092 (.inl (i_push (vI 2) 2093)) := ok_iconst dL_law_2092 rfl
theorem kL_law_2093 (z : XKT) : XOi z xInf Y_L_law 2093 (.inl (i_bin (fun x y => x + y) 2094)) := ok_iadd dL_law_2093
theorem kL_law_2094 (z : XKT) : XOi z xInf Y_L_law 2094 (.inl (i_ald 1000 2095)) := ok_iald dL_law_2094
theorem kL_law_2095 (z : XKT) : XOi z xInf Y_L_law 2095 (.inl (i_aload 3 2096)) := ok_aload_n dL_law_2095 rfl
theorem kL_law_2096 (z : XKT) : XOi z xInf Y_L_law 2096 (.inr (.inl (2099, g_stat 28 4))) := show XOkC z xInf Y_L_law 2096 2099 (g_stat 28 4) from okc_SX (q := Y_L_law) (q1 := Y_X0_rope) Z_X0_rope rfl (by decide) dL_law_2096 q2295 q2296 q124 q2297 hy_77
theorem kL_law_2099 (z : XKT) : XOi z xInf Y_L_law 2099 (.inl (i_istore 5 2101)) := ok_istore dL_law_2099
theorem kL_law_2101 (z : XKT) : XOi z xInf Y_L_law 2101 (.inl (i_aload 2 2102)) := ok_aload_n dL_law_2101 rfl
theorem kL_law_2102 (z : XKT) : XOi z xInf Y_L_law 2102 (.inl (i_aload 0 2103)) := ok_aload_n dL_law_2102 rfl
theorem kL_law_2103 (z : XKT) : XOi z xInf Y_L_law 2103 (.inl (i_iload 4 2105)) := ok_iload dL_law_2103
theorem kL_law_2105 (z : XKT) : XOi z xInf Y_L_law 2105 (.inl (i_push (vI 1) 2106)) := ok_iconst dL_law_2105 rfl
theorem kL_law_2106 (z : XKT) : XOi z xInf Y_L_law 2106 (.inl (i_bin (fun x y => x + y) 2107)) := ok_iadd dL_law_2106
theorem kL_law_2107 (z : XKT) : XOi z xInf Y_L_law 2107 (.inl (i_ald 1000 2108)) := ok_iald dL_law_2107
theorem kL_law_2108 (z : XKT) : XOi z xInf Y_L_law 2108 (.inl (i_aload 0 2109)) := ok_aload_n dL_law_2108 rfl
theorem kL_law_2109 (z : XKT) : XOi z xInf Y_L_law 2109 (.inl (i_iload 4 2111)) := ok_iload dL_law_2109
theorem kL_law_2111 (z : XKT) : XOi z xInf Y_L_law 2111 (.inl (i_push (vI 2) 2112)) := ok_iconst dL_law_2111 rfl
theorem kL_law_2112 (z : XKT) : XOi z xInf Y_L_law 2112 (.inl (i_bin (fun x y => x + y) 2113)) := ok_iadd dL_law_2112
theorem kL_law_2113 (z : XKT) : XOi z xInf Y_L_law 2113 (.inl (i_ald 1000 2114)) := ok_iald dL_law_2113
theorem kL_law_2114 (z : XKT) : XOi z xInf Y_L_law 2114 (.inr (.inl (2117, g_virt [(4, 280)] 2))) := show XOkC z xInf Y_L_law 2114 2117 (g_virt [(4, 280)] 2) from okc_V (q := Y_L_law) (List.forall_mem_cons.mpr ⟨(show XOkV z xInf Y_L_law 2114 2117 2 (4, 280) from okv_V (q := Y_L_law) (q1 := Y_X5_rope) Z_X5_rope rfl (by decide) ⟨by decide, by decide, Or.inl ⟨_, _, (List.mem_of_getElem? (l := xCls) (i := 3) rfl)⟩⟩ dL_law_2114 q2874 q2875 q2876 q153 q2877 hy_78), (fun _ h => absurd h List.not_mem_nil)⟩)
theorem kL_law_2117 (z : XKT) : XOi z xInf Y_L_law 2117 (.inl (i_istore 6 2119)) := ok_istore dL_law_2117
theorem kL_law_2119 (z : XKT) : XOi z xInf Y_L_law 2119 (.inl (i_aload 2 2120)) := ok_aload_n dL_law_2119 rfl
theorem kL_law_2120 (z : XKT) : XOi z xInf Y_L_law 2120 (.inr (.inl (2123, g_virt [(4, 292)] 0))) := show XOkC z xInf Y_L_law 2120 2123 (g_virt [(4, 292)] 0) from okc_V (q := Y_L_law) (List.forall_mem_cons.mpr ⟨(show XOkV z xInf Y_L_law 2120 2123 0 (4, 292) from okv_V (q := Y_L_law) (q1 := Y_X5_thrown) Z_X5_thrown rfl (by decide) ⟨by decide, by decide, Or.inl ⟨_, _, (List.mem_of_getElem? (l := xCls) (i := 3) rfl)⟩⟩ dL_law_2120 q2595 q2596 q2597 q153 q2598 hy_6), (fun _ h => absurd h List.not_mem_nil)⟩)
theorem kL_law_2123 (z : XKT) : XOi z xInf Y_L_law 2123 (.inl (i_iload 5 2125)) := ok_iload dL_law_2123
theorem kL_law_2125 (z : XKT) : XOi z xInf Y_L_law 2125 (.inl (i_icmp (fun x y => x = y) 2130 2128)) := ok_icmp_eq dL_law_2125 rfl
theorem kL_law_2128 (z : XKT) : XOi z xInf Y_L_law 2128 (.inl (i_push (vI 0) 2129)) := ok_iconst dL_law_2128 rfl
theorem kL_law_2129 (z : XKT) : XOi z xInf Y_L_law 2129 (.inr (.inr (.inl (r_i .boolean)))) := show XOkR Y_L_law 2129 ((r_i .boolean)) from okr_i (q := Y_L_law) (ty := .boolean) rfl rfl dL_law_2129
theorem kL_law_2130 (z : XKT) : XOi z xInf Y_L_law 2130 (.inl (i_iload 5 2132)) := ok_iload dL_law_2130
theorem kL_law_2132 (z : XKT) : XOi z xInf Y_L_law 2132 (.inl (i_if (fun x => ¬ x = 0) 2147 2135)) := ok_if_ne dL_law_2132 rfl
theorem kL_law_2135 (z : XKT) : XOi z xInf Y_L_law 2135 (.inl (i_aload 3 2136)) := ok_aload_n dL_law_2135 rfl
theorem kL_law_2136 (z : XKT) : XOi z xInf Y_L_law 2136 (.inl (i_push (vI 0) 2137)) := ok_iconst dL_law_2136 rfl
theorem kL_law_2137 (z : XKT) : XOi z xInf Y_L_law 2137 (.inl (i_ajld 1002 2138)) := ok_lald dL_law_2137
theorem kL_law_2138 (z : XKT) : XOi z xInf Y_L_law 2138 (.inl (i_iload 6 2140)) := ok_iload dL_law_2138
theorem kL_law_2140 (z : XKT) : XOi z xInf Y_L_law 2140 (.inl (i_i2l 2141)) := ok_i2l dL_law_2140
theorem kL_law_2141 (z : XKT) : XOi z xInf Y_L_law 2141 (.inl (i_lcmp 2142)) := ok_lcmp dL_law_2141
theorem kL_law_2142 (z : XKT) : XOi z xInf Y_L_law 2142 (.inl (i_if (fun x => x = 0) 2147 2145)) := ok_if_eq dL_law_2142 rfl
theorem kL_law_2145 (z : XKT) : XOi z xInf Y_L_law 2145 (.inl (i_push (vI 0) 2146)) := ok_iconst dL_law_2145 rfl
theorem kL_law_2146 (z : XKT) : XOi z xInf Y_L_law 2146 (.inr (.inr (.inl (r_i .boolean)))) := show XOkR Y_L_law 2146 ((r_i .boolean)) from okr_i (q := Y_L_law) (ty := .boolean) rfl rfl dL_law_2146
theorem kL_law_2147 (z : XKT) : XOi z xInf Y_L_law 2147 (.inl (i_goto 2723)) := ok_goto dL_law_2147 rfl
theorem kL_law_2150 (z : XKT) : XOi z xInf Y_L_law 2150 (.inl (i_aload 1 2151)) := ok_aload_n dL_law_2150 rfl
theorem kL_law_2151 (z : XKT) : XOi z xInf Y_L_law 2151 (.inl (i_aload 0 2152)) := ok_aload_n dL_law_2151 rfl
theorem kL_law_2152 (z : XKT) : XOi z xInf Y_L_law 2152 (.inl (i_iload 4 2154)) := ok_iload dL_law_2152
theorem kL_law_2154 (z : XKT) : XOi z xInf Y_L_law 2154 (.inl (i_push (vI 1) 2155)) := ok_iconst dL_law_2154 rfl
theorem kL_law_2155 (z : XKT) : XOi z xInf Y_L_law 2155 (.inl (i_bin (fun x y => x + y) 2156)) := ok_iadd dL_law_2155
theorem kL_law_2156 (z : XKT) : XOi z xInf Y_L_law 2156 (.inl (i_ald 1000 2157)) := ok_iald dL_law_2156
theorem kL_law_2157 (z : XKT) : XOi z xInf Y_L_law 2157 (.inl (i_aload 3 2158)) := ok_aload_n dL_law_2157 rfl
theorem kL_law_2158 (z : XKT) : XOi z xInf Y_L_law 2158 (.inr (.inl (2161, g_stat 22 3))) := show XOkC z xInf Y_L_law 2158 2161 (g_stat 22 3) from okc_SX (q := Y_L_law) (q1 := Y_X0_off) Z_X0_off rfl (by decide) dL_law_2158 q2315 q2316 q124 q2317 hy_79
theorem kL_law_2161 (z : XKT) : XOi z xInf Y_L_law 2161 (.inl (i_istore 5 2163)) := ok_istore dL_law_2161
theorem kL_law_2163 (z : XKT) : XOi z xInf Y_L_law 2163 (.inl (i_aload 2 2164)) := ok_aload_n dL_law_2163 rfl
theorem kL_law_2164 (z : XKT) : XOi z xInf Y_L_law 2164 (.inl (i_aload 0 2165)) := ok_aload_n dL_law_2164 rfl
theorem kL_law_2165 (z : XKT) : XOi z xInf Y_L_law 2165 (.inl (i_iload 4 2167)) := ok_iload dL_law_2165
theorem kL_law_2167 (z : XKT) : XOi z xInf Y_L_law 2167 (.inl (i_push (vI 1) 2168)) := ok_iconst dL_law_2167 rfl
theorem kL_law_2168 (z : XKT) : XOi z xInf Y_L_law 2168 (.inl (i_bin (fun x y => x + y) 2169)) := ok_iadd dL_law_2168
theorem kL_law_2169 (z : XKT) : XOi z xInf Y_L_law 2169 (.inl (i_ald 1000 2170)) := ok_iald dL_law_2169
theorem kL_law_2170 (z : XKT) : XOi z xInf Y_L_law 2170 (.inr (.inl (2173, g_virt [(4, 255)] 1))) := show XOkC z xInf Y_L_law 2170 2173 (g_virt [(4, 255)] 1) from okc_V (q := Y_L_law) (List.forall_mem_cons.mpr ⟨(show XOkV z xInf Y_L_law 2170 2173 1 (4, 255) from okv_V (q := Y_L_law) (q1 := Y_X5_off) Z_X5_off rfl (by decide) ⟨by decide, by decide, Or.inl ⟨_, _, (List.mem_of_getElem? (l := xCls) (i := 3) rfl)⟩⟩ dL_law_2170 q2910 q2911 q2912 q153 q2913 hy_80), (fun _ h => absurd h List.not_mem_nil)⟩)
theorem kL_law_2173 (z : XKT) : XOi z xInf Y_L_law 2173 (.inl (i_istore 6 2175)) := ok_istore dL_law_2173
theorem kL_law_2175 (z : XKT) : XOi z xInf Y_L_law 2175 (.inl (i_aload 2 2176)) := ok_aload_n dL_law_2175 rfl
theorem kL_law_2176 (z : XKT) : XOi z xInf Y_L_law 2176 (.inr (.inl (2179, g_virt [(4, 292)] 0))) := show XOkC z xInf Y_L_law 2176 2179 (g_virt [(4, 292)] 0) from okc_V (q := Y_L_law) (List.forall_mem_cons.mpr ⟨(show XOkV z xInf Y_L_law 2176 2179 0 (4, 292) from okv_V (q := Y_L_law) (q1 := Y_X5_thrown) Z_X5_thrown rfl (by decide) ⟨by decide, by decide, Or.inl ⟨_, _, (List.mem_of_getElem? (l := xCls) (i := 3) rfl)⟩⟩ dL_law_2176 q2595 q2596 q2597 q153 q2598 hy_6), (fun _ h => absurd h List.not_mem_nil)⟩)
theorem kL_law_2179 (z : XKT) : XOi z xInf Y_L_law 2179 (.inl (i_iload 5 2181)) := ok_iload dL_law_2179
theorem kL_law_2181 (z : XKT) : XOi z xInf Y_L_law 2181 (.inl (i_icmp (fun x y => x = y) 2186 2184)) := ok_icmp_eq dL_law_2181 rfl
theorem kL_law_2184 (z : XKT) : XOi z xInf Y_L_law 2184 (.inl (i_push (vI 0) 2185)) := ok_iconst dL_law_2184 rfl
theorem kL_law_2185 (z : XKT) : XOi z xInf Y_L_law 2185 (.inr (.inr (.inl (r_i .boolean)))) := show XOkR Y_L_law 2185 ((r_i .boolean)) from okr_i (q := Y_L_law) (ty := .boolean) rfl rfl dL_law_2185
theorem kL_law_2186 (z : XKT) : XOi z xInf Y_L_law 2186 (.inl (i_iload 5 2188)) := ok_iload dL_law_2186
theorem kL_law_2188 (z : XKT) : XOi z xInf Y_L_law 2188 (.inl (i_if (fun x => ¬ x = 0) 2203 2191)) := ok_if_ne dL_law_2188 rfl
theorem kL_law_2191 (z : XKT) : XOi z xInf Y_L_law 2191 (.inl (i_aload 3 2192)) := ok_aload_n dL_law_2191 rfl
theorem kL_law_2192 (z : XKT) : XOi z xInf Y_L_law 2192 (.inl (i_push (vI 0) 2193)) := ok_iconst dL_law_2192 rfl
theorem kL_law_2193 (z : XKT) : XOi z xInf Y_L_law 2193 (.inl (i_ajld 1002 2194)) := ok_lald dL_law_2193
theorem kL_law_2194 (z : XKT) : XOi z xInf Y_L_law 2194 (.inl (i_iload 6 2196)) := ok_iload dL_law_2194
theorem kL_law_2196 (z : XKT) : XOi z xInf Y_L_law 2196 (.inl (i_i2l 2197)) := ok_i2l dL_law_2196
theorem kL_law_2197 (z : XKT) : XOi z xInf Y_L_law 2197 (.inl (i_lcmp 2198)) := ok_lcmp dL_law_2197
theorem kL_law_2198 (z : XKT) : XOi z xInf Y_L_law 2198 (.inl (i_if (fun x => x = 0) 2203 2201)) := ok_if_eq dL_law_2198 rfl
theorem kL_law_2201 (z : XKT) : XOi z xInf Y_L_law 2201 (.inl (i_push (vI 0) 2202)) := ok_iconst dL_law_2201 rfl
theorem kL_law_2202 (z : XKT) : XOi z xInf Y_L_law 2202 (.inr (.inr (.inl (r_i .boolean)))) := show XOkR Y_L_law 2202 ((r_i .boolean)) from okr_i (q := Y_L_law) (ty := .boolean) rfl rfl dL_law_2202
theorem kL_law_2203 (z : XKT) : XOi z xInf Y_L_law 2203 (.inl (i_goto 2723)) := ok_goto dL_law_2203 rfl
theorem kL_law_2206 (z : XKT) : XOi z xInf Y_L_law 2206 (.inl (i_aload 1 2207)) := ok_aload_n dL_law_2206 rfl
theorem kL_law_2207 (z : XKT) : XOi z xInf Y_L_law 2207 (.inr (.inl (2210, g_virt [(1, 100)] 0))) := show XOkC z xInf Y_L_law 2207 2210 (g_virt [(1, 100)] 0) from okc_V (q := Y_L_law) (List.forall_mem_cons.mpr ⟨(show XOkV z xInf Y_L_law 2207 2210 0 (1, 100) from okv_V (q := Y_L_law) (q1 := Y_X1_offAll) Z_X1_offAll rfl (by decide) ⟨by decide, by decide, Or.inl ⟨_, _, (List.mem_of_getElem? (l := xCls) (i := 0) rfl)⟩⟩ dL_law_2207 q1418 q1419 q1420 q125 q1421 hy_81), (fun _ h => absurd h List.not_mem_nil)⟩)
theorem kL_law_2210 (z : XKT) : XOi z xInf Y_L_law 2210 (.inl (i_aload 2 2211)) := ok_aload_n dL_law_2210 rfl
theorem kL_law_2211 (z : XKT) : XOi z xInf Y_L_law 2211 (.inr (.inl (2214, g_virt [(4, 256)] 0))) := show XOkC z xInf Y_L_law 2211 2214 (g_virt [(4, 256)] 0) from okc_V (q := Y_L_law) (List.forall_mem_cons.mpr ⟨(show XOkV z xInf Y_L_law 2211 2214 0 (4, 256) from okv_V (q := Y_L_law) (q1 := Y_X5_offAll) Z_X5_offAll rfl (by decide) ⟨by decide, by decide, Or.inl ⟨_, _, (List.mem_of_getElem? (l := xCls) (i := 3) rfl)⟩⟩ dL_law_2211 q2918 q2919 q2920 q153 q2921 hy_82), (fun _ h => absurd h List.not_mem_nil)⟩)
theorem kL_law_2214 (z : XKT) : XOi z xInf Y_L_law 2214 (.inl (i_icmp (fun x y => x = y) 2723 2217)) := ok_icmp_eq dL_law_2214 rfl
theorem kL_law_2217 (z : XKT) : XOi z xInf Y_L_law 2217 (.inl (i_push (vI 0) 2218)) := ok_iconst dL_law_2217 rfl
theorem kL_law_2218 (z : XKT) : XOi z xInf Y_L_law 2218 (.inr (.inr (.inl (r_i .boolean)))) := show XOkR Y_L_law 2218 ((r_i .boolean)) from okr_i (q := Y_L_law) (ty := .boolean) rfl rfl dL_law_2218
theorem kL_law_2219 (z : XKT) : XOi z xInf Y_L_law 2219 (.inl (i_aload 1 2220)) := ok_aload_n dL_law_2219 rfl
theorem kL_law_2220 (z : XKT) : XOi z xInf Y_L_law 2220 (.inl (i_aload 0 2221)) := ok_aload_n dL_law_2220 rfl
theorem kL_law_2221 (z : XKT) : XOi z xInf Y_L_law 2221 (.inl (i_iload 4 2223)) := ok_iload dL_law_2221
theorem kL_law_2223 (z : XKT) : XOi z xInf Y_L_law 2223 (.inl (i_push (vI 1) 2224)) := ok_iconst dL_law_2223 rfl
theorem kL_law_2224 (z : XKT) : XOi z xInf Y_L_law 2224 (.inl (i_bin (fun x y => x + y) 2225)) := ok_iadd dL_law_2224
theorem kL_law_2225 (z : XKT) : XOi z xInf Y_L_law 2225 (.inl (i_ald 1000 2226)) := ok_iald dL_law_2225
theorem kL_law_2226 (z : XKT) : XOi z xInf Y_L_law 2226 (.inl (i_aload 0 2227)) := ok_aload_n dL_law_2226 rfl
theorem kL_law_2227 (z : XKT) : XOi z xInf Y_L_law 2227 (.inl (i_iload 4 2229)) := ok_iload dL_law_2227
theorem kL_law_2229 (z : XKT) : XOi z xInf Y_L_law 2229 (.inl (i_push (vI 2) 2230)) := ok_iconst dL_law_2229 rfl
theorem kL_law_2230 (z : XKT) : XOi z xInf Y_L_law 2230 (.inl (i_bin (fun x y => x + y) 2231)) := ok_iadd dL_law_2230
theorem kL_law_2231 (z : XKT) : XOi z xInf Y_L_law 2231 (.inl (i_ald 1000 2232)) := ok_iald dL_law_2231
theorem kL_law_2232 (z : XKT) : XOi z xInf Y_L_law 2232 (.inl (i_aload 0 2233)) := ok_aload_n dL_law_2232 rfl
theorem kL_law_2233 (z : XKT) : XOi z xInf Y_L_law 2233 (.inl (i_iload 4 2235)) := ok_iload dL_law_2233
theorem kL_law_2235 (z : XKT) : XOi z xInf Y_L_law 2235 (.inl (i_push (vI 3) 2236)) := ok_iconst dL_law_2235 rfl
theorem kL_law_2236 (z : XKT) : XOi z xInf Y_L_law 2236 (.inl (i_bin (fun x y => x + y) 2237)) := ok_iadd dL_law_2236
theorem kL_law_2237 (z : XKT) : XOi z xInf Y_L_law 2237 (.inl (i_ald 1000 2238)) := ok_iald dL_law_2237
theorem kL_law_2238 (z : XKT) : XOi z xInf Y_L_law 2238 (.inl (i_aload 3 2239)) := ok_aload_n dL_law_2238 rfl
theorem kL_law_2239 (z : XKT) : XOi z xInf Y_L_law 2239 (.inr (.inl (2242, g_stat 25 5))) := show XOkC z xInf Y_L_law 2239 2242 (g_stat 25 5) from okc_SX (q := Y_L_law) (q1 := Y_X0_pay) Z_X0_pay rfl (by decide) dL_law_2239 q2328 q2329 q124 q2330 hy_83
theorem kL_law_2242 (z : XKT) : XOi z xInf Y_L_law 2242 (.inl (i_istore 5 2244)) := ok_istore dL_law_2242
theorem kL_law_2244 (z : XKT) : XOi z xInf Y_L_law 2244 (.inl (i_aload 2 2245)) := ok_aload_n dL_law_2244 rfl
theorem kL_law_2245 (z : XKT) : XOi z xInf Y_L_law 2245 (.inl (i_aload 0 2246)) := ok_aload_n dL_law_2245 rfl
theorem kL_law_2246 (z : XKT) : XOi z xInf Y_L_law 2246 (.inl (i_iload 4 2248)) := ok_iload dL_law_2246
theorem kL_law_2248 (z : XKT) : XOi z xInf Y_L_law 2248 (.inl (i_push (vI 1) 2249)) := ok_iconst dL_law_2248 rfl
theorem kL_law_2249 (z : XKT) : XOi z xInf Y_L_law 2249 (.inl (i_bin (fun x y => x + y) 2250)) := ok_iadd dL_law_2249
theorem kL_law_2250 (z : XKT) : XOi z xInf Y_L_law 2250 (.inl (i_ald 1000 2251)) := ok_iald dL_law_2250
theorem kL_law_2251 (z : XKT) : XOi z xInf Y_L_law 2251 (.inl (i_aload 0 2252)) := ok_aload_n dL_law_2251 rfl
theorem kL_law_2252 (z : XKT) : XOi z xInf Y_L_law 2252 (.inl (i_iload 4 2254)) := ok_iload dL_law_2252
theorem kL_law_2254 (z : XKT) : XOi z xInf Y_L_law 2254 (.inl (i_push (vI 2) 2255)) := ok_iconst dL_law_2254 rfl
theorem kL_law_2255 (z : XKT) : XOi z xInf Y_L_law 2255 (.inl (i_bin (fun x y => x + y) 2256)) := ok_iadd dL_law_2255
theorem kL_law_2256 (z : XKT) : XOi z xInf Y_L_law 2256 (.inl (i_ald 1000 2257)) := ok_iald dL_law_2256
theorem kL_law_2257 (z : XKT) : XOi z xInf Y_L_law 2257 (.inl (i_aload 0 2258)) := ok_aload_n dL_law_2257 rfl
theorem kL_law_2258 (z : XKT) : XOi z xInf Y_L_law 2258 (.inl (i_iload 4 2260)) := ok_iload dL_law_2258
theorem kL_law_2260 (z : XKT) : XOi z xInf Y_L_law 2260 (.inl (i_push (vI 3) 2261)) := ok_iconst dL_law_2260 rfl
theorem kL_law_2261 (z : XKT) : XOi z xInf Y_L_law 2261 (.inl (i_bin (fun x y => x + y) 2262)) := ok_iadd dL_law_2261
theorem kL_law_2262 (z : XKT) : XOi z xInf Y_L_law 2262 (.inl (i_ald 1000 2263)) := ok_iald dL_law_2262
theorem kL_law_2263 (z : XKT) : XOi z xInf Y_L_law 2263 (.inr (.inl (2266, g_virt [(4, 262)] 3))) := show XOkC z xInf Y_L_law 2263 2266 (g_virt [(4, 262)] 3) from okc_V (q := Y_L_law) (List.forall_mem_cons.mpr ⟨(show XOkV z xInf Y_L_law 2263 2266 3 (4, 262) from okv_V (q := Y_L_law) (q1 := Y_X5_pay) Z_X5_pay rfl (by decide) ⟨by decide, by decide, Or.inl ⟨_, _, (List.mem_of_getElem? (l := xCls) (i := 3) rfl)⟩⟩ dL_law_2263 q2926 q2927 q2928 q153 q2929 hy_84), (fun _ h => absurd h List.not_mem_nil)⟩)
theorem kL_law_2266 (z : XKT) : XOi z xInf Y_L_law 2266 (.inl (i_istore 6 2268)) := ok_istore dL_law_2266
theorem kL_law_2268 (z : XKT) : XOi z xInf Y_L_law 2268 (.inl (i_aload 2 2269)) := ok_aload_n dL_law_2268 rfl
theorem kL_law_2269 (z : XKT) : XOi z xInf Y_L_law 2269 (.inr (.inl (2272, g_virt [(4, 292)] 0))) := show XOkC z xInf Y_L_law 2269 2272 (g_virt [(4, 292)] 0) from okc_V (q := Y_L_law) (List.forall_mem_cons.mpr ⟨(show XOkV z xInf Y_L_law 2269 2272 0 (4, 292) from okv_V (q := Y_L_law) (q1 := Y_X5_thrown) Z_X5_thrown rfl (by decide) ⟨by decide, by decide, Or.inl ⟨_, _, (List.mem_of_getElem? (l := xCls) (i := 3) rfl)⟩⟩ dL_law_2269 q2595 q2596 q2597 q153 q2598 hy_6), (fun _ h => absurd h List.not_mem_nil)⟩)
theorem kL_law_2272 (z : XKT) : XOi z xInf Y_L_law 2272 (.inl (i_iload 5 2274)) := ok_iload dL_law_2272
theorem kL_law_2274 (z : XKT) : XOi z xInf Y_L_law 2274 (.inl (i_icmp (fun x y => x = y) 2279 2277)) := ok_icmp_eq dL_law_2274 rfl
theorem kL_law_2277 (z : XKT) : XOi z xInf Y_L_law 2277 (.inl (i_push (vI 0) 2278)) := ok_iconst dL_law_2277 rfl
theorem kL_law_2278 (z : XKT) : XOi z xInf Y_L_law 2278 (.inr (.inr (.inl (r_i .boolean)))) := show XOkR Y_L_law 2278 ((r_i .boolean)) from okr_i (q := Y_L_law) (ty := .boolean) rfl rfl dL_law_2278
theorem kL_law_2279 (z : XKT) : XOi z xInf Y_L_law 2279 (.inl (i_iload 5 2281)) := ok_iload dL_law_2279
theorem kL_law_2281 (z : XKT) : XOi z xInf Y_L_law 2281 (.inl (i_if (fun x => ¬ x = 0) 2296 2284)) := ok_if_ne dL_law_2281 rfl
theorem kL_law_2284 (z : XKT) : XOi z xInf Y_L_law 2284 (.inl (i_aload 3 2285)) := ok_aload_n dL_law_2284 rfl
theorem kL_law_2285 (z : XKT) : XOi z xInf Y_L_law 2285 (.inl (i_push (vI 0) 2286)) := ok_iconst dL_law_2285 rfl
theorem kL_law_2286 (z : XKT) : XOi z xInf Y_L_law 2286 (.inl (i_ajld 1002 2287)) := ok_lald dL_law_2286
theorem kL_law_2287 (z : XKT) : XOi z xInf Y_L_law 2287 (.inl (i_iload 6 2289)) := ok_iload dL_law_2287
theorem kL_law_2289 (z : XKT) : XOi z xInf Y_L_law 2289 (.inl (i_i2l 2290)) := ok_i2l dL_law_2289
theorem kL_law_2290 (z : XKT) : XOi z xInf Y_L_law 2290 (.inl (i_lcmp 2291)) := ok_lcmp dL_law_2290
theorem kL_law_2291 (z : XKT) : XOi z xInf Y_L_law 2291 (.inl (i_if (fun x => x = 0) 2296 2294)) := ok_if_eq dL_law_2291 rfl
theorem kL_law_2294 (z : XKT) : XOi z xInf Y_L_law 2294 (.inl (i_push (vI 0) 2295)) := ok_iconst dL_law_2294 rfl
theorem kL_law_2295 (z : XKT) : XOi z xInf Y_L_law 2295 (.inr (.inr (.inl (r_i .boolean)))) := show XOkR Y_L_law 2295 ((r_i .boolean)) from okr_i (q := Y_L_law) (ty := .boolean) rfl rfl dL_law_2295
theorem kL_law_2296 (z : XKT) : XOi z xInf Y_L_law 2296 (.inl (i_goto 2723)) := ok_goto dL_law_2296 rfl
theorem kL_law_2299 (z : XKT) : XOi z xInf Y_L_law 2299 (.inl (i_aload 1 2300)) := ok_aload_n dL_law_2299 rfl
theorem kL_law_2300 (z : XKT) : XOi z xInf Y_L_law 2300 (.inl (i_aload 0 2301)) := ok_aload_n dL_law_2300 rfl
theorem kL_law_2301 (z : XKT) : XOi z xInf Y_L_law 2301 (.inl (i_iload 4 2303)) := ok_iload dL_law_2301
theorem kL_law_2303 (z : XKT) : XOi z xInf Y_L_law 2303 (.inl (i_push (vI 1) 2304)) := ok_iconst dL_law_2303 rfl
theorem kL_law_2304 (z : XKT) : XOi z xInf Y_L_law 2304 (.inl (i_bin (fun x y => x + y) 2305)) := ok_iadd dL_law_2304
theorem kL_law_2305 (z : XKT) : XOi z xInf Y_L_law 2305 (.inl (i_ald 1000 2306)) := ok_iald dL_law_2305
theorem kL_law_2306 (z : XKT) : XOi z xInf Y_L_law 2306 (.inl (i_aload 3 2307)) := ok_aload_n dL_law_2306 rfl
theorem kL_law_2307 (z : XKT) : XOi z xInf Y_L_law 2307 (.inr (.inl (2310, g_stat 16 3))) := show XOkC z xInf Y_L_law 2307 2310 (g_stat 16 3) from okc_SX (q := Y_L_law) (q1 := Y_X0_haul) Z_X0_haul rfl (by decide) dL_law_2307 q2344 q2345 q124 q2346 hy_85
theorem kL_law_2310 (z : XKT) : XOi z xInf Y_L_law 2310 (.inl (i_istore 5 2312)) := ok_istore dL_law_2310
theorem kL_law_2312 (z : XKT) : XOi z xInf Y_L_law 2312 (.inl (i_aload 2 2313)) := ok_aload_n dL_law_2312 rfl
theorem kL_law_2313 (z : XKT) : XOi z xInf Y_L_law 2313 (.inl (i_aload 0 2314)) := ok_aload_n dL_law_2313 rfl
theorem kL_law_2314 (z : XKT) : XOi z xInf Y_L_law 2314 (.inl (i_iload 4 2316)) := ok_iload dL_law_2314
theorem kL_law_2316 (z : XKT) : XOi z xInf Y_L_law 2316 (.inl (i_push (vI 1) 2317)) := ok_iconst dL_law_2316 rfl
theorem kL_law_2317 (z : XKT) : XOi z xInf Y_L_law 2317 (.inl (i_bin (fun x y => x + y) 2318)) := ok_iadd dL_law_2317
theorem kL_law_2318 (z : XKT) : XOi z xInf Y_L_law 2318 (.inl (i_ald 1000 2319)) := ok_iald dL_law_2318
theorem kL_law_2319 (z : XKT) : XOi z xInf Y_L_law 2319 (.inr (.inl (2322, g_virt [(4, 224)] 1))) := show XOkC z xInf Y_L_law 2319 2322 (g_virt [(4, 224)] 1) from okc_V (q := Y_L_law) (List.forall_mem_cons.mpr ⟨(show XOkV z xInf Y_L_law 2319 2322 1 (4, 224) from okv_V (q := Y_L_law) (q1 := Y_X5_haul) Z_X5_haul rfl (by decide) ⟨by decide, by decide, Or.inl ⟨_, _, (List.mem_of_getElem? (l := xCls) (i := 3) rfl)⟩⟩ dL_law_2319 q2934 q2935 q2936 q153 q2937 hy_86), (fun _ h => absurd h List.not_mem_nil)⟩)
theorem kL_law_2322 (z : XKT) : XOi z xInf Y_L_law 2322 (.inl (i_istore 6 2324)) := ok_istore dL_law_2322
theorem kL_law_2324 (z : XKT) : XOi z xInf Y_L_law 2324 (.inl (i_aload 2 2325)) := ok_aload_n dL_law_2324 rfl
theorem kL_law_2325 (z : XKT) : XOi z xInf Y_L_law 2325 (.inr (.inl (2328, g_virt [(4, 292)] 0))) := show XOkC z xInf Y_L_law 2325 2328 (g_virt [(4, 292)] 0) from okc_V (q := Y_L_law) (List.forall_mem_cons.mpr ⟨(show XOkV z xInf Y_L_law 2325 2328 0 (4, 292) from okv_V (q := Y_L_law) (q1 := Y_X5_thrown) Z_X5_thrown rfl (by decide) ⟨by decide, by decide, Or.inl ⟨_, _, (List.mem_of_getElem? (l := xCls) (i := 3) rfl)⟩⟩ dL_law_2325 q2595 q2596 q2597 q153 q2598 hy_6), (fun _ h => absurd h List.not_mem_nil)⟩)
theorem kL_law_2328 (z : XKT) : XOi z xInf Y_L_law 2328 (.inl (i_iload 5 2330)) := ok_iload dL_law_2328
theorem kL_law_2330 (z : XKT) : XOi z xInf Y_L_law 2330 (.inl (i_icmp (fun x y => x = y) 2335 2333)) := ok_icmp_eq dL_law_2330 rfl
theorem kL_law_2333 (z : XKT) : XOi z xInf Y_L_law 2333 (.inl (i_push (vI 0) 2334)) := ok_iconst dL_law_2333 rfl
theorem kL_law_2334 (z : XKT) : XOi z xInf Y_L_law 2334 (.inr (.inr (.inl (r_i .boolean)))) := show XOkR Y_L_law 2334 ((r_i .boolean)) from okr_i (q := Y_L_law) (ty := .boolean) rfl rfl dL_law_2334
theorem kL_law_2335 (z : XKT) : XOi z xInf Y_L_law 2335 (.inl (i_iload 5 2337)) := ok_iload dL_law_2335
theorem kL_law_2337 (z : XKT) : XOi z xInf Y_L_law 2337 (.inl (i_if (fun x => ¬ x = 0) 2352 2340)) := ok_if_ne dL_law_2337 rfl
theorem kL_law_2340 (z : XKT) : XOi z xInf Y_L_law 2340 (.inl (i_aload 3 2341)) := ok_aload_n dL_law_2340 rfl
theorem kL_law_2341 (z : XKT) : XOi z xInf Y_L_law 2341 (.inl (i_push (vI 0) 2342)) := ok_iconst dL_law_2341 rfl
theorem kL_law_2342 (z : XKT) : XOi z xInf Y_L_law 2342 (.inl (i_ajld 1002 2343)) := ok_lald dL_law_2342
theorem kL_law_2343 (z : XKT) : XOi z xInf Y_L_law 2343 (.inl (i_iload 6 2345)) := ok_iload dL_law_2343
theorem kL_law_2345 (z : XKT) : XOi z xInf Y_L_law 2345 (.inl (i_i2l 2346)) := ok_i2l dL_law_2345
theorem kL_law_2346 (z : XKT) : XOi z xInf Y_L_law 2346 (.inl (i_lcmp 2347)) := ok_lcmp dL_law_2346
theorem kL_law_2347 (z : XKT) : XOi z xInf Y_L_law 2347 (.inl (i_if (fun x => x = 0) 2352 2350)) := ok_if_eq dL_law_2347 rfl
theorem kL_law_2350 (z : XKT) : XOi z xInf Y_L_law 2350 (.inl (i_push (vI 0) 2351)) := ok_iconst dL_law_2350 rfl
theorem kL_law_2351 (z : XKT) : XOi z xInf Y_L_law 2351 (.inr (.inr (.inl (r_i .boolean)))) := show XOkR Y_L_law 2351 ((r_i .boolean)) from okr_i (q := Y_L_law) (ty := .boolean) rfl rfl dL_law_2351
theorem kL_law_2352 (z : XKT) : XOi z xInf Y_L_law 2352 (.inl (i_goto 2723)) := ok_goto dL_law_2352 rfl
theorem kL_law_2355 (z : XKT) : XOi z xInf Y_L_law 2355 (.inl (i_aload 1 2356)) := ok_aload_n dL_law_2355 rfl
theorem kL_law_2356 (z : XKT) : XOi z xInf Y_L_law 2356 (.inl (i_aload 0 2357)) := ok_aload_n dL_law_2356 rfl
theorem kL_law_2357 (z : XKT) : XOi z xInf Y_L_law 2357 (.inl (i_iload 4 2359)) := ok_iload dL_law_2357
theorem kL_law_2359 (z : XKT) : XOi z xInf Y_L_law 2359 (.inl (i_push (vI 1) 2360)) := ok_iconst dL_law_2359 rfl
theorem kL_law_2360 (z : XKT) : XOi z xInf Y_L_law 2360 (.inl (i_bin (fun x y => x + y) 2361)) := ok_iadd dL_law_2360
theorem kL_law_2361 (z : XKT) : XOi z xInf Y_L_law 2361 (.inl (i_ald 1000 2362)) := ok_iald dL_law_2361
theorem kL_law_2362 (z : XKT) : XOi z xInf Y_L_law 2362 (.inl (i_aload 3 2363)) := ok_aload_n dL_law_2362 rfl
theorem kL_law_2363 (z : XKT) : XOi z xInf Y_L_law 2363 (.inr (.inl (2366, g_stat 3 3))) := show XOkC z xInf Y_L_law 2363 2366 (g_stat 3 3) from okc_SX (q := Y_L_law) (q1 := Y_X0_claim) Z_X0_claim rfl (by decide) dL_law_2363 q2366 q2367 q124 q2368 hy_87
theorem kL_law_2366 (z : XKT) : XOi z xInf Y_L_law 2366 (.inl (i_istore 5 2368)) := ok_istore dL_law_2366
theorem kL_law_2368 (z : XKT) : XOi z xInf Y_L_law 2368 (.inl (i_aload 2 2369)) := ok_aload_n dL_law_2368 rfl
theorem kL_law_2369 (z : XKT) : XOi z xInf Y_L_law 2369 (.inl (i_aload 0 2370)) := ok_aload_n dL_law_2369 rfl
theorem kL_law_2370 (z : XKT) : XOi z xInf Y_L_law 2370 (.inl (i_iload 4 2372)) := ok_iload dL_law_2370
theorem kL_law_2372 (z : XKT) : XOi z xInf Y_L_law 2372 (.inl (i_push (vI 1) 2373)) := ok_iconst dL_law_2372 rfl
theorem kL_law_2373 (z : XKT) : XOi z xInf Y_L_law 2373 (.inl (i_bin (fun x y => x + y) 2374)) := ok_iadd dL_law_2373
theorem kL_law_2374 (z : XKT) : XOi z xInf Y_L_law 2374 (.inl (i_ald 1000 2375)) := ok_iald dL_law_2374
theorem kL_law_2375 (z : XKT) : XOi z xInf Y_L_law 2375 (.inr (.inl (2378, g_virt [(4, 179)] 1))) := show XOkC z xInf Y_L_law 2375 2378 (g_virt [(4, 179)] 1) from okc_V (q := Y_L_law) (List.forall_mem_cons.mpr ⟨(show XOkV z xInf Y_L_law 2375 2378 1 (4, 179) from okv_V (q := Y_L_law) (q1 := Y_X5_claim) Z_X5_claim rfl (by decide) ⟨by decide, by decide, Or.inl ⟨_, _, (List.mem_of_getElem? (l := xCls) (i := 3) rfl)⟩⟩ dL_law_2375 q2950 q2951 q2952 q153 q2953 hy_88), (fun _ h => absurd h List.not_mem_nil)⟩)
theorem kL_law_2378 (z : XKT) : XOi z xInf Y_L_law 2378 (.inl (i_istore 6 2380)) := ok_istore dL_law_2378
theorem kL_law_2380 (z : XKT) : XOi z xInf Y_L_law 2380 (.inl (i_aload 2 2381)) := ok_aload_n dL_law_2380 rfl
theorem kL_law_2381 (z : XKT) : XOi z xInf Y_L_law 2381 (.inr (.inl (2384, g_virt [(4, 292)] 0))) := show XOkC z xInf Y_L_law 2381 2384 (g_virt [(4, 292)] 0) from okc_V (q := Y_L_law) (List.forall_mem_cons.mpr ⟨(show XOkV z xInf Y_L_law 2381 2384 0 (4, 292) from okv_V (q := Y_L_law) (q1 := Y_X5_thrown) Z_X5_thrown rfl (by decide) ⟨by decide, by decide, Or.inl ⟨_, _, (List.mem_of_getElem? (l := xCls) (i := 3) rfl)⟩⟩ dL_law_2381 q2595 q2596 q2597 q153 q2598 hy_6), (fun _ h => absurd h List.not_mem_nil)⟩)
theorem kL_law_2384 (z : XKT) : XOi z xInf Y_L_law 2384 (.inl (i_iload 5 2386)) := ok_iload dL_law_2384
theorem kL_law_2386 (z : XKT) : XOi z xInf Y_L_law 2386 (.inl (i_icmp (fun x y => x = y) 2391 2389)) := ok_icmp_eq dL_law_2386 rfl
theorem kL_law_2389 (z : XKT) : XOi z xInf Y_L_law 2389 (.inl (i_push (vI 0) 2390)) := ok_iconst dL_law_2389 rfl
theorem kL_law_2390 (z : XKT) : XOi z xInf Y_L_law 2390 (.inr (.inr (.inl (r_i .boolean)))) := show XOkR Y_L_law 2390 ((r_i .boolean)) from okr_i (q := Y_L_law) (ty := .boolean) rfl rfl dL_law_2390
theorem kL_law_2391 (z : XKT) : XOi z xInf Y_L_law 2391 (.inl (i_iload 5 2393)) := ok_iload dL_law_2391
theorem kL_law_2393 (z : XKT) : XOi z xInf Y_L_law 2393 (.inl (i_if (fun x => ¬ x = 0) 2408 2396)) := ok_if_ne dL_law_2393 rfl
theorem kL_law_2396 (z : XKT) : XOi z xInf Y_L_law 2396 (.inl (i_aload 3 2397)) := ok_aload_n dL_law_2396 rfl
theorem kL_law_2397 (z : XKT) : XOi z xInf Y_L_law 2397 (.inl (i_push (vI 0) 2398)) := ok_iconst dL_law_2397 rfl
theorem kL_law_2398 (z : XKT) : XOi z xInf Y_L_law 2398 (.inl (i_ajld 1002 2399)) := ok_lald dL_law_2398
theorem kL_law_2399 (z : XKT) : XOi z xInf Y_L_law 2399 (.inl (i_iload 6 2401)) := ok_iload dL_law_2399
theorem kL_law_2401 (z : XKT) : XOi z xInf Y_L_law 2401 (.inl (i_i2l 2402)) := ok_i2l dL_law_2401
theorem kL_law_2402 (z : XKT) : XOi z xInf Y_L_law 2402 (.inl (i_lcmp 2403)) := ok_lcmp dL_law_2402
theorem kL_law_2403 (z : XKT) : XOi z xInf Y_L_law 2403 (.inl (i_if (fun x => x = 0) 2408 2406)) := ok_if_eq dL_law_2403 rfl
theorem kL_law_2406 (z : XKT) : XOi z xInf Y_L_law 2406 (.inl (i_push (vI 0) 2407)) := ok_iconst dL_law_2406 rfl
theorem kL_law_2407 (z : XKT) : XOi z xInf Y_L_law 2407 (.inr (.inr (.inl (r_i .boolean)))) := show XOkR Y_L_law 2407 ((r_i .boolean)) from okr_i (q := Y_L_law) (ty := .boolean) rfl rfl dL_law_2407
theorem kL_law_2408 (z : XKT) : XOi z xInf Y_L_law 2408 (.inl (i_goto 2723)) := ok_goto dL_law_2408 rfl
theorem kL_law_2411 (z : XKT) : XOi z xInf Y_L_law 2411 (.inl (i_aload 1 2412)) := ok_aload_n dL_law_2411 rfl
theorem kL_law_2412 (z : XKT) : XOi z xInf Y_L_law 2412 (.inl (i_aload 0 2413)) := ok_aload_n dL_law_2412 rfl
theorem kL_law_2413 (z : XKT) : XOi z xInf Y_L_law 2413 (.inl (i_iload 4 2415)) := ok_iload dL_law_2413
theorem kL_law_2415 (z : XKT) : XOi z xInf Y_L_law 2415 (.inl (i_push (vI 1) 2416)) := ok_iconst dL_law_2415 rfl
theorem kL_law_2416 (z : XKT) : XOi z xInf Y_L_law 2416 (.inl (i_bin (fun x y => x + y) 2417)) := ok_iadd dL_law_2416
theorem kL_law_2417 (z : XKT) : XOi z xInf Y_L_law 2417 (.inl (i_ald 1000 2418)) := ok_iald dL_law_2417
theorem kL_law_2418 (z : XKT) : XOi z xInf Y_L_law 2418 (.inl (i_aload 3 2419)) := ok_aload_n dL_law_2418 rfl
theorem kL_law_2419 (z : XKT) : XOi z xInf Y_L_law 2419 (.inr (.inl (2422, g_stat 8 3))) := show XOkC z xInf Y_L_law 2419 2422 (g_stat 8 3) from okc_SX (q := Y_L_law) (q1 := Y_X0_divide) Z_X0_divide rfl (by decide) dL_law_2419 q2382 q2383 q124 q2384 hy_89
theorem kL_law_2422 (z : XKT) : XOi z xInf Y_L_law 2422 (.inl (i_istore 5 2424)) := ok_istore dL_law_2422
theorem kL_law_2424 (z : XKT) : XOi z xInf Y_L_law 2424 (.inl (i_aload 2 2425)) := ok_aload_n dL_law_2424 rfl
theorem kL_law_2425 (z : XKT) : XOi z xInf Y_L_law 2425 (.inl (i_aload 0 2426)) := ok_aload_n dL_law_2425 rfl
theorem kL_law_2426 (z : XKT) : XOi z xInf Y_L_law 2426 (.inl (i_iload 4 2428)) := ok_iload dL_law_2426
theorem kL_law_2428 (z : XKT) : XOi z xInf Y_L_law 2428 (.inl (i_push (vI 1) 2429)) := ok_iconst dL_law_2428 rfl
theorem kL_law_2429 (z : XKT) : XOi z xInf Y_L_law 2429 (.inl (i_bin (fun x y => x + y) 2430)) := ok_iadd dL_law_2429
theorem kL_law_2430 (z : XKT) : XOi z xInf Y_L_law 2430 (.inl (i_ald 1000 2431)) := ok_iald dL_law_2430
theorem kL_law_2431 (z : XKT) : XOi z xInf Y_L_law 2431 (.inr (.inl (2434, g_virt [(4, 194)] 1))) := show XOkC z xInf Y_L_law 2431 2434 (g_virt [(4, 194)] 1) from okc_V (q := Y_L_law) (List.forall_mem_cons.mpr ⟨(show XOkV z xInf Y_L_law 2431 2434 1 (4, 194) from okv_V (q := Y_L_law) (q1 := Y_X5_divide) Z_X5_divide rfl (by decide) ⟨by decide, by decide, Or.inl ⟨_, _, (List.mem_of_getElem? (l := xCls) (i := 3) rfl)⟩⟩ dL_law_2431 q2958 q2959 q2960 q153 q2961 hy_90), (fun _ h => absurd h List.not_mem_nil)⟩)
theorem kL_law_2434 (z : XKT) : XOi z xInf Y_L_law 2434 (.inl (i_istore 6 2436)) := ok_istore dL_law_2434
theorem kL_law_2436 (z : XKT) : XOi z xInf Y_L_law 2436 (.inl (i_aload 2 2437)) := ok_aload_n dL_law_2436 rfl
theorem kL_law_2437 (z : XKT) : XOi z xInf Y_L_law 2437 (.inr (.inl (2440, g_virt [(4, 292)] 0))) := show XOkC z xInf Y_L_law 2437 2440 (g_virt [(4, 292)] 0) from okc_V (q := Y_L_law) (List.forall_mem_cons.mpr ⟨(show XOkV z xInf Y_L_law 2437 2440 0 (4, 292) from okv_V (q := Y_L_law) (q1 := Y_X5_thrown) Z_X5_thrown rfl (by decide) ⟨by decide, by decide, Or.inl ⟨_, _, (List.mem_of_getElem? (l := xCls) (i := 3) rfl)⟩⟩ dL_law_2437 q2595 q2596 q2597 q153 q2598 hy_6), (fun _ h => absurd h List.not_mem_nil)⟩)
theorem kL_law_2440 (z : XKT) : XOi z xInf Y_L_law 2440 (.inl (i_iload 5 2442)) := ok_iload dL_law_2440
theorem kL_law_2442 (z : XKT) : XOi z xInf Y_L_law 2442 (.inl (i_icmp (fun x y => x = y) 2447 2445)) := ok_icmp_eq dL_law_2442 rfl
theorem kL_law_2445 (z : XKT) : XOi z xInf Y_L_law 2445 (.inl (i_push (vI 0) 2446)) := ok_iconst dL_law_2445 rfl
theorem kL_law_2446 (z : XKT) : XOi z xInf Y_L_law 2446 (.inr (.inr (.inl (r_i .boolean)))) := show XOkR Y_L_law 2446 ((r_i .boolean)) from okr_i (q := Y_L_law) (ty := .boolean) rfl rfl dL_law_2446
theorem kL_law_2447 (z : XKT) : XOi z xInf Y_L_law 2447 (.inl (i_iload 5 2449)) := ok_iload dL_law_2447
theorem kL_law_2449 (z : XKT) : XOi z xInf Y_L_law 2449 (.inl (i_if (fun x => ¬ x = 0) 2464 2452)) := ok_if_ne dL_law_2449 rfl
theorem kL_law_2452 (z : XKT) : XOi z xInf Y_L_law 2452 (.inl (i_aload 3 2453)) := ok_aload_n dL_law_2452 rfl
theorem kL_law_2453 (z : XKT) : XOi z xInf Y_L_law 2453 (.inl (i_push (vI 0) 2454)) := ok_iconst dL_law_2453 rfl
theorem kL_law_2454 (z : XKT) : XOi z xInf Y_L_law 2454 (.inl (i_ajld 1002 2455)) := ok_lald dL_law_2454
theorem kL_law_2455 (z : XKT) : XOi z xInf Y_L_law 2455 (.inl (i_iload 6 2457)) := ok_iload dL_law_2455
theorem kL_law_2457 (z : XKT) : XOi z xInf Y_L_law 2457 (.inl (i_i2l 2458)) := ok_i2l dL_law_2457
theorem kL_law_2458 (z : XKT) : XOi z xInf Y_L_law 2458 (.inl (i_lcmp 2459)) := ok_lcmp dL_law_2458
theorem kL_law_2459 (z : XKT) : XOi z xInf Y_L_law 2459 (.inl (i_if (fun x => x = 0) 2464 2462)) := ok_if_eq dL_law_2459 rfl
theorem kL_law_2462 (z : XKT) : XOi z xInf Y_L_law 2462 (.inl (i_push (vI 0) 2463)) := ok_iconst dL_law_2462 rfl
theorem kL_law_2463 (z : XKT) : XOi z xInf Y_L_law 2463 (.inr (.inr (.inl (r_i .boolean)))) := show XOkR Y_L_law 2463 ((r_i .boolean)) from okr_i (q := Y_L_law) (ty := .boolean) rfl rfl dL_law_2463
theorem kL_law_2464 (z : XKT) : XOi z xInf Y_L_law 2464 (.inl (i_goto 2723)) := ok_goto dL_law_2464 rfl
theorem kL_law_2467 (z : XKT) : XOi z xInf Y_L_law 2467 (.inl (i_aload 1 2468)) := ok_aload_n dL_law_2467 rfl
theorem kL_law_2468 (z : XKT) : XOi z xInf Y_L_law 2468 (.inr (.inl (2471, g_virt [(1, 50)] 0))) := show XOkC z xInf Y_L_law 2468 2471 (g_virt [(1, 50)] 0) from okc_V (q := Y_L_law) (List.forall_mem_cons.mpr ⟨(show XOkV z xInf Y_L_law 2468 2471 0 (1, 50) from okv_V (q := Y_L_law) (q1 := Y_X1_divideAll) Z_X1_divideAll rfl (by decide) ⟨by decide, by decide, Or.inl ⟨_, _, (List.mem_of_getElem? (l := xCls) (i := 0) rfl)⟩⟩ dL_law_2468 q1531 q1532 q1533 q125 q1534 hy_91), (fun _ h => absurd h List.not_mem_nil)⟩)
theorem kL_law_2471 (z : XKT) : XOi z xInf Y_L_law 2471 (.inl (i_aload 2 2472)) := ok_aload_n dL_law_2471 rfl
theorem kL_law_2472 (z : XKT) : XOi z xInf Y_L_law 2472 (.inr (.inl (2475, g_virt [(4, 195)] 0))) := show XOkC z xInf Y_L_law 2472 2475 (g_virt [(4, 195)] 0) from okc_V (q := Y_L_law) (List.forall_mem_cons.mpr ⟨(show XOkV z xInf Y_L_law 2472 2475 0 (4, 195) from okv_V (q := Y_L_law) (q1 := Y_X5_divideAll) Z_X5_divideAll rfl (by decide) ⟨by decide, by decide, Or.inl ⟨_, _, (List.mem_of_getElem? (l := xCls) (i := 3) rfl)⟩⟩ dL_law_2472 q2970 q2971 q2972 q153 q2973 hy_92), (fun _ h => absurd h List.not_mem_nil)⟩)
theorem kL_law_2475 (z : XKT) : XOi z xInf Y_L_law 2475 (.inl (i_icmp (fun x y => x = y) 2723 2478)) := ok_icmp_eq dL_law_2475 rfl
theorem kL_law_2478 (z : XKT) : XOi z xInf Y_L_law 2478 (.inl (i_push (vI 0) 2479)) := ok_iconst dL_law_2478 rfl
theorem kL_law_2479 (z : XKT) : XOi z xInf Y_L_law 2479 (.inr (.inr (.inl (r_i .boolean)))) := show XOkR Y_L_law 2479 ((r_i .boolean)) from okr_i (q := Y_L_law) (ty := .boolean) rfl rfl dL_law_2479
theorem kL_law_2480 (z : XKT) : XOi z xInf Y_L_law 2480 (.inl (i_aload 1 2481)) := ok_aload_n dL_law_2480 rfl
theorem kL_law_2481 (z : XKT) : XOi z xInf Y_L_law 2481 (.inl (i_aload 0 2482)) := ok_aload_n dL_law_2481 rfl
theorem kL_law_2482 (z : XKT) : XOi z xInf Y_L_law 2482 (.inl (i_iload 4 2484)) := ok_iload dL_law_2482
theorem kL_law_2484 (z : XKT) : XOi z xInf Y_L_law 2484 (.inl (i_push (vI 1) 2485)) := ok_iconst dL_law_2484 rfl
theorem kL_law_2485 (z : XKT) : XOi z xInf Y_L_law 2485 (.inl (i_bin (fun x y => x + y) 2486)) := ok_iadd dL_law_2485
theorem kL_law_2486 (z : XKT) : XOi z xInf Y_L_law 2486 (.inl (i_ald 1000 2487)) := ok_iald dL_law_2486
theorem kL_law_2487 (z : XKT) : XOi z xInf Y_L_law 2487 (.inl (i_aload 3 2488)) := ok_aload_n dL_law_2487 rfl
theorem kL_law_2488 (z : XKT) : XOi z xInf Y_L_law 2488 (.inr (.inl (2491, g_stat 31 3))) := show XOkC z xInf Y_L_law 2488 2491 (g_stat 31 3) from okc_SX (q := Y_L_law) (q1 := Y_X0_ticks) Z_X0_ticks rfl (by decide) dL_law_2488 q2395 q2396 q124 q2397 hy_93
theorem kL_law_2491 (z : XKT) : XOi z xInf Y_L_law 2491 (.inl (i_istore 5 2493)) := ok_istore dL_law_2491
theorem kL_law_2493 (z : XKT) : XOi z xInf Y_L_law 2493 (.inl (i_aload 2 2494)) := ok_aload_n dL_law_2493 rfl
theorem kL_law_2494 (z : XKT) : XOi z xInf Y_L_law 2494 (.inl (i_aload 0 2495)) := ok_aload_n dL_law_2494 rfl
theorem kL_law_2495 (z : XKT) : XOi z xInf Y_L_law 2495 (.inl (i_iload 4 2497)) := ok_iload dL_law_2495
theorem kL_law_2497 (z : XKT) : XOi z xInf Y_L_law 2497 (.inl (i_push (vI 1) 2498)) := ok_iconst dL_law_2497 rfl
theorem kL_law_2498 (z : XKT) : XOi z xInf Y_L_law 2498 (.inl (i_bin (fun x y => x + y) 2499)) := ok_iadd dL_law_2498
theorem kL_law_2499 (z : XKT) : XOi z xInf Y_L_law 2499 (.inl (i_ald 1000 2500)) := ok_iald dL_law_2499
theorem kL_law_2500 (z : XKT) : XOi z xInf Y_L_law 2500 (.inr (.inl (2503, g_virt [(4, 294)] 1))) := show XOkC z xInf Y_L_law 2500 2503 (g_virt [(4, 294)] 1) from okc_V (q := Y_L_law) (List.forall_mem_cons.mpr ⟨(show XOkV z xInf Y_L_law 2500 2503 1 (4, 294) from okv_V (q := Y_L_law) (q1 := Y_X5_ticks) Z_X5_ticks rfl (by decide) ⟨by decide, by decide, Or.inl ⟨_, _, (List.mem_of_getElem? (l := xCls) (i := 3) rfl)⟩⟩ dL_law_2500 q2978 q2979 q2980 q153 q2981 hy_94), (fun _ h => absurd h List.not_mem_nil)⟩)
theorem kL_law_2503 (z : XKT) : XOi z xInf Y_L_law 2503 (.inl (i_istore 6 2505)) := ok_istore dL_law_2503
theorem kL_law_2505 (z : XKT) : XOi z xInf Y_L_law 2505 (.inl (i_aload 2 2506)) := ok_aload_n dL_law_2505 rfl
theorem kL_law_2506 (z : XKT) : XOi z xInf Y_L_law 2506 (.inr (.inl (2509, g_virt [(4, 292)] 0))) := show XOkC z xInf Y_L_law 2506 2509 (g_virt [(4, 292)] 0) from okc_V (q := Y_L_law) (List.forall_mem_cons.mpr ⟨(show XOkV z xInf Y_L_law 2506 2509 0 (4, 292) from okv_V (q := Y_L_law) (q1 := Y_X5_thrown) Z_X5_thrown rfl (by decide) ⟨by decide, by decide, Or.inl ⟨_, _, (List.mem_of_getElem? (l := xCls) (i := 3) rfl)⟩⟩ dL_law_2506 q2595 q2596 q2597 q153 q2598 hy_6), (fun _ h => absurd h List.not_mem_nil)⟩)
theorem kL_law_2509 (z : XKT) : XOi z xInf Y_L_law 2509 (.inl (i_iload 5 2511)) := ok_iload dL_law_2509
theorem kL_law_2511 (z : XKT) : XOi z xInf Y_L_law 2511 (.inl (i_icmp (fun x y => x = y) 2516 2514)) := ok_icmp_eq dL_law_2511 rfl
theorem kL_law_2514 (z : XKT) : XOi z xInf Y_L_law 2514 (.inl (i_push (vI 0) 2515)) := ok_iconst dL_law_2514 rfl
theorem kL_law_2515 (z : XKT) : XOi z xInf Y_L_law 2515 (.inr (.inr (.inl (r_i .boolean)))) := show XOkR Y_L_law 2515 ((r_i .boolean)) from okr_i (q := Y_L_law) (ty := .boolean) rfl rfl dL_law_2515
theorem kL_law_2516 (z : XKT) : XOi z xInf Y_L_law 2516 (.inl (i_iload 5 2518)) := ok_iload dL_law_2516
theorem kL_law_2518 (z : XKT) : XOi z xInf Y_L_law 2518 (.inl (i_if (fun x => ¬ x = 0) 2533 2521)) := ok_if_ne dL_law_2518 rfl
theorem kL_law_2521 (z : XKT) : XOi z xInf Y_L_law 2521 (.inl (i_aload 3 2522)) := ok_aload_n dL_law_2521 rfl
theorem kL_law_2522 (z : XKT) : XOi z xInf Y_L_law 2522 (.inl (i_push (vI 0) 2523)) := ok_iconst dL_law_2522 rfl
theorem kL_law_2523 (z : XKT) : XOi z xInf Y_L_law 2523 (.inl (i_ajld 1002 2524)) := ok_lald dL_law_2523
theorem kL_law_2524 (z : XKT) : XOi z xInf Y_L_law 2524 (.inl (i_iload 6 2526)) := ok_iload dL_law_2524
theorem kL_law_2526 (z : XKT) : XOi z xInf Y_L_law 2526 (.inl (i_i2l 2527)) := ok_i2l dL_law_2526
theorem kL_law_2527 (z : XKT) : XOi z xInf Y_L_law 2527 (.inl (i_lcmp 2528)) := ok_lcmp dL_law_2527
theorem kL_law_2528 (z : XKT) : XOi z xInf Y_L_law 2528 (.inl (i_if (fun x => x = 0) 2533 2531)) := ok_if_eq dL_law_2528 rfl
theorem kL_law_2531 (z : XKT) : XOi z xInf Y_L_law 2531 (.inl (i_push (vI 0) 2532)) := ok_iconst dL_law_2531 rfl
theorem kL_law_2532 (z : XKT) : XOi z xInf Y_L_law 2532 (.inr (.inr (.inl (r_i .boolean)))) := show XOkR Y_L_law 2532 ((r_i .boolean)) from okr_i (q := Y_L_law) (ty := .boolean) rfl rfl dL_law_2532
theorem kL_law_2533 (z : XKT) : XOi z xInf Y_L_law 2533 (.inl (i_goto 2723)) := ok_goto dL_law_2533 rfl
theorem kL_law_2536 (z : XKT) : XOi z xInf Y_L_law 2536 (.inl (i_aload 1 2537)) := ok_aload_n dL_law_2536 rfl
theorem kL_law_2537 (z : XKT) : XOi z xInf Y_L_law 2537 (.inl (i_aload 0 2538)) := ok_aload_n dL_law_2537 rfl
theorem kL_law_2538 (z : XKT) : XOi z xInf Y_L_law 2538 (.inl (i_iload 4 2540)) := ok_iload dL_law_2538
theorem kL_law_2540 (z : XKT) : XOi z xInf Y_L_law 2540 (.inl (i_push (vI 1) 2541)) := ok_iconst dL_law_2540 rfl
theorem kL_law_2541 (z : XKT) : XOi z xInf Y_L_law 2541 (.inl (i_bin (fun x y => x + y) 2542)) := ok_iadd dL_law_2541
theorem kL_law_2542 (z : XKT) : XOi z xInf Y_L_law 2542 (.inl (i_ald 1000 2543)) := ok_iald dL_law_2542
theorem kL_law_2543 (z : XKT) : XOi z xInf Y_L_law 2543 (.inl (i_aload 3 2544)) := ok_aload_n dL_law_2543 rfl
theorem kL_law_2544 (z : XKT) : XOi z xInf Y_L_law 2544 (.inr (.inl (2547, g_stat 26 3))) := show XOkC z xInf Y_L_law 2544 2547 (g_stat 26 3) from okc_SX (q := Y_L_law) (q1 := Y_X0_play) Z_X0_play rfl (by decide) dL_law_2544 q2415 q2416 q124 q2417 hy_95
theorem kL_law_2547 (z : XKT) : XOi z xInf Y_L_law 2547 (.inl (i_istore 5 2549)) := ok_istore dL_law_2547
theorem kL_law_2549 (z : XKT) : XOi z xInf Y_L_law 2549 (.inl (i_aload 2 2550)) := ok_aload_n dL_law_2549 rfl
theorem kL_law_2550 (z : XKT) : XOi z xInf Y_L_law 2550 (.inl (i_aload 0 2551)) := ok_aload_n dL_law_2550 rfl
theorem kL_law_2551 (z : XKT) : XOi z xInf Y_L_law 2551 (.inl (i_iload 4 2553)) := ok_iload dL_law_2551
theorem kL_law_2553 (z : XKT) : XOi z xInf Y_L_law 2553 (.inl (i_push (vI 1) 2554)) := ok_iconst dL_law_2553 rfl
theorem kL_law_2554 (z : XKT) : XOi z xInf Y_L_law 2554 (.inl (i_bin (fun x y => x + y) 2555)) := ok_iadd dL_law_2554
theorem kL_law_2555 (z : XKT) : XOi z xInf Y_L_law 2555 (.inl (i_ald 1000 2556)) := ok_iald dL_law_2555
theorem kL_law_2556 (z : XKT) : XOi z xInf Y_L_law 2556 (.inr (.inl (2559, g_virt [(4, 264)] 1))) := show XOkC z xInf Y_L_law 2556 2559 (g_virt [(4, 264)] 1) from okc_V (q := Y_L_law) (List.forall_mem_cons.mpr ⟨(show XOkV z xInf Y_L_law 2556 2559 1 (4, 264) from okv_V (q := Y_L_law) (q1 := Y_X5_play) Z_X5_play rfl (by decide) ⟨by decide, by decide, Or.inl ⟨_, _, (List.mem_of_getElem? (l := xCls) (i := 3) rfl)⟩⟩ dL_law_2556 q3119 q3120 q3121 q153 q3122 hy_96), (fun _ h => absurd h List.not_mem_nil)⟩)
theorem kL_law_2559 (z : XKT) : XOi z xInf Y_L_law 2559 (.inl (i_istore 6 2561)) := ok_istore dL_law_2559
theorem kL_law_2561 (z : XKT) : XOi z xInf Y_L_law 2561 (.inl (i_aload 2 2562)) := ok_aload_n dL_law_2561 rfl
theorem kL_law_2562 (z : XKT) : XOi z xInf Y_L_law 2562 (.inr (.inl (2565, g_virt [(4, 292)] 0))) := show XOkC z xInf Y_L_law 2562 2565 (g_virt [(4, 292)] 0) from okc_V (q := Y_L_law) (List.forall_mem_cons.mpr ⟨(show XOkV z xInf Y_L_law 2562 2565 0 (4, 292) from okv_V (q := Y_L_law) (q1 := Y_X5_thrown) Z_X5_thrown rfl (by decide) ⟨by decide, by decide, Or.inl ⟨_, _, (List.mem_of_getElem? (l := xCls) (i := 3) rfl)⟩⟩ dL_law_2562 q2595 q2596 q2597 q153 q2598 hy_6), (fun _ h => absurd h List.not_mem_nil)⟩)
theorem kL_law_2565 (z : XKT) : XOi z xInf Y_L_law 2565 (.inl (i_iload 5 2567)) := ok_iload dL_law_2565
theorem kL_law_2567 (z : XKT) : XOi z xInf Y_L_law 2567 (.inl (i_icmp (fun x y => x = y) 2572 2570)) := ok_icmp_eq dL_law_2567 rfl
theorem kL_law_2570 (z : XKT) : XOi z xInf Y_L_law 2570 (.inl (i_push (vI 0) 2571)) := ok_iconst dL_law_2570 rfl
theorem kL_law_2571 (z : XKT) : XOi z xInf Y_L_law 2571 (.inr (.inr (.inl (r_i .boolean)))) := show XOkR Y_L_law 2571 ((r_i .boolean)) from okr_i (q := Y_L_law) (ty := .boolean) rfl rfl dL_law_2571
theorem kL_law_2572 (z : XKT) : XOi z xInf Y_L_law 2572 (.inl (i_iload 5 2574)) := ok_iload dL_law_2572
theorem kL_law_2574 (z : XKT) : XOi z xInf Y_L_law 2574 (.inl (i_if (fun x => ¬ x = 0) 2589 2577)) := ok_if_ne dL_law_2574 rfl
theorem kL_law_2577 (z : XKT) : XOi z xInf Y_L_law 2577 (.inl (i_aload 3 2578)) := ok_aload_n dL_law_2577 rfl
theorem kL_law_2578 (z : XKT) : XOi z xInf Y_L_law 2578 (.inl (i_push (vI 0) 2579)) := ok_iconst dL_law_2578 rfl
theorem kL_law_2579 (z : XKT) : XOi z xInf Y_L_law 2579 (.inl (i_ajld 1002 2580)) := ok_lald dL_law_2579
theorem kL_law_2580 (z : XKT) : XOi z xInf Y_L_law 2580 (.inl (i_iload 6 2582)) := ok_iload dL_law_2580
theorem kL_law_2582 (z : XKT) : XOi z xInf Y_L_law 2582 (.inl (i_i2l 2583)) := ok_i2l dL_law_2582
theorem kL_law_2583 (z : XKT) : XOi z xInf Y_L_law 2583 (.inl (i_lcmp 2584)) := ok_lcmp dL_law_2583
theorem kL_law_2584 (z : XKT) : XOi z xInf Y_L_law 2584 (.inl (i_if (fun x => x = 0) 2589 2587)) := ok_if_eq dL_law_2584 rfl
theorem kL_law_2587 (z : XKT) : XOi z xInf Y_L_law 2587 (.inl (i_push (vI 0) 2588)) := ok_iconst dL_law_2587 rfl
theorem kL_law_2588 (z : XKT) : XOi z xInf Y_L_law 2588 (.inr (.inr (.inl (r_i .boolean)))) := show XOkR Y_L_law 2588 ((r_i .boolean)) from okr_i (q := Y_L_law) (ty := .boolean) rfl rfl dL_law_2588
theorem kL_law_2589 (z : XKT) : XOi z xInf Y_L_law 2589 (.inl (i_goto 2723)) := ok_goto dL_law_2589 rfl
theorem kL_law_2592 (z : XKT) : XOi z xInf Y_L_law 2592 (.inl (i_aload 1 2593)) := ok_aload_n dL_law_2592 rfl
theorem kL_law_2593 (z : XKT) : XOi z xInf Y_L_law 2593 (.inl (i_aload 0 2594)) := ok_aload_n dL_law_2593 rfl
theorem kL_law_2594 (z : XKT) : XOi z xInf Y_L_law 2594 (.inl (i_iload 4 2596)) := ok_iload dL_law_2594
theorem kL_law_2596 (z : XKT) : XOi z xInf Y_L_law 2596 (.inl (i_push (vI 1) 2597)) := ok_iconst dL_law_2596 rfl
theorem kL_law_2597 (z : XKT) : XOi z xInf Y_L_law 2597 (.inl (i_bin (fun x y => x + y) 2598)) := ok_iadd dL_law_2597
theorem kL_law_2598 (z : XKT) : XOi z xInf Y_L_law 2598 (.inl (i_ald 1000 2599)) := ok_iald dL_law_2598
theorem kL_law_2599 (z : XKT) : XOi z xInf Y_L_law 2599 (.inl (i_aload 3 2600)) := ok_aload_n dL_law_2599 rfl
theorem kL_law_2600 (z : XKT) : XOi z xInf Y_L_law 2600 (.inr (.inl (2603, g_stat 13 3))) := show XOkC z xInf Y_L_law 2600 2603 (g_stat 13 3) from okc_SX (q := Y_L_law) (q1 := Y_X0_format) Z_X0_format rfl (by decide) dL_law_2600 q2458 q2459 q124 q2460 hy_97
theorem kL_law_2603 (z : XKT) : XOi z xInf Y_L_law 2603 (.inl (i_istore 5 2605)) := ok_istore dL_law_2603
theorem kL_law_2605 (z : XKT) : XOi z xInf Y_L_law 2605 (.inl (i_aload 2 2606)) := ok_aload_n dL_law_2605 rfl
theorem kL_law_2606 (z : XKT) : XOi z xInf Y_L_law 2606 (.inl (i_aload 0 2607)) := ok_aload_n dL_law_2606 rfl
theorem kL_law_2607 (z : XKT) : XOi z xInf Y_L_law 2607 (.inl (i_iload 4 2609)) := ok_iload dL_law_2607
theorem kL_law_2609 (z : XKT) : XOi z xInf Y_L_law 2609 (.inl (i_push (vI 1) 2610)) := ok_iconst dL_law_2609 rfl
theorem kL_law_2610 (z : XKT) : XOi z xInf Y_L_law 2610 (.inl (i_bin (fun x y => x + y) 2611)) := ok_iadd dL_law_2610
theorem kL_law_2611 (z : XKT) : XOi z xInf Y_L_law 2611 (.inl (i_ald 1000 2612)) := ok_iald dL_law_2611
theorem kL_law_2612 (z : XKT) : XOi z xInf Y_L_law 2612 (.inr (.inl (2615, g_virt [(4, 218)] 1))) := show XOkC z xInf Y_L_law 2612 2615 (g_virt [(4, 218)] 1) from okc_V (q := Y_L_law) (List.forall_mem_cons.mpr ⟨(show XOkV z xInf Y_L_law 2612 2615 1 (4, 218) from okv_V (q := Y_L_law) (q1 := Y_X5_format) Z_X5_format rfl (by decide) ⟨by decide, by decide, Or.inl ⟨_, _, (List.mem_of_getElem? (l := xCls) (i := 3) rfl)⟩⟩ dL_law_2612 q2998 q2999 q3000 q153 q3001 hy_98), (fun _ h => absurd h List.not_mem_nil)⟩)
theorem kL_law_2615 (z : XKT) : XOi z xInf Y_L_law 2615 (.inl (i_istore 6 2617)) := ok_istore dL_law_2615
theorem kL_law_2617 (z : XKT) : XOi z xInf Y_L_law 2617 (.inl (i_aload 2 2618)) := ok_aload_n dL_law_2617 rfl
theorem kL_law_2618 (z : XKT) : XOi z xInf Y_L_law 2618 (.inr (.inl (2621, g_virt [(4, 292)] 0))) := show XOkC z xInf Y_L_law 2618 2621 (g_virt [(4, 292)] 0) from okc_V (q := Y_L_law) (List.forall_mem_cons.mpr ⟨(show XOkV z xInf Y_L_law 2618 2621 0 (4, 292) from okv_V (q := Y_L_law) (q1 := Y_X5_thrown) Z_X5_thrown rfl (by decide) ⟨by decide, by decide, Or.inl ⟨_, _, (List.mem_of_getElem? (l := xCls) (i := 3) rfl)⟩⟩ dL_law_2618 q2595 q2596 q2597 q153 q2598 hy_6), (fun _ h => absurd h List.not_mem_nil)⟩)
theorem kL_law_2621 (z : XKT) : XOi z xInf Y_L_law 2621 (.inl (i_iload 5 2623)) := ok_iload dL_law_2621
theorem kL_law_2623 (z : XKT) : XOi z xInf Y_L_law 2623 (.inl (i_icmp (fun x y => x = y) 2628 2626)) := ok_icmp_eq dL_law_2623 rfl
theorem kL_law_2626 (z : XKT) : XOi z xInf Y_L_law 2626 (.inl (i_push (vI 0) 2627)) := ok_iconst dL_law_2626 rfl
theorem kL_law_2627 (z : XKT) : XOi z xInf Y_L_law 2627 (.inr (.inr (.inl (r_i .boolean)))) := show XOkR Y_L_law 2627 ((r_i .boolean)) from okr_i (q := Y_L_law) (ty := .boolean) rfl rfl dL_law_2627
theorem kL_law_2628 (z : XKT) : XOi z xInf Y_L_law 2628 (.inl (i_iload 5 2630)) := ok_iload dL_law_2628
theorem kL_law_2630 (z : XKT) : XOi z xInf Y_L_law 2630 (.inl (i_if (fun x => ¬ x = 0) 2645 2633)) := ok_if_ne dL_law_2630 rfl
theorem kL_law_2633 (z : XKT) : XOi z xInf Y_L_law 2633 (.inl (i_aload 3 2634)) := ok_aload_n dL_law_2633 rfl
theorem kL_law_2634 (z : XKT) : XOi z xInf Y_L_law 2634 (.inl (i_push (vI 0) 2635)) := ok_iconst dL_law_2634 rfl
theorem kL_law_2635 (z : XKT) : XOi z xInf Y_L_law 2635 (.inl (i_ajld 1002 2636)) := ok_lald dL_law_2635
theorem kL_law_2636 (z : XKT) : XOi z xInf Y_L_law 2636 (.inl (i_iload 6 2638)) := ok_iload dL_law_2636
theorem kL_law_2638 (z : XKT) : XOi z xInf Y_L_law 2638 (.inl (i_i2l 2639)) := ok_i2l dL_law_2638
theorem kL_law_2639 (z : XKT) : XOi z xInf Y_L_law 2639 (.inl (i_lcmp 2640)) := ok_lcmp dL_law_2639
theorem kL_law_2640 (z : XKT) : XOi z xInf Y_L_law 2640 (.inl (i_if (fun x => x = 0) 2645 2643)) := ok_if_eq dL_law_2640 rfl
theorem kL_law_2643 (z : XKT) : XOi z xInf Y_L_law 2643 (.inl (i_push (vI 0) 2644)) := ok_iconst dL_law_2643 rfl
theorem kL_law_2644 (z : XKT) : XOi z xInf Y_L_law 2644 (.inr (.inr (.inl (r_i .boolean)))) := show XOkR Y_L_law 2644 ((r_i .boolean)) from okr_i (q := Y_L_law) (ty := .boolean) rfl rfl dL_law_2644
theorem kL_law_2645 (z : XKT) : XOi z xInf Y_L_law 2645 (.inl (i_goto 2723)) := ok_goto dL_law_2645 rfl
theorem kL_law_2648 (z : XKT) : XOi z xInf Y_L_law 2648 (.inl (i_aload 1 2649)) := ok_aload_n dL_law_2648 rfl
theorem kL_law_2649 (z : XKT) : XOi z xInf Y_L_law 2649 (.inl (i_aload 0 2650)) := ok_aload_n dL_law_2649 rfl
theorem kL_law_2650 (z : XKT) : XOi z xInf Y_L_law 2650 (.inl (i_iload 4 2652)) := ok_iload dL_law_2650
theorem kL_law_2652 (z : XKT) : XOi z xInf Y_L_law 2652 (.inl (i_push (vI 1) 2653)) := ok_iconst dL_law_2652 rfl
theorem kL_law_2653 (z : XKT) : XOi z xInf Y_L_law 2653 (.inl (i_bin (fun x y => x + y) 2654)) := ok_iadd dL_law_2653
theorem kL_law_2654 (z : XKT) : XOi z xInf Y_L_law 2654 (.inl (i_ald 1000 2655)) := ok_iald dL_law_2654
theorem kL_law_2655 (z : XKT) : XOi z xInf Y_L_law 2655 (.inr (.inl (2658, g_virt [(1, 64)] 1))) := show XOkC z xInf Y_L_law 2655 2658 (g_virt [(1, 64)] 1) from okc_V (q := Y_L_law) (List.forall_mem_cons.mpr ⟨(show XOkV z xInf Y_L_law 2655 2658 1 (1, 64) from okv_V (q := Y_L_law) (q1 := Y_X1_formattedByte) Z_X1_formattedByte rfl (by decide) ⟨by decide, by decide, Or.inl ⟨_, _, (List.mem_of_getElem? (l := xCls) (i := 0) rfl)⟩⟩ dL_law_2655 q1679 q1680 q1681 q125 q1682 hy_99), (fun _ h => absurd h List.not_mem_nil)⟩)
theorem kL_law_2658 (z : XKT) : XOi z xInf Y_L_law 2658 (.inl (i_aload 2 2659)) := ok_aload_n dL_law_2658 rfl
theorem kL_law_2659 (z : XKT) : XOi z xInf Y_L_law 2659 (.inl (i_aload 0 2660)) := ok_aload_n dL_law_2659 rfl
theorem kL_law_2660 (z : XKT) : XOi z xInf Y_L_law 2660 (.inl (i_iload 4 2662)) := ok_iload dL_law_2660
theorem kL_law_2662 (z : XKT) : XOi z xInf Y_L_law 2662 (.inl (i_push (vI 1) 2663)) := ok_iconst dL_law_2662 rfl
theorem kL_law_2663 (z : XKT) : XOi z xInf Y_L_law 2663 (.inl (i_bin (fun x y => x + y) 2664)) := ok_iadd dL_law_2663
theorem kL_law_2664 (z : XKT) : XOi z xInf Y_L_law 2664 (.inl (i_ald 1000 2665)) := ok_iald dL_law_2664
theorem kL_law_2665 (z : XKT) : XOi z xInf Y_L_law 2665 (.inr (.inl (2668, g_virt [(4, 219)] 1))) := show XOkC z xInf Y_L_law 2665 2668 (g_virt [(4, 219)] 1) from okc_V (q := Y_L_law) (List.forall_mem_cons.mpr ⟨(show XOkV z xInf Y_L_law 2665 2668 1 (4, 219) from okv_V (q := Y_L_law) (q1 := Y_X5_formattedByte) Z_X5_formattedByte rfl (by decide) ⟨by decide, by decide, Or.inl ⟨_, _, (List.mem_of_getElem? (l := xCls) (i := 3) rfl)⟩⟩ dL_law_2665 q3010 q3011 q3012 q153 q3013 hy_100), (fun _ h => absurd h List.not_mem_nil)⟩)
theorem kL_law_2668 (z : XKT) : XOi z xInf Y_L_law 2668 (.inl (i_icmp (fun x y => x = y) 2723 2671)) := ok_icmp_eq dL_law_2668 rfl
theorem kL_law_2671 (z : XKT) : XOi z xInf Y_L_law 2671 (.inl (i_push (vI 0) 2672)) := ok_iconst dL_law_2671 rfl
theorem kL_law_2672 (z : XKT) : XOi z xInf Y_L_law 2672 (.inr (.inr (.inl (r_i .boolean)))) := show XOkR Y_L_law 2672 ((r_i .boolean)) from okr_i (q := Y_L_law) (ty := .boolean) rfl rfl dL_law_2672
theorem kL_law_2673 (z : XKT) : XOi z xInf Y_L_law 2673 (.inl (i_aload 1 2674)) := ok_aload_n dL_law_2673 rfl
theorem kL_law_2674 (z : XKT) : XOi z xInf Y_L_law 2674 (.inr (.inl (2677, g_virt [(1, 126)] 0))) := show XOkC z xInf Y_L_law 2674 2677 (g_virt [(1, 126)] 0) from okc_V (q := Y_L_law) (List.forall_mem_cons.mpr ⟨(show XOkV z xInf Y_L_law 2674 2677 0 (1, 126) from okv_V (q := Y_L_law) (q1 := Y_X1_undoCount) Z_X1_undoCount rfl (by decide) ⟨by decide, by decide, Or.inl ⟨_, _, (List.mem_of_getElem? (l := xCls) (i := 0) rfl)⟩⟩ dL_law_2674 q1709 q1710 q1711 q125 q1712 hy_101), (fun _ h => absurd h List.not_mem_nil)⟩)
theorem kL_law_2677 (z : XKT) : XOi z xInf Y_L_law 2677 (.inl (i_aload 2 2678)) := ok_aload_n dL_law_2677 rfl
theorem kL_law_2678 (z : XKT) : XOi z xInf Y_L_law 2678 (.inr (.inl (2681, g_virt [(4, 299)] 0))) := show XOkC z xInf Y_L_law 2678 2681 (g_virt [(4, 299)] 0) from okc_V (q := Y_L_law) (List.forall_mem_cons.mpr ⟨(show XOkV z xInf Y_L_law 2678 2681 0 (4, 299) from okv_V (q := Y_L_law) (q1 := Y_X5_undoCount) Z_X5_undoCount rfl (by decide) ⟨by decide, by decide, Or.inl ⟨_, _, (List.mem_of_getElem? (l := xCls) (i := 3) rfl)⟩⟩ dL_law_2678 q3014 q3015 q3016 q153 q3017 hy_102), (fun _ h => absurd h List.not_mem_nil)⟩)
theorem kL_law_2681 (z : XKT) : XOi z xInf Y_L_law 2681 (.inl (i_icmp (fun x y => x = y) 2723 2684)) := ok_icmp_eq dL_law_2681 rfl
theorem kL_law_2684 (z : XKT) : XOi z xInf Y_L_law 2684 (.inl (i_push (vI 0) 2685)) := ok_iconst dL_law_2684 rfl
theorem kL_law_2685 (z : XKT) : XOi z xInf Y_L_law 2685 (.inr (.inr (.inl (r_i .boolean)))) := show XOkR Y_L_law 2685 ((r_i .boolean)) from okr_i (q := Y_L_law) (ty := .boolean) rfl rfl dL_law_2685
theorem kL_law_2686 (z : XKT) : XOi z xInf Y_L_law 2686 (.inl (i_aload 1 2687)) := ok_aload_n dL_law_2686 rfl
theorem kL_law_2687 (z : XKT) : XOi z xInf Y_L_law 2687 (.inr (.inl (2690, g_virt [(1, 125)] 0))) := show XOkC z xInf Y_L_law 2687 2690 (g_virt [(1, 125)] 0) from okc_V (q := Y_L_law) (List.forall_mem_cons.mpr ⟨(show XOkV z xInf Y_L_law 2687 2690 0 (1, 125) from okv_V (q := Y_L_law) (q1 := Y_X1_undo) Z_X1_undo rfl (by decide) ⟨by decide, by decide, Or.inl ⟨_, _, (List.mem_of_getElem? (l := xCls) (i := 0) rfl)⟩⟩ dL_law_2687 q1713 q1714 q1715 q125 q1716 hy_103), (fun _ h => absurd h List.not_mem_nil)⟩)
theorem kL_law_2690 (z : XKT) : XOi z xInf Y_L_law 2690 (.inl (i_aload 2 2691)) := ok_aload_n dL_law_2690 rfl
theorem kL_law_2691 (z : XKT) : XOi z xInf Y_L_law 2691 (.inr (.inl (2694, g_virt [(4, 298)] 0))) := show XOkC z xInf Y_L_law 2691 2694 (g_virt [(4, 298)] 0) from okc_V (q := Y_L_law) (List.forall_mem_cons.mpr ⟨(show XOkV z xInf Y_L_law 2691 2694 0 (4, 298) from okv_V (q := Y_L_law) (q1 := Y_X5_undo) Z_X5_undo rfl (by decide) ⟨by decide, by decide, Or.inl ⟨_, _, (List.mem_of_getElem? (l := xCls) (i := 3) rfl)⟩⟩ dL_law_2691 q3018 q3019 q3020 q153 q3021 hy_104), (fun _ h => absurd h List.not_mem_nil)⟩)
theorem kL_law_2694 (z : XKT) : XOi z xInf Y_L_law 2694 (.inl (i_icmp (fun x y => x = y) 2723 2697)) := ok_icmp_eq dL_law_2694 rfl
theorem kL_law_2697 (z : XKT) : XOi z xInf Y_L_law 2697 (.inl (i_push (vI 0) 2698)) := ok_iconst dL_law_2697 rfl
theorem kL_law_2698 (z : XKT) : XOi z xInf Y_L_law 2698 (.inr (.inr (.inl (r_i .boolean)))) := show XOkR Y_L_law 2698 ((r_i .boolean)) from okr_i (q := Y_L_law) (ty := .boolean) rfl rfl dL_law_2698
theorem kL_law_2699 (z : XKT) : XOi z xInf Y_L_law 2699 (.inl (i_aload 1 2700)) := ok_aload_n dL_law_2699 rfl
theorem kL_law_2700 (z : XKT) : XOi z xInf Y_L_law 2700 (.inr (.inl (2703, g_virt [(1, 118)] 0))) := show XOkC z xInf Y_L_law 2700 2703 (g_virt [(1, 118)] 0) from okc_V (q := Y_L_law) (List.forall_mem_cons.mpr ⟨(show XOkV z xInf Y_L_law 2700 2703 0 (1, 118) from okv_V (q := Y_L_law) (q1 := Y_X1_saveSnapshot) Z_X1_saveSnapshot rfl (by decide) ⟨by decide, by decide, Or.inl ⟨_, _, (List.mem_of_getElem? (l := xCls) (i := 0) rfl)⟩⟩ dL_law_2700 q1732 q1733 q1734 q125 q1735 hy_105), (fun _ h => absurd h List.not_mem_nil)⟩)
theorem kL_law_2703 (z : XKT) : XOi z xInf Y_L_law 2703 (.inl (i_aload 2 2704)) := ok_aload_n dL_law_2703 rfl
theorem kL_law_2704 (z : XKT) : XOi z xInf Y_L_law 2704 (.inr (.inl (2707, g_virt [(4, 282)] 0))) := show XOkC z xInf Y_L_law 2704 2707 (g_virt [(4, 282)] 0) from okc_V (q := Y_L_law) (List.forall_mem_cons.mpr ⟨(show XOkV z xInf Y_L_law 2704 2707 0 (4, 282) from okv_V (q := Y_L_law) (q1 := Y_X5_saveSnapshot) Z_X5_saveSnapshot rfl (by decide) ⟨by decide, by decide, Or.inl ⟨_, _, (List.mem_of_getElem? (l := xCls) (i := 3) rfl)⟩⟩ dL_law_2704 q3022 q3023 q3024 q153 q3025 hy_106), (fun _ h => absurd h List.not_mem_nil)⟩)
theorem kL_law_2707 (z : XKT) : XOi z xInf Y_L_law 2707 (.inl (i_goto 2723)) := ok_goto dL_law_2707 rfl
theorem kL_law_2710 (z : XKT) : XOi z xInf Y_L_law 2710 (.inl (i_aload 1 2711)) := ok_aload_n dL_law_2710 rfl
theorem kL_law_2711 (z : XKT) : XOi z xInf Y_L_law 2711 (.inr (.inl (2714, g_virt [(1, 114)] 0))) := show XOkC z xInf Y_L_law 2711 2714 (g_virt [(1, 114)] 0) from okc_V (q := Y_L_law) (List.forall_mem_cons.mpr ⟨(show XOkV z xInf Y_L_law 2711 2714 0 (1, 114) from okv_V (q := Y_L_law) (q1 := Y_X1_restoreSnapshot) Z_X1_restoreSnapshot rfl (by decide) ⟨by decide, by decide, Or.inl ⟨_, _, (List.mem_of_getElem? (l := xCls) (i := 0) rfl)⟩⟩ dL_law_2711 q1736 q1737 q1738 q125 q1739 hy_107), (fun _ h => absurd h List.not_mem_nil)⟩)
theorem kL_law_2714 (z : XKT) : XOi z xInf Y_L_law 2714 (.inl (i_aload 2 2715)) := ok_aload_n dL_law_2714 rfl
theorem kL_law_2715 (z : XKT) : XOi z xInf Y_L_law 2715 (.inr (.inl (2718, g_virt [(4, 278)] 0))) := show XOkC z xInf Y_L_law 2715 2718 (g_virt [(4, 278)] 0) from okc_V (q := Y_L_law) (List.forall_mem_cons.mpr ⟨(show XOkV z xInf Y_L_law 2715 2718 0 (4, 278) from okv_V (q := Y_L_law) (q1 := Y_X5_restoreSnapshot) Z_X5_restoreSnapshot rfl (by decide) ⟨by decide, by decide, Or.inl ⟨_, _, (List.mem_of_getElem? (l := xCls) (i := 3) rfl)⟩⟩ dL_law_2715 q3026 q3027 q3028 q153 q3029 hy_108), (fun _ h => absurd h List.not_mem_nil)⟩)
theorem kL_law_2718 (z : XKT) : XOi z xInf Y_L_law 2718 (.inl (i_icmp (fun x y => x = y) 2723 2721)) := ok_icmp_eq dL_law_2718 rfl
theorem kL_law_2721 (z : XKT) : XOi z xInf Y_L_law 2721 (.inl (i_push (vI 0) 2722)) := ok_iconst dL_law_2721 rfl
theorem kL_law_2722 (z : XKT) : XOi z xInf Y_L_law 2722 (.inr (.inr (.inl (r_i .boolean)))) := show XOkR Y_L_law 2722 ((r_i .boolean)) from okr_i (q := Y_L_law) (ty := .boolean) rfl rfl dL_law_2722
theorem kL_law_2723 (z : XKT) : XOi z xInf Y_L_law 2723 (.inl (i_iinc 4 6 2726)) := ok_iinc dL_law_2723 rfl
theorem kL_law_2726 (z : XKT) : XOi z xInf Y_L_law 2726 (.inl (i_goto 23)) := ok_goto dL_law_2726 rfl
theorem kL_law_2729 (z : XKT) : XOi z xInf Y_L_law 2729 (.inl (i_push (vI 1) 2730)) := ok_iconst dL_law_2729 rfl
theorem kL_law_2730 (z : XKT) : XOi z xInf Y_L_law 2730 (.inr (.inr (.inl (r_i .boolean)))) := show XOkR Y_L_law 2730 ((r_i .boolean)) from okr_i (q := Y_L_law) (ty := .boolean) rfl rfl dL_law_2730
theorem o_L_law (z : XKT) : XMi z xInf Y_L_law := XMi.mk9 (T := T_L_law z) rfl (⟨kL_law_0 z, ⟨kL_law_3 z, ⟨kL_law_4 z, ⟨kL_law_7 z, ⟨kL_law_8 z, ⟨kL_law_11 z, ⟨kL_law_12 z, ⟨kL_law_15 z, ⟨kL_law_16 z, ⟨kL_law_17 z, ⟨kL_law_19 z, ⟨kL_law_20 z, ⟨kL_law_21 z, ⟨kL_law_23 z, ⟨kL_law_25 z, ⟨kL_law_26 z, ⟨kL_law_27 z, ⟨kL_law_29 z, ⟨kL_law_30 z, ⟨kL_law_33 z, ⟨kL_law_34 z, ⟨kL_law_36 z, ⟨kL_law_37 z, ⟨kL_law_39 z, ⟨kL_law_40 z, ⟨kL_law_268 z, ⟨kL_law_269 z, ⟨kL_law_270 z, ⟨kL_law_272 z, ⟨kL_law_273 z, ⟨kL_law_274 z, ⟨kL_law_275 z, ⟨kL_law_276 z, ⟨kL_law_278 z, ⟨kL_law_279 z, ⟨kL_law_280 z, ⟨kL_law_281 z, ⟨kL_law_282 z, ⟨kL_law_284 z, ⟨kL_law_285 z, ⟨kL_law_286 z, ⟨kL_law_287 z, ⟨kL_law_288 z, ⟨kL_law_290 z, ⟨kL_law_291 z, ⟨kL_law_292 z, ⟨kL_law_293 z, ⟨kL_law_294 z, ⟨kL_law_296 z, ⟨kL_law_297 z, ⟨kL_law_298 z, ⟨kL_law_299 z, ⟨kL_law_302 z, ⟨kL_law_303 z, ⟨kL_law_304 z, ⟨kL_law_306 z, ⟨kL_law_307 z, ⟨kL_law_308 z, ⟨kL_law_309 z, ⟨kL_law_310 z, ⟨kL_law_312 z, ⟨kL_law_313 z, ⟨kL_law_314 z, ⟨kL_law_315 z, ⟨kL_law_316 z, ⟨kL_law_318 z, ⟨kL_law_319 z, ⟨kL_law_320 z, ⟨kL_law_321 z, ⟨kL_law_322 z, ⟨kL_law_324 z, ⟨kL_law_325 z, ⟨kL_law_326 z, ⟨kL_law_327 z, ⟨kL_law_328 z, ⟨kL_law_330 z, ⟨kL_law_331 z, ⟨kL_law_332 z, ⟨kL_law_333 z, ⟨kL_law_336 z, ⟨kL_law_339 z, ⟨kL_law_340 z, ⟨kL_law_341 z, ⟨kL_law_342 z, ⟨kL_law_343 z, ⟨kL_law_345 z, ⟨kL_law_346 z, ⟨kL_law_347 z, ⟨kL_law_348 z, ⟨kL_law_349 z, ⟨kL_law_352 z, ⟨kL_law_354 z, ⟨kL_law_355 z, ⟨kL_law_356 z, ⟨kL_law_358 z, ⟨kL_law_359 z, ⟨kL_law_360 z, ⟨kL_law_361 z, ⟨kL_law_364 z, ⟨kL_law_366 z, ⟨kL_law_367 z, ⟨kL_law_370 z, ⟨kL_law_372 z, ⟨kL_law_375 z, ⟨kL_law_376 z, ⟨kL_law_377 z, ⟨kL_law_379 z, ⟨kL_law_382 z, ⟨kL_law_383 z, ⟨kL_law_384 z, ⟨kL_law_385 z, ⟨kL_law_387 z, ⟨kL_law_388 z, ⟨kL_law_389 z, ⟨kL_law_392 z, ⟨kL_law_393 z, ⟨kL_law_394 z, ⟨kL_law_397 z, ⟨kL_law_398 z, ⟨kL_law_401 z, ⟨kL_law_402 z, ⟨kL_law_405 z, ⟨kL_law_408 z, ⟨kL_law_409 z, ⟨kL_law_410 z, ⟨kL_law_411 z, ⟨kL_law_412 z, ⟨kL_law_414 z, ⟨kL_law_415 z, ⟨kL_law_416 z, ⟨kL_law_417 z, ⟨kL_law_418 z, ⟨kL_law_421 z, ⟨kL_law_423 z, ⟨kL_law_424 z, ⟨kL_law_425 z, ⟨kL_law_427 z, ⟨kL_law_428 z, ⟨kL_law_429 z, ⟨kL_law_430 z, ⟨kL_law_433 z, ⟨kL_law_435 z, ⟨kL_law_436 z, ⟨kL_law_439 z, ⟨kL_law_441 z, ⟨kL_law_444 z, ⟨kL_law_445 z, ⟨kL_law_446 z, ⟨kL_law_448 z, ⟨kL_law_451 z, ⟨kL_law_452 z, ⟨kL_law_453 z, ⟨kL_law_454 z, ⟨kL_law_456 z, ⟨kL_law_457 z, ⟨kL_law_458 z, ⟨kL_law_461 z, ⟨kL_law_462 z, ⟨kL_law_463 z, ⟨kL_law_466 z, ⟨kL_law_467 z, ⟨kL_law_468 z, ⟨kL_law_470 z, ⟨kL_law_471 z, ⟨kL_law_472 z, ⟨kL_law_473 z, ⟨kL_law_474 z, ⟨kL_law_477 z, ⟨kL_law_479 z, ⟨kL_law_480 z, ⟨kL_law_481 z, ⟨kL_law_483 z, ⟨kL_law_484 z, ⟨kL_law_485 z, ⟨kL_law_486 z, ⟨kL_law_489 z, ⟨kL_law_491 z, ⟨kL_law_492 z, ⟨kL_law_495 z, ⟨kL_law_497 z, ⟨kL_law_500 z, ⟨kL_law_501 z, ⟨kL_law_502 z, ⟨kL_law_504 z, ⟨kL_law_507 z, ⟨kL_law_508 z, ⟨kL_law_509 z, ⟨kL_law_510 z, ⟨kL_law_512 z, ⟨kL_law_513 z, ⟨kL_law_514 z, ⟨kL_law_517 z, ⟨kL_law_518 z, ⟨kL_law_519 z, ⟨kL_law_522 z, ⟨kL_law_523 z, ⟨kL_law_524 z, ⟨kL_law_526 z, ⟨kL_law_527 z, ⟨kL_law_528 z, ⟨kL_law_529 z, ⟨kL_law_530 z, ⟨kL_law_532 z, ⟨kL_law_533 z, ⟨kL_law_534 z, ⟨kL_law_535 z, ⟨kL_law_536 z, ⟨kL_law_539 z, ⟨kL_law_541 z, ⟨kL_law_542 z, ⟨kL_law_543 z, ⟨kL_law_545 z, ⟨kL_law_546 z, ⟨kL_law_547 z, ⟨kL_law_548 z, ⟨kL_law_549 z, ⟨kL_law_551 z, ⟨kL_law_552 z, ⟨kL_law_553 z, ⟨kL_law_554 z, ⟨kL_law_557 z, ⟨kL_law_559 z, ⟨kL_law_560 z, ⟨kL_law_563 z, ⟨kL_law_565 z, ⟨kL_law_568 z, ⟨kL_law_569 z, ⟨kL_law_570 z, ⟨kL_law_572 z, ⟨kL_law_575 z, ⟨kL_law_576 z, ⟨kL_law_577 z, ⟨kL_law_578 z, ⟨kL_law_580 z, ⟨kL_law_581 z, ⟨kL_law_582 z, ⟨kL_law_585 z, ⟨kL_law_586 z, ⟨kL_law_587 z, ⟨kL_law_590 z, ⟨kL_law_591 z, ⟨kL_law_592 z, ⟨kL_law_594 z, ⟨kL_law_595 z, ⟨kL_law_596 z, ⟨kL_law_597 z, ⟨kL_law_598 z, ⟨kL_law_600 z, ⟨kL_law_601 z, ⟨kL_law_602 z, ⟨kL_law_603 z, ⟨kL_law_604 z, ⟨kL_law_607 z, ⟨kL_law_609 z, ⟨kL_law_610 z, ⟨kL_law_611 z, ⟨kL_law_613 z, ⟨kL_law_614 z, ⟨kL_law_615 z, ⟨kL_law_616 z, ⟨kL_law_617 z, ⟨kL_law_619 z, ⟨kL_law_620 z, ⟨kL_law_621 z, ⟨kL_law_622 z, ⟨kL_law_625 z, ⟨kL_law_627 z, ⟨kL_law_628 z, ⟨kL_law_631 z, ⟨kL_law_633 z, ⟨kL_law_636 z, ⟨kL_law_637 z, ⟨kL_law_638 z, ⟨kL_law_640 z, ⟨kL_law_643 z, ⟨kL_law_644 z, ⟨kL_law_645 z, ⟨kL_law_646 z, ⟨kL_law_648 z, ⟨kL_law_649 z, ⟨kL_law_650 z, ⟨kL_law_653 z, ⟨kL_law_654 z, ⟨kL_law_655 z, ⟨kL_law_658 z, ⟨kL_law_659 z, ⟨kL_law_660 z, ⟨kL_law_662 z, ⟨kL_law_663 z, ⟨kL_law_664 z, ⟨kL_law_665 z, ⟨kL_law_666 z, ⟨kL_law_669 z, ⟨kL_law_671 z, ⟨kL_law_672 z, ⟨kL_law_673 z, ⟨kL_law_675 z, ⟨kL_law_676 z, ⟨kL_law_677 z, ⟨kL_law_678 z, ⟨kL_law_681 z, ⟨kL_law_683 z, ⟨kL_law_684 z, ⟨kL_law_687 z, ⟨kL_law_689 z, ⟨kL_law_692 z, ⟨kL_law_693 z, ⟨kL_law_694 z, ⟨kL_law_696 z, ⟨kL_law_699 z, ⟨kL_law_700 z, ⟨kL_law_701 z, ⟨kL_law_702 z, ⟨kL_law_704 z, ⟨kL_law_705 z, ⟨kL_law_706 z, ⟨kL_law_709 z, ⟨kL_law_710 z, ⟨kL_law_711 z, ⟨kL_law_714 z, ⟨kL_law_715 z, ⟨kL_law_716 z, ⟨kL_law_718 z, ⟨kL_law_719 z, ⟨kL_law_720 z, ⟨kL_law_721 z, ⟨kL_law_722 z, ⟨kL_law_724 z, ⟨kL_law_725 z, ⟨kL_law_726 z, ⟨kL_law_727 z, ⟨kL_law_728 z, ⟨kL_law_730 z, ⟨kL_law_731 z, ⟨kL_law_732 z, ⟨kL_law_733 z, ⟨kL_law_736 z, ⟨kL_law_737 z, ⟨kL_law_740 z, ⟨kL_law_741 z, ⟨kL_law_742 z, ⟨kL_law_745 z, ⟨kL_law_747 z, ⟨kL_law_748 z, ⟨kL_law_749 z, ⟨kL_law_751 z, ⟨kL_law_752 z, ⟨kL_law_753 z, ⟨kL_law_754 z, ⟨kL_law_755 z, ⟨kL_law_757 z, ⟨kL_law_758 z, ⟨kL_law_759 z, ⟨kL_law_760 z, ⟨kL_law_761 z, ⟨kL_law_763 z, ⟨kL_law_764 z, ⟨kL_law_765 z, ⟨kL_law_766 z, ⟨kL_law_769 z, ⟨kL_law_770 z, ⟨kL_law_773 z, ⟨kL_law_774 z, ⟨kL_law_777 z, ⟨kL_law_779 z, ⟨kL_law_780 z, ⟨kL_law_783 z, ⟨kL_law_785 z, ⟨kL_law_788 z, ⟨kL_law_789 z, ⟨kL_law_790 z, ⟨kL_law_792 z, ⟨kL_law_795 z, ⟨kL_law_796 z, ⟨kL_law_797 z, ⟨kL_law_798 z, ⟨kL_law_800 z, ⟨kL_law_801 z, ⟨kL_law_802 z, ⟨kL_law_805 z, ⟨kL_law_806 z, ⟨kL_law_807 z, ⟨kL_law_810 z, ⟨kL_law_811 z, ⟨kL_law_812 z, ⟨kL_law_814 z, ⟨kL_law_815 z, ⟨kL_law_816 z, ⟨kL_law_817 z, ⟨kL_law_818 z, ⟨kL_law_820 z, ⟨kL_law_821 z, ⟨kL_law_822 z, ⟨kL_law_823 z, ⟨kL_law_824 z, ⟨kL_law_827 z, ⟨kL_law_829 z, ⟨kL_law_830 z, ⟨kL_law_831 z, ⟨kL_law_833 z, ⟨kL_law_834 z, ⟨kL_law_835 z, ⟨kL_law_836 z, ⟨kL_law_837 z, ⟨kL_law_839 z, ⟨kL_law_840 z, ⟨kL_law_841 z, ⟨kL_law_842 z, ⟨kL_law_845 z, ⟨kL_law_847 z, ⟨kL_law_848 z, ⟨kL_law_851 z, ⟨kL_law_853 z, ⟨kL_law_856 z, ⟨kL_law_857 z, ⟨kL_law_858 z, ⟨kL_law_860 z, ⟨kL_law_863 z, ⟨kL_law_864 z, ⟨kL_law_865 z, ⟨kL_law_866 z, ⟨kL_law_868 z, ⟨kL_law_869 z, ⟨kL_law_870 z, ⟨kL_law_873 z, ⟨kL_law_874 z, ⟨kL_law_875 z, ⟨kL_law_878 z, ⟨kL_law_879 z, ⟨kL_law_880 z, ⟨kL_law_882 z, ⟨kL_law_883 z, ⟨kL_law_884 z, ⟨kL_law_885 z, ⟨kL_law_886 z, ⟨kL_law_888 z, ⟨kL_law_889 z, ⟨kL_law_890 z, ⟨kL_law_891 z, ⟨kL_law_892 z, ⟨kL_law_895 z, ⟨kL_law_897 z, ⟨kL_law_898 z, ⟨kL_law_899 z, ⟨kL_law_901 z, ⟨kL_law_902 z, ⟨kL_law_903 z, ⟨kL_law_904 z, ⟨kL_law_905 z, ⟨kL_law_907 z, ⟨kL_law_908 z, ⟨kL_law_909 z, ⟨kL_law_910 z, ⟨kL_law_913 z, ⟨kL_law_915 z, ⟨kL_law_916 z, ⟨kL_law_919 z, ⟨kL_law_921 z, ⟨kL_law_924 z, ⟨kL_law_925 z, ⟨kL_law_926 z, ⟨kL_law_928 z, ⟨kL_law_931 z, ⟨kL_law_932 z, ⟨kL_law_933 z, ⟨kL_law_934 z, ⟨kL_law_936 z, ⟨kL_law_937 z, ⟨kL_law_938 z, ⟨kL_law_941 z, ⟨kL_law_942 z, ⟨kL_law_943 z, ⟨kL_law_946 z, ⟨kL_law_947 z, ⟨kL_law_948 z, ⟨kL_law_950 z, ⟨kL_law_951 z, ⟨kL_law_952 z, ⟨kL_law_953 z, ⟨kL_law_956 z, ⟨kL_law_957 z, ⟨kL_law_958 z, ⟨kL_law_960 z, ⟨kL_law_961 z, ⟨kL_law_962 z, ⟨kL_law_963 z, ⟨kL_law_966 z, ⟨kL_law_969 z, ⟨kL_law_970 z, ⟨kL_law_971 z, ⟨kL_law_972 z, ⟨kL_law_973 z, ⟨kL_law_975 z, ⟨kL_law_976 z, ⟨kL_law_977 z, ⟨kL_law_978 z, ⟨kL_law_979 z, ⟨kL_law_982 z, ⟨kL_law_984 z, ⟨kL_law_985 z, ⟨kL_law_986 z, ⟨kL_law_988 z, ⟨kL_law_989 z, ⟨kL_law_990 z, ⟨kL_law_991 z, ⟨kL_law_994 z, ⟨kL_law_996 z, ⟨kL_law_997 z, ⟨kL_law_1000 z, ⟨kL_law_1002 z, ⟨kL_law_1005 z, ⟨kL_law_1006 z, ⟨kL_law_1007 z, ⟨kL_law_1009 z, ⟨kL_law_1012 z, ⟨kL_law_1013 z, ⟨kL_law_1014 z, ⟨kL_law_1015 z, ⟨kL_law_1017 z, ⟨kL_law_1018 z, ⟨kL_law_1019 z, ⟨kL_law_1022 z, ⟨kL_law_1023 z, ⟨kL_law_1024 z, ⟨kL_law_1027 z, ⟨kL_law_1028 z, ⟨kL_law_1031 z, ⟨kL_law_1032 z, ⟨kL_law_1035 z, ⟨kL_law_1038 z, ⟨kL_law_1039 z, ⟨kL_law_1040 z, ⟨kL_law_1041 z, ⟨kL_law_1044 z, ⟨kL_law_1045 z, ⟨kL_law_1048 z, ⟨kL_law_1051 z, ⟨kL_law_1052 z, ⟨kL_law_1053 z, ⟨kL_law_1054 z, ⟨kL_law_1055 z, ⟨kL_law_1057 z, ⟨kL_law_1058 z, ⟨kL_law_1059 z, ⟨kL_law_1060 z, ⟨kL_law_1061 z, ⟨kL_law_1064 z, ⟨kL_law_1066 z, ⟨kL_law_1067 z, ⟨kL_law_1068 z, ⟨kL_law_1070 z, ⟨kL_law_1071 z, ⟨kL_law_1072 z, ⟨kL_law_1073 z, ⟨kL_law_1076 z, ⟨kL_law_1078 z, ⟨kL_law_1079 z, ⟨kL_law_1082 z, ⟨kL_law_1084 z, ⟨kL_law_1087 z, ⟨kL_law_1088 z, ⟨kL_law_1089 z, ⟨kL_law_1091 z, ⟨kL_law_1094 z, ⟨kL_law_1095 z, ⟨kL_law_1096 z, ⟨kL_law_1097 z, ⟨kL_law_1099 z, ⟨kL_law_1100 z, ⟨kL_law_1101 z, ⟨kL_law_1104 z, ⟨kL_law_1105 z, ⟨kL_law_1106 z, ⟨kL_law_1109 z, ⟨kL_law_1110 z, ⟨kL_law_1111 z, ⟨kL_law_1113 z, ⟨kL_law_1114 z, ⟨kL_law_1115 z, ⟨kL_law_1116 z, ⟨kL_law_1119 z, ⟨kL_law_1120 z, ⟨kL_law_1123 z, ⟨kL_law_1124 z, ⟨kL_law_1127 z, ⟨kL_law_1128 z, ⟨kL_law_1129 z, ⟨kL_law_1131 z, ⟨kL_law_1132 z, ⟨kL_law_1133 z, ⟨kL_law_1134 z, ⟨kL_law_1137 z, ⟨kL_law_1138 z, ⟨kL_law_1141 z, ⟨kL_law_1142 z, ⟨kL_law_1145 z, ⟨kL_law_1148 z, ⟨kL_law_1149 z, ⟨kL_law_1150 z, ⟨kL_law_1151 z, ⟨kL_law_1152 z, ⟨kL_law_1154 z, ⟨kL_law_1155 z, ⟨kL_law_1156 z, ⟨kL_law_1157 z, ⟨kL_law_1158 z, ⟨kL_law_1161 z, ⟨kL_law_1163 z, ⟨kL_law_1164 z, ⟨kL_law_1165 z, ⟨kL_law_1167 z, ⟨kL_law_1168 z, ⟨kL_law_1169 z, ⟨kL_law_1170 z, ⟨kL_law_1173 z, ⟨kL_law_1175 z, ⟨kL_law_1176 z, ⟨kL_law_1179 z, ⟨kL_law_1181 z, ⟨kL_law_1184 z, ⟨kL_law_1185 z, ⟨kL_law_1186 z, ⟨kL_law_1188 z, ⟨kL_law_1191 z, ⟨kL_law_1192 z, ⟨kL_law_1193 z, ⟨kL_law_1194 z, ⟨kL_law_1196 z, ⟨kL_law_1197 z, ⟨kL_law_1198 z, ⟨kL_law_1201 z, ⟨kL_law_1202 z, ⟨kL_law_1203 z, ⟨kL_law_1206 z, ⟨kL_law_1207 z, ⟨kL_law_1208 z, ⟨kL_law_1210 z, ⟨kL_law_1211 z, ⟨kL_law_1212 z, ⟨kL_law_1213 z, ⟨kL_law_1214 z, ⟨kL_law_1217 z, ⟨kL_law_1219 z, ⟨kL_law_1220 z, ⟨kL_law_1221 z, ⟨kL_law_1223 z, ⟨kL_law_1224 z, ⟨kL_law_1225 z, ⟨kL_law_1226 z, ⟨kL_law_1229 z, ⟨kL_law_1231 z, ⟨kL_law_1232 z, ⟨kL_law_1235 z, ⟨kL_law_1237 z, ⟨kL_law_1240 z, ⟨kL_law_1241 z, ⟨kL_law_1242 z, ⟨kL_law_1244 z, ⟨kL_law_1247 z, ⟨kL_law_1248 z, ⟨kL_law_1249 z, ⟨kL_law_1250 z, ⟨kL_law_1252 z, ⟨kL_law_1253 z, ⟨kL_law_1254 z, ⟨kL_law_1257 z, ⟨kL_law_1258 z, ⟨kL_law_1259 z, ⟨kL_law_1262 z, ⟨kL_law_1263 z, ⟨kL_law_1264 z, ⟨kL_law_1266 z, ⟨kL_law_1267 z, ⟨kL_law_1268 z, ⟨kL_law_1269 z, ⟨kL_law_1270 z, ⟨kL_law_1273 z, ⟨kL_law_1275 z, ⟨kL_law_1276 z, ⟨kL_law_1277 z, ⟨kL_law_1279 z, ⟨kL_law_1280 z, ⟨kL_law_1281 z, ⟨kL_law_1282 z, ⟨kL_law_1285 z, ⟨kL_law_1287 z, ⟨kL_law_1288 z, ⟨kL_law_1291 z, ⟨kL_law_1293 z, ⟨kL_law_1296 z, ⟨kL_law_1297 z, ⟨kL_law_1298 z, ⟨kL_law_1300 z, ⟨kL_law_1303 z, ⟨kL_law_1304 z, ⟨kL_law_1305 z, ⟨kL_law_1306 z, ⟨kL_law_1308 z, ⟨kL_law_1309 z, ⟨kL_law_1310 z, ⟨kL_law_1313 z, ⟨kL_law_1314 z, ⟨kL_law_1315 z, ⟨kL_law_1318 z, ⟨kL_law_1319 z, ⟨kL_law_1322 z, ⟨kL_law_1323 z, ⟨kL_law_1326 z, ⟨kL_law_1329 z, ⟨kL_law_1330 z, ⟨kL_law_1331 z, ⟨kL_law_1332 z, ⟨kL_law_1333 z, ⟨kL_law_1335 z, ⟨kL_law_1336 z, ⟨kL_law_1337 z, ⟨kL_law_1338 z, ⟨kL_law_1339 z, ⟨kL_law_1342 z, ⟨kL_law_1344 z, ⟨kL_law_1345 z, ⟨kL_law_1346 z, ⟨kL_law_1348 z, ⟨kL_law_1349 z, ⟨kL_law_1350 z, ⟨kL_law_1351 z, ⟨kL_law_1354 z, ⟨kL_law_1356 z, ⟨kL_law_1357 z, ⟨kL_law_1360 z, ⟨kL_law_1362 z, ⟨kL_law_1365 z, ⟨kL_law_1366 z, ⟨kL_law_1367 z, ⟨kL_law_1369 z, ⟨kL_law_1372 z, ⟨kL_law_1373 z, ⟨kL_law_1374 z, ⟨kL_law_1375 z, ⟨kL_law_1377 z, ⟨kL_law_1378 z, ⟨kL_law_1379 z, ⟨kL_law_1382 z, ⟨kL_law_1383 z, ⟨kL_law_1384 z, ⟨kL_law_1387 z, ⟨kL_law_1388 z, ⟨kL_law_1389 z, ⟨kL_law_1391 z, ⟨kL_law_1392 z, ⟨kL_law_1393 z, ⟨kL_law_1394 z, ⟨kL_law_1395 z, ⟨kL_law_1397 z, ⟨kL_law_1398 z, ⟨kL_law_1399 z, ⟨kL_law_1400 z, ⟨kL_law_1401 z, ⟨kL_law_1404 z, ⟨kL_law_1406 z, ⟨kL_law_1407 z, ⟨kL_law_1408 z, ⟨kL_law_1410 z, ⟨kL_law_1411 z, ⟨kL_law_1412 z, ⟨kL_law_1413 z, ⟨kL_law_1414 z, ⟨kL_law_1416 z, ⟨kL_law_1417 z, ⟨kL_law_1418 z, ⟨kL_law_1419 z, ⟨kL_law_1422 z, ⟨kL_law_1424 z, ⟨kL_law_1425 z, ⟨kL_law_1428 z, ⟨kL_law_1430 z, ⟨kL_law_1433 z, ⟨kL_law_1434 z, ⟨kL_law_1435 z, ⟨kL_law_1437 z, ⟨kL_law_1440 z, ⟨kL_law_1441 z, ⟨kL_law_1442 z, ⟨kL_law_1443 z, ⟨kL_law_1445 z, ⟨kL_law_1446 z, ⟨kL_law_1447 z, ⟨kL_law_1450 z, ⟨kL_law_1451 z, ⟨kL_law_1452 z, ⟨kL_law_1455 z, ⟨kL_law_1456 z, ⟨kL_law_1457 z, ⟨kL_law_1459 z, ⟨kL_law_1460 z, ⟨kL_law_1461 z, ⟨kL_law_1462 z, ⟨kL_law_1463 z, ⟨kL_law_1466 z, ⟨kL_law_1468 z, ⟨kL_law_1469 z, ⟨kL_law_1470 z, ⟨kL_law_1472 z, ⟨kL_law_1473 z, ⟨kL_law_1474 z, ⟨kL_law_1475 z, ⟨kL_law_1478 z, ⟨kL_law_1480 z, ⟨kL_law_1481 z, ⟨kL_law_1484 z, ⟨kL_law_1486 z, ⟨kL_law_1489 z, ⟨kL_law_1490 z, ⟨kL_law_1491 z, ⟨kL_law_1493 z, ⟨kL_law_1496 z, ⟨kL_law_1497 z, ⟨kL_law_1498 z, ⟨kL_law_1499 z, ⟨kL_law_1501 z, ⟨kL_law_1502 z, ⟨kL_law_1503 z, ⟨kL_law_1506 z, ⟨kL_law_1507 z, ⟨kL_law_1508 z, ⟨kL_law_1511 z, ⟨kL_law_1512 z, ⟨kL_law_1513 z, ⟨kL_law_1515 z, ⟨kL_law_1516 z, ⟨kL_law_1517 z, ⟨kL_law_1518 z, ⟨kL_law_1519 z, ⟨kL_law_1522 z, ⟨kL_law_1524 z, ⟨kL_law_1525 z, ⟨kL_law_1526 z, ⟨kL_law_1528 z, ⟨kL_law_1529 z, ⟨kL_law_1530 z, ⟨kL_law_1531 z, ⟨kL_law_1534 z, ⟨kL_law_1536 z, ⟨kL_law_1537 z, ⟨kL_law_1540 z, ⟨kL_law_1542 z, ⟨kL_law_1545 z, ⟨kL_law_1546 z, ⟨kL_law_1547 z, ⟨kL_law_1549 z, ⟨kL_law_1552 z, ⟨kL_law_1553 z, ⟨kL_law_1554 z, ⟨kL_law_1555 z, ⟨kL_law_1557 z, ⟨kL_law_1558 z, ⟨kL_law_1559 z, ⟨kL_law_1562 z, ⟨kL_law_1563 z, ⟨kL_law_1564 z, ⟨kL_law_1567 z, ⟨kL_law_1568 z, ⟨kL_law_1569 z, ⟨kL_law_1571 z, ⟨kL_law_1572 z, ⟨kL_law_1573 z, ⟨kL_law_1574 z, ⟨kL_law_1575 z, ⟨kL_law_1578 z, ⟨kL_law_1580 z, ⟨kL_law_1581 z, ⟨kL_law_1582 z, ⟨kL_law_1584 z, ⟨kL_law_1585 z, ⟨kL_law_1586 z, ⟨kL_law_1587 z, ⟨kL_law_1590 z, ⟨kL_law_1592 z, ⟨kL_law_1593 z, ⟨kL_law_1596 z, ⟨kL_law_1598 z, ⟨kL_law_1601 z, ⟨kL_law_1602 z, ⟨kL_law_1603 z, ⟨kL_law_1605 z, ⟨kL_law_1608 z, ⟨kL_law_1609 z, ⟨kL_law_1610 z, ⟨kL_law_1611 z, ⟨kL_law_1613 z, ⟨kL_law_1614 z, ⟨kL_law_1615 z, ⟨kL_law_1618 z, ⟨kL_law_1619 z, ⟨kL_law_1620 z, ⟨kL_law_1623 z, ⟨kL_law_1624 z, ⟨kL_law_1625 z, ⟨kL_law_1627 z, ⟨kL_law_1628 z, ⟨kL_law_1629 z, ⟨kL_law_1630 z, ⟨kL_law_1631 z, ⟨kL_law_1634 z, ⟨kL_law_1636 z, ⟨kL_law_1637 z, ⟨kL_law_1638 z, ⟨kL_law_1640 z, ⟨kL_law_1641 z, ⟨kL_law_1642 z, ⟨kL_law_1643 z, ⟨kL_law_1646 z, ⟨kL_law_1648 z, ⟨kL_law_1649 z, ⟨kL_law_1652 z, ⟨kL_law_1654 z, ⟨kL_law_1657 z, ⟨kL_law_1658 z, ⟨kL_law_1659 z, ⟨kL_law_1661 z, ⟨kL_law_1664 z, ⟨kL_law_1665 z, ⟨kL_law_1666 z, ⟨kL_law_1667 z, ⟨kL_law_1669 z, ⟨kL_law_1670 z, ⟨kL_law_1671 z, ⟨kL_law_1674 z, ⟨kL_law_1675 z, ⟨kL_law_1676 z, ⟨kL_law_1679 z, ⟨kL_law_1680 z, ⟨kL_law_1683 z, ⟨kL_law_1684 z, ⟨kL_law_1687 z, ⟨kL_law_1690 z, ⟨kL_law_1691 z, ⟨kL_law_1692 z, ⟨kL_law_1693 z, ⟨kL_law_1696 z, ⟨kL_law_1697 z, ⟨kL_law_1700 z, ⟨kL_law_1703 z, ⟨kL_law_1704 z, ⟨kL_law_1705 z, ⟨kL_law_1706 z, ⟨kL_law_1707 z, ⟨kL_law_1709 z, ⟨kL_law_1710 z, ⟨kL_law_1711 z, ⟨kL_law_1712 z, ⟨kL_law_1713 z, ⟨kL_law_1716 z, ⟨kL_law_1718 z, ⟨kL_law_1719 z, ⟨kL_law_1720 z, ⟨kL_law_1722 z, ⟨kL_law_1723 z, ⟨kL_law_1724 z, ⟨kL_law_1725 z, ⟨kL_law_1728 z, ⟨kL_law_1730 z, ⟨kL_law_1731 z, ⟨kL_law_1734 z, ⟨kL_law_1736 z, ⟨kL_law_1739 z, ⟨kL_law_1740 z, ⟨kL_law_1741 z, ⟨kL_law_1743 z, ⟨kL_law_1746 z, ⟨kL_law_1747 z, ⟨kL_law_1748 z, ⟨kL_law_1749 z, ⟨kL_law_1751 z, ⟨kL_law_1752 z, ⟨kL_law_1753 z, ⟨kL_law_1756 z, ⟨kL_law_1757 z, ⟨kL_law_1758 z, ⟨kL_law_1761 z, ⟨kL_law_1762 z, ⟨kL_law_1763 z, ⟨kL_law_1765 z, ⟨kL_law_1766 z, ⟨kL_law_1767 z, ⟨kL_law_1768 z, ⟨kL_law_1769 z, ⟨kL_law_1772 z, ⟨kL_law_1774 z, ⟨kL_law_1775 z, ⟨kL_law_1776 z, ⟨kL_law_1778 z, ⟨kL_law_1779 z, ⟨kL_law_1780 z, ⟨kL_law_1781 z, ⟨kL_law_1784 z, ⟨kL_law_1786 z, ⟨kL_law_1787 z, ⟨kL_law_1790 z, ⟨kL_law_1792 z, ⟨kL_law_1795 z, ⟨kL_law_1796 z, ⟨kL_law_1797 z, ⟨kL_law_1799 z, ⟨kL_law_1802 z, ⟨kL_law_1803 z, ⟨kL_law_1804 z, ⟨kL_law_1805 z, ⟨kL_law_1807 z, ⟨kL_law_1808 z, ⟨kL_law_1809 z, ⟨kL_law_1812 z, ⟨kL_law_1813 z, ⟨kL_law_1814 z, ⟨kL_law_1817 z, ⟨kL_law_1818 z, ⟨kL_law_1819 z, ⟨kL_law_1821 z, ⟨kL_law_1822 z, ⟨kL_law_1823 z, ⟨kL_law_1824 z, ⟨kL_law_1825 z, ⟨kL_law_1828 z, ⟨kL_law_1830 z, ⟨kL_law_1831 z, ⟨kL_law_1832 z, ⟨kL_law_1834 z, ⟨kL_law_1835 z, ⟨kL_law_1836 z, ⟨kL_law_1837 z, ⟨kL_law_1840 z, ⟨kL_law_1842 z, ⟨kL_law_1843 z, ⟨kL_law_1846 z, ⟨kL_law_1848 z, ⟨kL_law_1851 z, ⟨kL_law_1852 z, ⟨kL_law_1853 z, ⟨kL_law_1855 z, ⟨kL_law_1858 z, ⟨kL_law_1859 z, ⟨kL_law_1860 z, ⟨kL_law_1861 z, ⟨kL_law_1863 z, ⟨kL_law_1864 z, ⟨kL_law_1865 z, ⟨kL_law_1868 z, ⟨kL_law_1869 z, ⟨kL_law_1870 z, ⟨kL_law_1873 z, ⟨kL_law_1874 z, ⟨kL_law_1875 z, ⟨kL_law_1877 z, ⟨kL_law_1878 z, ⟨kL_law_1879 z, ⟨kL_law_1880 z, ⟨kL_law_1881 z, ⟨kL_law_1884 z, ⟨kL_law_1886 z, ⟨kL_law_1887 z, ⟨kL_law_1888 z, ⟨kL_law_1890 z, ⟨kL_law_1891 z, ⟨kL_law_1892 z, ⟨kL_law_1893 z, ⟨kL_law_1896 z, ⟨kL_law_1898 z, ⟨kL_law_1899 z, ⟨kL_law_1902 z, ⟨kL_law_1904 z, ⟨kL_law_1907 z, ⟨kL_law_1908 z, ⟨kL_law_1909 z, ⟨kL_law_1911 z, ⟨kL_law_1914 z, ⟨kL_law_1915 z, ⟨kL_law_1916 z, ⟨kL_law_1917 z, ⟨kL_law_1919 z, ⟨kL_law_1920 z, ⟨kL_law_1921 z, ⟨kL_law_1924 z, ⟨kL_law_1925 z, ⟨kL_law_1926 z, ⟨kL_law_1929 z, ⟨kL_law_1930 z, ⟨kL_law_1931 z, ⟨kL_law_1933 z, ⟨kL_law_1934 z, ⟨kL_law_1935 z, ⟨kL_law_1936 z, ⟨kL_law_1937 z, ⟨kL_law_1940 z, ⟨kL_law_1942 z, ⟨kL_law_1943 z, ⟨kL_law_1944 z, ⟨kL_law_1946 z, ⟨kL_law_1947 z, ⟨kL_law_1948 z, ⟨kL_law_1949 z, ⟨kL_law_1952 z, ⟨kL_law_1954 z, ⟨kL_law_1955 z, ⟨kL_law_1958 z, ⟨kL_law_1960 z, ⟨kL_law_1963 z, ⟨kL_law_1964 z, ⟨kL_law_1965 z, ⟨kL_law_1967 z, ⟨kL_law_1970 z, ⟨kL_law_1971 z, ⟨kL_law_1972 z, ⟨kL_law_1973 z, ⟨kL_law_1975 z, ⟨kL_law_1976 z, ⟨kL_law_1977 z, ⟨kL_law_1980 z, ⟨kL_law_1981 z, ⟨kL_law_1982 z, ⟨kL_law_1985 z, ⟨kL_law_1986 z, ⟨kL_law_1989 z, ⟨kL_law_1990 z, ⟨kL_law_1993 z, ⟨kL_law_1996 z, ⟨kL_law_1997 z, ⟨kL_law_1998 z, ⟨kL_law_1999 z, ⟨kL_law_2002 z, ⟨kL_law_2003 z, ⟨kL_law_2005 z, ⟨kL_law_2006 z, ⟨kL_law_2009 z, ⟨kL_law_2010 z, ⟨kL_law_2012 z, ⟨kL_law_2014 z, ⟨kL_law_2016 z, ⟨kL_law_2017 z, ⟨kL_law_2020 z, ⟨kL_law_2022 z, ⟨kL_law_2024 z, ⟨kL_law_2025 z, ⟨kL_law_2028 z, ⟨kL_law_2030 z, ⟨kL_law_2032 z, ⟨kL_law_2033 z, ⟨kL_law_2036 z, ⟨kL_law_2037 z, ⟨kL_law_2038 z, ⟨kL_law_2041 z, ⟨kL_law_2042 z, ⟨kL_law_2045 z, ⟨kL_law_2047 z, ⟨kL_law_2048 z, ⟨kL_law_2051 z, ⟨kL_law_2053 z, ⟨kL_law_2055 z, ⟨kL_law_2057 z, ⟨kL_law_2058 z, ⟨kL_law_2061 z, ⟨kL_law_2063 z, ⟨kL_law_2065 z, ⟨kL_law_2066 z, ⟨kL_law_2069 z, ⟨kL_law_2071 z, ⟨kL_law_2073 z, ⟨kL_law_2074 z, ⟨kL_law_2077 z, ⟨kL_law_2078 z, ⟨kL_law_2079 z, ⟨kL_law_2082 z, ⟨kL_law_2083 z, ⟨kL_law_2084 z, ⟨kL_law_2086 z, ⟨kL_law_2087 z, ⟨kL_law_2088 z, ⟨kL_law_2089 z, ⟨kL_law_2090 z, ⟨kL_law_2092 z, ⟨kL_law_2093 z, ⟨kL_law_2094 z, ⟨kL_law_2095 z, ⟨kL_law_2096 z, ⟨kL_law_2099 z, ⟨kL_law_2101 z, ⟨kL_law_2102 z, ⟨kL_law_2103 z, ⟨kL_law_2105 z, ⟨kL_law_2106 z, ⟨kL_law_2107 z, ⟨kL_law_2108 z, ⟨kL_law_2109 z, ⟨kL_law_2111 z, ⟨kL_law_2112 z, ⟨kL_law_2113 z, ⟨kL_law_2114 z, ⟨kL_law_2117 z, ⟨kL_law_2119 z, ⟨kL_law_2120 z, ⟨kL_law_2123 z, ⟨kL_law_2125 z, ⟨kL_law_2128 z, ⟨kL_law_2129 z, ⟨kL_law_2130 z, ⟨kL_law_2132 z, ⟨kL_law_2135 z, ⟨kL_law_2136 z, ⟨kL_law_2137 z, ⟨kL_law_2138 z, ⟨kL_law_2140 z, ⟨kL_law_2141 z, ⟨kL_law_2142 z, ⟨kL_law_2145 z, ⟨kL_law_2146 z, ⟨kL_law_2147 z, ⟨kL_law_2150 z, ⟨kL_law_2151 z, ⟨kL_law_2152 z, ⟨kL_law_2154 z, ⟨kL_law_2155 z, ⟨kL_law_2156 z, ⟨kL_law_2157 z, ⟨kL_law_2158 z, ⟨kL_law_2161 z, ⟨kL_law_2163 z, ⟨kL_law_2164 z, ⟨kL_law_2165 z, ⟨kL_law_2167 z, ⟨kL_law_2168 z, ⟨kL_law_2169 z, ⟨kL_law_2170 z, ⟨kL_law_2173 z, ⟨kL_law_2175 z, ⟨kL_law_2176 z, ⟨kL_law_2179 z, ⟨kL_law_2181 z, ⟨kL_law_2184 z, ⟨kL_law_2185 z, ⟨kL_law_2186 z, ⟨kL_law_2188 z, ⟨kL_law_2191 z, ⟨kL_law_2192 z, ⟨kL_law_2193 z, ⟨kL_law_2194 z, ⟨kL_law_2196 z, ⟨kL_law_2197 z, ⟨kL_law_2198 z, ⟨kL_law_2201 z, ⟨kL_law_2202 z, ⟨kL_law_2203 z, ⟨kL_law_2206 z, ⟨kL_law_2207 z, ⟨kL_law_2210 z, ⟨kL_law_2211 z, ⟨kL_law_2214 z, ⟨kL_law_2217 z, ⟨kL_law_2218 z, ⟨kL_law_2219 z, ⟨kL_law_2220 z, ⟨kL_law_2221 z, ⟨kL_law_2223 z, ⟨kL_law_2224 z, ⟨kL_law_2225 z, ⟨kL_law_2226 z, ⟨kL_law_2227 z, ⟨kL_law_2229 z, ⟨kL_law_2230 z, ⟨kL_law_2231 z, ⟨kL_law_2232 z, ⟨kL_law_2233 z, ⟨kL_law_2235 z, ⟨kL_law_2236 z, ⟨kL_law_2237 z, ⟨kL_law_2238 z, ⟨kL_law_2239 z, ⟨kL_law_2242 z, ⟨kL_law_2244 z, ⟨kL_law_2245 z, ⟨kL_law_2246 z, ⟨kL_law_2248 z, ⟨kL_law_2249 z, ⟨kL_law_2250 z, ⟨kL_law_2251 z, ⟨kL_law_2252 z, ⟨kL_law_2254 z, ⟨kL_law_2255 z, ⟨kL_law_2256 z, ⟨kL_law_2257 z, ⟨kL_law_2258 z, ⟨kL_law_2260 z, ⟨kL_law_2261 z, ⟨kL_law_2262 z, ⟨kL_law_2263 z, ⟨kL_law_2266 z, ⟨kL_law_2268 z, ⟨kL_law_2269 z, ⟨kL_law_2272 z, ⟨kL_law_2274 z, ⟨kL_law_2277 z, ⟨kL_law_2278 z, ⟨kL_law_2279 z, ⟨kL_law_2281 z, ⟨kL_law_2284 z, ⟨kL_law_2285 z, ⟨kL_law_2286 z, ⟨kL_law_2287 z, ⟨kL_law_2289 z, ⟨kL_law_2290 z, ⟨kL_law_2291 z, ⟨kL_law_2294 z, ⟨kL_law_2295 z, ⟨kL_law_2296 z, ⟨kL_law_2299 z, ⟨kL_law_2300 z, ⟨kL_law_2301 z, ⟨kL_law_2303 z, ⟨kL_law_2304 z, ⟨kL_law_2305 z, ⟨kL_law_2306 z, ⟨kL_law_2307 z, ⟨kL_law_2310 z, ⟨kL_law_2312 z, ⟨kL_law_2313 z, ⟨kL_law_2314 z, ⟨kL_law_2316 z, ⟨kL_law_2317 z, ⟨kL_law_2318 z, ⟨kL_law_2319 z, ⟨kL_law_2322 z, ⟨kL_law_2324 z, ⟨kL_law_2325 z, ⟨kL_law_2328 z, ⟨kL_law_2330 z, ⟨kL_law_2333 z, ⟨kL_law_2334 z, ⟨kL_law_2335 z, ⟨kL_law_2337 z, ⟨kL_law_2340 z, ⟨kL_law_2341 z, ⟨kL_law_2342 z, ⟨kL_law_2343 z, ⟨kL_law_2345 z, ⟨kL_law_2346 z, ⟨kL_law_2347 z, ⟨kL_law_2350 z, ⟨kL_law_2351 z, ⟨kL_law_2352 z, ⟨kL_law_2355 z, ⟨kL_law_2356 z, ⟨kL_law_2357 z, ⟨kL_law_2359 z, ⟨kL_law_2360 z, ⟨kL_law_2361 z, ⟨kL_law_2362 z, ⟨kL_law_2363 z, ⟨kL_law_2366 z, ⟨kL_law_2368 z, ⟨kL_law_2369 z, ⟨kL_law_2370 z, ⟨kL_law_2372 z, ⟨kL_law_2373 z, ⟨kL_law_2374 z, ⟨kL_law_2375 z, ⟨kL_law_2378 z, ⟨kL_law_2380 z, ⟨kL_law_2381 z, ⟨kL_law_2384 z, ⟨kL_law_2386 z, ⟨kL_law_2389 z, ⟨kL_law_2390 z, ⟨kL_law_2391 z, ⟨kL_law_2393 z, ⟨kL_law_2396 z, ⟨kL_law_2397 z, ⟨kL_law_2398 z, ⟨kL_law_2399 z, ⟨kL_law_2401 z, ⟨kL_law_2402 z, ⟨kL_law_2403 z, ⟨kL_law_2406 z, ⟨kL_law_2407 z, ⟨kL_law_2408 z, ⟨kL_law_2411 z, ⟨kL_law_2412 z, ⟨kL_law_2413 z, ⟨kL_law_2415 z, ⟨kL_law_2416 z, ⟨kL_law_2417 z, ⟨kL_law_2418 z, ⟨kL_law_2419 z, ⟨kL_law_2422 z, ⟨kL_law_2424 z, ⟨kL_law_2425 z, ⟨kL_law_2426 z, ⟨kL_law_2428 z, ⟨kL_law_2429 z, ⟨kL_law_2430 z, ⟨kL_law_2431 z, ⟨kL_law_2434 z, ⟨kL_law_2436 z, ⟨kL_law_2437 z, ⟨kL_law_2440 z, ⟨kL_law_2442 z, ⟨kL_law_2445 z, ⟨kL_law_2446 z, ⟨kL_law_2447 z, ⟨kL_law_2449 z, ⟨kL_law_2452 z, ⟨kL_law_2453 z, ⟨kL_law_2454 z, ⟨kL_law_2455 z, ⟨kL_law_2457 z, ⟨kL_law_2458 z, ⟨kL_law_2459 z, ⟨kL_law_2462 z, ⟨kL_law_2463 z, ⟨kL_law_2464 z, ⟨kL_law_2467 z, ⟨kL_law_2468 z, ⟨kL_law_2471 z, ⟨kL_law_2472 z, ⟨kL_law_2475 z, ⟨kL_law_2478 z, ⟨kL_law_2479 z, ⟨kL_law_2480 z, ⟨kL_law_2481 z, ⟨kL_law_2482 z, ⟨kL_law_2484 z, ⟨kL_law_2485 z, ⟨kL_law_2486 z, ⟨kL_law_2487 z, ⟨kL_law_2488 z, ⟨kL_law_2491 z, ⟨kL_law_2493 z, ⟨kL_law_2494 z, ⟨kL_law_2495 z, ⟨kL_law_2497 z, ⟨kL_law_2498 z, ⟨kL_law_2499 z, ⟨kL_law_2500 z, ⟨kL_law_2503 z, ⟨kL_law_2505 z, ⟨kL_law_2506 z, ⟨kL_law_2509 z, ⟨kL_law_2511 z, ⟨kL_law_2514 z, ⟨kL_law_2515 z, ⟨kL_law_2516 z, ⟨kL_law_2518 z, ⟨kL_law_2521 z, ⟨kL_law_2522 z, ⟨kL_law_2523 z, ⟨kL_law_2524 z, ⟨kL_law_2526 z, ⟨kL_law_2527 z, ⟨kL_law_2528 z, ⟨kL_law_2531 z, ⟨kL_law_2532 z, ⟨kL_law_2533 z, ⟨kL_law_2536 z, ⟨kL_law_2537 z, ⟨kL_law_2538 z, ⟨kL_law_2540 z, ⟨kL_law_2541 z, ⟨kL_law_2542 z, ⟨kL_law_2543 z, ⟨kL_law_2544 z, ⟨kL_law_2547 z, ⟨kL_law_2549 z, ⟨kL_law_2550 z, ⟨kL_law_2551 z, ⟨kL_law_2553 z, ⟨kL_law_2554 z, ⟨kL_law_2555 z, ⟨kL_law_2556 z, ⟨kL_law_2559 z, ⟨kL_law_2561 z, ⟨kL_law_2562 z, ⟨kL_law_2565 z, ⟨kL_law_2567 z, ⟨kL_law_2570 z, ⟨kL_law_2571 z, ⟨kL_law_2572 z, ⟨kL_law_2574 z, ⟨kL_law_2577 z, ⟨kL_law_2578 z, ⟨kL_law_2579 z, ⟨kL_law_2580 z, ⟨kL_law_2582 z, ⟨kL_law_2583 z, ⟨kL_law_2584 z, ⟨kL_law_2587 z, ⟨kL_law_2588 z, ⟨kL_law_2589 z, ⟨kL_law_2592 z, ⟨kL_law_2593 z, ⟨kL_law_2594 z, ⟨kL_law_2596 z, ⟨kL_law_2597 z, ⟨kL_law_2598 z, ⟨kL_law_2599 z, ⟨kL_law_2600 z, ⟨kL_law_2603 z, ⟨kL_law_2605 z, ⟨kL_law_2606 z, ⟨kL_law_2607 z, ⟨kL_law_2609 z, ⟨kL_law_2610 z, ⟨kL_law_2611 z, ⟨kL_law_2612 z, ⟨kL_law_2615 z, ⟨kL_law_2617 z, ⟨kL_law_2618 z, ⟨kL_law_2621 z, ⟨kL_law_2623 z, ⟨kL_law_2626 z, ⟨kL_law_2627 z, ⟨kL_law_2628 z, ⟨kL_law_2630 z, ⟨kL_law_2633 z, ⟨kL_law_2634 z, ⟨kL_law_2635 z, ⟨kL_law_2636 z, ⟨kL_law_2638 z, ⟨kL_law_2639 z, ⟨kL_law_2640 z, ⟨kL_law_2643 z, ⟨kL_law_2644 z, ⟨kL_law_2645 z, ⟨kL_law_2648 z, ⟨kL_law_2649 z, ⟨kL_law_2650 z, ⟨kL_law_2652 z, ⟨kL_law_2653 z, ⟨kL_law_2654 z, ⟨kL_law_2655 z, ⟨kL_law_2658 z, ⟨kL_law_2659 z, ⟨kL_law_2660 z, ⟨kL_law_2662 z, ⟨kL_law_2663 z, ⟨kL_law_2664 z, ⟨kL_law_2665 z, ⟨kL_law_2668 z, ⟨kL_law_2671 z, ⟨kL_law_2672 z, ⟨kL_law_2673 z, ⟨kL_law_2674 z, ⟨kL_law_2677 z, ⟨kL_law_2678 z, ⟨kL_law_2681 z, ⟨kL_law_2684 z, ⟨kL_law_2685 z, ⟨kL_law_2686 z, ⟨kL_law_2687 z, ⟨kL_law_2690 z, ⟨kL_law_2691 z, ⟨kL_law_2694 z, ⟨kL_law_2697 z, ⟨kL_law_2698 z, ⟨kL_law_2699 z, ⟨kL_law_2700 z, ⟨kL_law_2703 z, ⟨kL_law_2704 z, ⟨kL_law_2707 z, ⟨kL_law_2710 z, ⟨kL_law_2711 z, ⟨kL_law_2714 z, ⟨kL_law_2715 z, ⟨kL_law_2718 z, ⟨kL_law_2721 z, ⟨kL_law_2722 z, ⟨kL_law_2723 z, ⟨kL_law_2726 z, ⟨kL_law_2729 z, ⟨kL_law_2730 z, trivial⟩⟩⟩⟩⟩⟩⟩⟩⟩⟩⟩⟩⟩⟩⟩⟩⟩⟩⟩⟩⟩⟩⟩⟩⟩⟩⟩⟩⟩⟩⟩⟩⟩⟩⟩⟩⟩⟩⟩⟩⟩⟩⟩⟩⟩⟩⟩⟩⟩⟩⟩⟩⟩⟩⟩⟩⟩⟩⟩⟩⟩⟩⟩⟩⟩⟩⟩⟩⟩⟩⟩⟩⟩⟩⟩⟩⟩⟩⟩⟩⟩⟩⟩⟩⟩⟩⟩⟩⟩⟩⟩⟩⟩⟩⟩⟩⟩⟩⟩⟩⟩⟩⟩⟩⟩⟩⟩⟩⟩⟩⟩⟩⟩⟩⟩⟩⟩⟩⟩⟩⟩⟩⟩⟩⟩⟩⟩⟩⟩⟩⟩⟩⟩⟩⟩⟩⟩⟩⟩⟩⟩⟩⟩⟩⟩⟩⟩⟩⟩⟩⟩⟩⟩⟩⟩⟩⟩⟩⟩⟩⟩⟩⟩⟩⟩⟩⟩⟩⟩⟩⟩⟩⟩⟩⟩⟩⟩⟩⟩⟩⟩⟩⟩⟩⟩⟩⟩⟩⟩⟩⟩⟩⟩⟩⟩⟩⟩⟩⟩⟩⟩⟩⟩⟩⟩⟩⟩⟩⟩⟩⟩⟩⟩⟩⟩⟩⟩⟩⟩⟩⟩⟩⟩⟩⟩⟩⟩⟩⟩⟩⟩⟩⟩⟩⟩⟩⟩⟩⟩⟩⟩⟩⟩⟩⟩⟩⟩⟩⟩⟩⟩⟩⟩⟩⟩⟩⟩⟩⟩⟩⟩⟩⟩⟩⟩⟩⟩⟩⟩⟩⟩⟩⟩⟩⟩⟩⟩⟩⟩⟩⟩⟩⟩⟩⟩⟩⟩⟩⟩⟩⟩⟩⟩⟩⟩⟩⟩⟩⟩⟩⟩⟩⟩⟩⟩⟩⟩⟩⟩⟩⟩⟩⟩⟩⟩⟩⟩⟩⟩⟩⟩⟩⟩⟩⟩⟩⟩⟩⟩⟩⟩⟩⟩⟩⟩⟩⟩⟩⟩⟩⟩⟩⟩⟩⟩⟩⟩⟩⟩⟩⟩⟩⟩⟩⟩⟩⟩⟩⟩⟩⟩⟩⟩⟩⟩⟩⟩⟩⟩⟩⟩⟩⟩⟩⟩⟩⟩⟩⟩⟩⟩⟩⟩⟩⟩⟩⟩⟩⟩⟩⟩⟩⟩⟩⟩⟩⟩⟩⟩⟩⟩⟩⟩⟩⟩⟩⟩⟩⟩⟩⟩⟩⟩⟩⟩⟩⟩⟩⟩⟩⟩⟩⟩⟩⟩⟩⟩⟩⟩⟩⟩⟩⟩⟩⟩⟩⟩⟩⟩⟩⟩⟩⟩⟩⟩⟩⟩⟩⟩⟩⟩⟩⟩⟩⟩⟩⟩⟩⟩⟩⟩⟩⟩⟩⟩⟩⟩⟩⟩⟩⟩⟩⟩⟩⟩⟩⟩⟩⟩⟩⟩⟩⟩⟩⟩⟩⟩⟩⟩⟩⟩⟩⟩⟩⟩⟩⟩⟩⟩⟩⟩⟩⟩⟩⟩⟩⟩⟩⟩⟩⟩⟩⟩⟩⟩⟩⟩⟩⟩⟩⟩⟩⟩⟩⟩⟩⟩⟩⟩⟩⟩⟩⟩⟩⟩⟩⟩⟩⟩⟩⟩⟩⟩⟩⟩⟩⟩⟩⟩⟩⟩⟩⟩⟩⟩⟩⟩⟩⟩⟩⟩⟩⟩⟩⟩⟩⟩⟩⟩⟩⟩⟩⟩⟩⟩⟩⟩⟩⟩⟩⟩⟩⟩⟩⟩⟩⟩⟩⟩⟩⟩⟩⟩⟩⟩⟩⟩⟩⟩⟩⟩⟩⟩⟩⟩⟩⟩⟩⟩⟩⟩⟩⟩⟩⟩⟩⟩⟩⟩⟩⟩⟩⟩⟩⟩⟩⟩⟩⟩⟩⟩⟩⟩⟩⟩⟩⟩⟩⟩⟩⟩⟩⟩⟩⟩⟩⟩⟩⟩⟩⟩⟩⟩⟩⟩⟩⟩⟩⟩⟩⟩⟩⟩⟩⟩⟩⟩⟩⟩⟩⟩⟩⟩⟩⟩⟩⟩⟩⟩⟩⟩⟩⟩⟩⟩⟩⟩⟩⟩⟩⟩⟩⟩⟩⟩⟩⟩⟩⟩⟩⟩⟩⟩⟩⟩⟩⟩⟩⟩⟩⟩⟩⟩⟩⟩⟩⟩⟩⟩⟩⟩⟩⟩⟩⟩⟩⟩⟩⟩⟩⟩⟩⟩⟩⟩⟩⟩⟩⟩⟩⟩⟩⟩⟩⟩⟩⟩⟩⟩⟩⟩⟩⟩⟩⟩⟩⟩⟩⟩⟩⟩⟩⟩⟩⟩⟩⟩⟩⟩⟩⟩⟩⟩⟩⟩⟩⟩⟩⟩⟩⟩⟩⟩⟩⟩⟩⟩⟩⟩⟩⟩⟩⟩⟩⟩⟩⟩⟩⟩⟩⟩⟩⟩⟩⟩⟩⟩⟩⟩⟩⟩⟩⟩⟩⟩⟩⟩⟩⟩⟩⟩⟩⟩⟩⟩⟩⟩⟩⟩⟩⟩⟩⟩⟩⟩⟩⟩⟩⟩⟩⟩⟩⟩⟩⟩⟩⟩⟩⟩⟩⟩⟩⟩⟩⟩⟩⟩⟩⟩⟩⟩⟩⟩⟩⟩⟩⟩⟩⟩⟩⟩⟩⟩⟩⟩⟩⟩⟩⟩⟩⟩⟩⟩⟩⟩⟩⟩⟩⟩⟩⟩⟩⟩⟩⟩⟩⟩⟩⟩⟩⟩⟩⟩⟩⟩⟩⟩⟩⟩⟩⟩⟩⟩⟩⟩⟩⟩⟩⟩⟩⟩⟩⟩⟩⟩⟩⟩⟩⟩⟩⟩⟩⟩⟩⟩⟩⟩⟩⟩⟩⟩⟩⟩⟩⟩⟩⟩⟩⟩⟩⟩⟩⟩⟩⟩⟩⟩⟩⟩⟩⟩⟩⟩⟩⟩⟩⟩⟩⟩⟩⟩⟩⟩⟩⟩⟩⟩⟩⟩⟩⟩⟩⟩⟩⟩⟩⟩⟩⟩⟩⟩⟩⟩⟩⟩⟩⟩⟩⟩⟩⟩⟩⟩⟩⟩⟩⟩⟩⟩⟩⟩⟩⟩⟩⟩⟩⟩⟩⟩⟩⟩⟩⟩⟩⟩⟩⟩⟩⟩⟩⟩⟩⟩⟩⟩⟩⟩⟩⟩⟩⟩⟩⟩⟩⟩⟩⟩⟩⟩⟩⟩⟩⟩⟩⟩⟩⟩⟩⟩⟩⟩⟩⟩⟩⟩⟩⟩⟩⟩⟩⟩⟩⟩⟩⟩⟩⟩⟩⟩⟩⟩⟩⟩⟩⟩⟩⟩⟩⟩⟩⟩⟩⟩⟩⟩⟩⟩⟩⟩⟩⟩⟩⟩⟩⟩⟩⟩⟩⟩⟩⟩⟩⟩⟩⟩⟩⟩⟩⟩⟩⟩⟩⟩⟩⟩⟩⟩⟩⟩⟩⟩⟩⟩⟩⟩⟩⟩⟩⟩⟩⟩⟩⟩⟩⟩⟩⟩⟩⟩⟩⟩⟩⟩⟩⟩⟩⟩⟩⟩⟩⟩⟩⟩⟩⟩⟩⟩⟩⟩⟩⟩⟩⟩⟩⟩⟩⟩⟩⟩⟩⟩⟩⟩⟩⟩⟩⟩⟩⟩⟩⟩⟩⟩⟩⟩⟩⟩⟩⟩⟩⟩⟩⟩⟩⟩⟩⟩⟩⟩⟩⟩⟩⟩⟩⟩⟩⟩⟩⟩⟩⟩⟩⟩⟩⟩⟩⟩⟩⟩⟩⟩⟩⟩⟩⟩⟩⟩⟩⟩⟩⟩⟩⟩⟩⟩⟩⟩⟩⟩⟩⟩⟩⟩⟩⟩⟩⟩⟩⟩⟩⟩⟩⟩⟩⟩⟩⟩⟩⟩⟩⟩⟩⟩⟩⟩⟩⟩⟩⟩⟩⟩⟩⟩⟩⟩⟩⟩⟩⟩⟩⟩⟩⟩⟩⟩⟩⟩⟩⟩⟩⟩⟩⟩⟩⟩⟩⟩⟩⟩⟩⟩⟩⟩⟩⟩⟩⟩⟩⟩⟩⟩⟩⟩⟩⟩⟩⟩⟩⟩⟩⟩⟩⟩⟩⟩⟩⟩⟩⟩⟩⟩⟩⟩⟩⟩⟩⟩⟩⟩⟩⟩⟩⟩⟩⟩⟩⟩⟩⟩⟩⟩⟩⟩⟩⟩⟩⟩⟩⟩⟩⟩⟩⟩⟩⟩⟩⟩⟩⟩⟩⟩⟩⟩⟩⟩⟩⟩⟩⟩⟩⟩⟩⟩⟩⟩⟩⟩⟩⟩⟩⟩⟩⟩⟩⟩⟩⟩⟩⟩⟩⟩⟩⟩⟩⟩⟩⟩⟩⟩⟩⟩⟩⟩⟩⟩⟩⟩⟩⟩⟩⟩⟩⟩⟩⟩⟩⟩⟩⟩⟩⟩⟩⟩⟩⟩⟩⟩⟩⟩⟩⟩⟩⟩⟩⟩⟩⟩⟩⟩⟩⟩⟩⟩⟩⟩⟩⟩⟩⟩⟩⟩⟩⟩⟩⟩⟩⟩⟩⟩⟩⟩⟩⟩⟩⟩⟩⟩⟩⟩⟩⟩⟩⟩⟩⟩⟩⟩⟩⟩⟩⟩⟩⟩⟩⟩⟩⟩⟩⟩⟩⟩⟩⟩⟩⟩⟩⟩⟩⟩⟩⟩⟩⟩⟩⟩⟩⟩⟩⟩⟩⟩⟩⟩⟩⟩⟩⟩⟩⟩⟩⟩⟩⟩⟩⟩⟩⟩⟩⟩⟩⟩⟩⟩⟩⟩⟩⟩⟩⟩⟩⟩⟩⟩⟩⟩⟩⟩⟩⟩⟩⟩⟩⟩⟩⟩⟩) (hd_L_law z) rfl rfl (by decide +kernel)
