/-! THE LAW's OWN WALK -/
theorem wk_law {Y : sm_Y Sto Int32} {g : sm_G} {TA : Nat → Prop} {b n : Nat} {xs : Nat → Int32} (C : sm_C Y g cL_law "PatchCordsLaw" (some .boolean) 9 8192 104096 em_i false) (htr : (yL Y).stackTraces = false) (hR : yW Y = so_R g TA) (hA : yA Y = so_A g TA) (hX : va_X b n xs (yS Y) (yS Y).heap ∧ b < (yS Y).heap.size ∧ ¬ yA Y b) : Sim Y (f_L_law g n xs) 0 [(0, .ref b)] [] := by
  refine s_top ?_
  unfold f_L_law
  refine s_new C hR cd_0 rfl df_0 q141 q142 q101 dL_law_0 3 rfl (fun x1 => ?_)
  refine s_dup C dL_law_3 rfl 4 rfl ?_
  refine s_call_v (rn_I (As := []) C (ct_at hR hA (ct_X1_init g TA x1)) q143 q144 q101 q145 rfl nv_X1_init ⟨by decide, by decide⟩ rfl (bl rfl) dL_law_4) 7 rfl ?_
  refine s_astore_n C dL_law_7 rfl (by decide) 8 rfl [(1, .ref x1), (0, .ref b)] rfl ?_
  refine s_new C hR cd_12 rfl df_12 q1802 q1803 q112 dL_law_8 11 rfl (fun x3 => ?_)
  refine s_dup C dL_law_11 rfl 12 rfl ?_
  refine s_call_v (rn_I (As := []) C (ct_at hR hA (ct_X4_init g TA x3)) q1804 q1805 q112 q1806 rfl nv_X4_init ⟨by decide, by decide⟩ rfl (bl rfl) dL_law_12) 15 rfl ?_
  refine s_astore_n C dL_law_15 rfl (by decide) 16 rfl [(2, .ref x3), (1, .ref x1), (0, .ref b)] rfl ?_
  refine s_iconst (v := 1) C dL_law_16 (by decide) 17 rfl ?_
  refine s_newa C hR 3 .long rfl (fun _ => rfl) (fun _ h => by cases h) (by decide) q2373 dL_law_17 19 rfl (fun x5 => ?_)
  refine s_astore_n C dL_law_19 rfl (by decide) 20 rfl [(3, .ref x5), (2, .ref x3), (1, .ref x1), (0, .ref b)] rfl ?_
  refine s_iconst (v := 0) C dL_law_20 (by decide) 21 rfl ?_
  refine s_istore C dL_law_21 (by decide) 23 rfl [(4, .int 0), (3, .ref x5), (2, .ref x3), (1, .ref x1), (0, .ref b)] rfl ?_
  refine s_lv [4, 3, 2, 1, 0] rfl ?_
  refine s_loopR (fun (s6 : Int32) => [(0, .ref b), (1, .ref x1), (2, .ref x3), (3, .ref x5), (4, .int s6)]) 0 rfl (fun _ s6 hk7 hx8 => ?_)
  refine s_iload C dL_law_23 25 rfl 4 rfl ?_
  refine s_aload_n C dL_law_25 26 rfl 0 rfl ?_
  refine s_slen C hX dL_law_26 27 rfl ?_
  refine s_iconst (v := 4) C dL_law_27 (by decide) 28 rfl ?_
  refine s_isub C dL_law_28 29 rfl ?_
  refine s_icmp_gt C dL_law_29 2726 32 (by decide) rfl ?_ ?_
  · refine s_iconst (v := 1) C dL_law_2726 (by decide) 2727 rfl ?_
    refine s_r ?_
    rw [hx8]
    exact s_iret C rfl rfl dL_law_2727
  · refine s_aload_n C dL_law_32 33 rfl 0 rfl ?_
    refine s_iload C dL_law_33 35 rfl 4 rfl ?_
    refine s_sld C hX dL_law_35 36 rfl (fun x9 => ?_)
    refine s_bipush (v := 63) C dL_law_36 (by decide) 38 rfl ?_
    refine s_iand C dL_law_38 39 rfl ?_
    refine s_tab C dL_law_39 0 (237) 276 (by decide) (by decide) rfl (by decide) ?_ (fun hc290 => ?_)
    · refine s_aload_n C dL_law_276 277 rfl 1 rfl ?_
      refine s_aload_n C dL_law_277 278 rfl 0 rfl ?_
      refine s_iload C dL_law_278 280 rfl 4 rfl ?_
      refine s_iconst (v := 1) C dL_law_280 (by decide) 281 rfl ?_
      refine s_iadd C dL_law_281 282 rfl ?_
      refine s_sld C hX dL_law_282 283 rfl (fun x10 => ?_)
      refine s_aload_n C dL_law_283 284 rfl 3 rfl ?_
      refine s_call_i (rn_SH (As := [.ref x1, .int x10, .ref x5]) C (ch_at hR hA (ct_X0_put htr g TA x1 x10 x5)) (lw_SW q1326 q1327 q100 q1328) nv_X0_put ⟨by decide, by decide⟩ rfl (bl rfl) dL_law_284) 287 rfl (fun x11 => ?_)
      refine s_istore C dL_law_287 (by decide) 289 rfl [(5, .int x11), (0, .ref b), (1, .ref x1), (2, .ref x3), (3, .ref x5), (4, .int s6)] rfl ?_
      refine s_aload_n C dL_law_289 290 rfl 3 rfl ?_
      refine s_aload_n C dL_law_290 291 rfl 1 rfl ?_
      refine s_iload C dL_law_291 293 rfl 5 rfl ?_
      refine s_iconst (v := 1) C dL_law_293 (by decide) 294 rfl ?_
      refine s_iadd C dL_law_294 295 rfl ?_
      refine s_sld C hX dL_law_295 296 rfl (fun x12 => ?_)
      refine s_call_i (rn_V (As := [.int x12]) C (ct_at hR hA (ct_on (ct_X4_put g TA x3 x12))) (rv_on C hR (q := vw_12) rfl) (lw_V q1873 q1874 q1875 q112 q1876) ⟨rfl, nv_X4_put⟩ ⟨by decide, by decide⟩ rfl (bl rfl) dL_law_296) 299 rfl (fun x13 => ?_)
      refine s_istore C dL_law_299 (by decide) 301 rfl [(6, .int x13), (5, .int x11), (0, .ref b), (1, .ref x1), (2, .ref x3), (3, .ref x5), (4, .int s6)] rfl ?_
      refine s_aload_n C dL_law_301 302 rfl 4 rfl ?_
      refine s_call_i (rn_V (As := []) C (ct_at hR hA (ct_on (ct_X4_thrown g TA x3))) (rv_on C hR (q := vw_12) rfl) (lw_V q1869 q1870 q1871 q112 q1872) ⟨rfl, nv_X4_thrown⟩ ⟨by decide, by decide⟩ rfl (bl rfl) dL_law_302) 305 rfl (fun x14 => ?_)
      refine s_iload C dL_law_305 307 rfl 1 rfl ?_
      refine s_icmp_eq C dL_law_307 312 310 (by decide) rfl ?_ ?_
      · refine s_iload C dL_law_312 314 rfl 1 rfl ?_
        refine s_if_ne C dL_law_314 329 317 (by decide) rfl ?_ ?_
        · refine s_aload_n C dL_law_317 318 rfl 5 rfl ?_
          refine s_iconst (v := 0) C dL_law_318 (by decide) 319 rfl ?_
          refine s_lald C hR dL_law_319 320 rfl (fun x15 => ?_)
          refine s_iload C dL_law_320 322 rfl 0 rfl ?_
          refine s_i2l C dL_law_322 323 rfl ?_
          refine s_lcmp C dL_law_323 324 rfl ?_
          refine s_if_eq C dL_law_324 329 327 (by decide) rfl ?_ ?_
          · refine s_goto C dL_law_329 2720 (by decide) ?_
            refine s_iinc C dL_law_2720 (s6 + 4) rfl 6 rfl (by decide) 2723 rfl [(4, .int (s6 + 4)), (6, .int x13), (5, .int x11), (0, .ref b), (1, .ref x1), (2, .ref x3), (3, .ref x5)] rfl ?_
            refine s_goto C dL_law_2723 23 (by decide) ?_
            refine s_r ?_
            refine s_lv [3, 4, 5, 6, 0] rfl ?_
            exact hk7 (s6 + 4)
          · refine s_iconst (v := 0) C dL_law_327 (by decide) 328 rfl ?_
            refine s_r ?_
            rw [hx8]
            exact s_iret C rfl rfl dL_law_328
        · refine s_goto C dL_law_329 2720 (by decide) ?_
          refine s_iinc C dL_law_2720 (s6 + 4) rfl 6 rfl (by decide) 2723 rfl [(4, .int (s6 + 4)), (6, .int x13), (5, .int x11), (0, .ref b), (1, .ref x1), (2, .ref x3), (3, .ref x5)] rfl ?_
          refine s_goto C dL_law_2723 23 (by decide) ?_
          refine s_r ?_
          refine s_lv [3, 4, 5, 6, 0] rfl ?_
          exact hk7 (s6 + 4)
      · refine s_iconst (v := 0) C dL_law_310 (by decide) 311 rfl ?_
        refine s_r ?_
        rw [hx8]
        exact s_iret C rfl rfl dL_law_311
    refine s_tab C dL_law_39 1 (293) 332 (by decide) (by decide) rfl (by decide) ?_ (fun hc291 => ?_)
    · refine s_aload_n C dL_law_332 333 rfl 1 rfl ?_
      refine s_aload_n C dL_law_333 334 rfl 0 rfl ?_
      refine s_iload C dL_law_334 336 rfl 4 rfl ?_
      refine s_iconst (v := 1) C dL_law_336 (by decide) 337 rfl ?_
      refine s_iadd C dL_law_337 338 rfl ?_
      refine s_sld C hX dL_law_338 339 rfl (fun x16 => ?_)
      refine s_aload_n C dL_law_339 340 rfl 0 rfl ?_
      refine s_iload C dL_law_340 342 rfl 4 rfl ?_
      refine s_iconst (v := 2) C dL_law_342 (by decide) 343 rfl ?_
      refine s_iadd C dL_law_343 344 rfl ?_
      refine s_sld C hX dL_law_344 345 rfl (fun x17 => ?_)
      refine s_aload_n C dL_law_345 346 rfl 3 rfl ?_
      refine s_call_i (rn_SH (As := [.ref x1, .int x16, .int x17, .ref x5]) C (ch_at hR hA (ct_X0_turnWeight htr g TA x1 x16 x17 x5)) (lw_SW q1391 q1392 q100 q1393) nv_X0_turnWeight ⟨by decide, by decide⟩ rfl (bl rfl) dL_law_346) 349 rfl (fun x18 => ?_)
      refine s_istore C dL_law_349 (by decide) 351 rfl [(5, .int x18), (0, .ref b), (1, .ref x1), (2, .ref x3), (3, .ref x5), (4, .int s6)] rfl ?_
      refine s_aload_n C dL_law_351 352 rfl 3 rfl ?_
      refine s_aload_n C dL_law_352 353 rfl 1 rfl ?_
      refine s_iload C dL_law_353 355 rfl 5 rfl ?_
      refine s_iconst (v := 1) C dL_law_355 (by decide) 356 rfl ?_
      refine s_iadd C dL_law_356 357 rfl ?_
      refine s_sld C hX dL_law_357 358 rfl (fun x19 => ?_)
      refine s_aload_n C dL_law_358 359 rfl 1 rfl ?_
      refine s_iload C dL_law_359 361 rfl 5 rfl ?_
      refine s_iconst (v := 2) C dL_law_361 (by decide) 362 rfl ?_
      refine s_iadd C dL_law_362 363 rfl ?_
      refine s_sld C hX dL_law_363 364 rfl (fun x20 => ?_)
      refine s_call_i (rn_V (As := [.int x19, .int x20]) C (ct_at hR hA (ct_on (ct_X4_turnWeight g TA x3 x19 x20))) (rv_on C hR (q := vw_12) rfl) (lw_V q1896 q1897 q1898 q112 q1899) ⟨rfl, nv_X4_turnWeight⟩ ⟨by decide, by decide⟩ rfl (bl rfl) dL_law_364) 367 rfl (fun x21 => ?_)
      refine s_istore C dL_law_367 (by decide) 369 rfl [(6, .int x21), (5, .int x18), (0, .ref b), (1, .ref x1), (2, .ref x3), (3, .ref x5), (4, .int s6)] rfl ?_
      refine s_aload_n C dL_law_369 370 rfl 4 rfl ?_
      refine s_call_i (rn_V (As := []) C (ct_at hR hA (ct_on (ct_X4_thrown g TA x3))) (rv_on C hR (q := vw_12) rfl) (lw_V q1869 q1870 q1871 q112 q1872) ⟨rfl, nv_X4_thrown⟩ ⟨by decide, by decide⟩ rfl (bl rfl) dL_law_370) 373 rfl (fun x22 => ?_)
      refine s_iload C dL_law_373 375 rfl 1 rfl ?_
      refine s_icmp_eq C dL_law_375 380 378 (by decide) rfl ?_ ?_
      · refine s_iload C dL_law_380 382 rfl 1 rfl ?_
        refine s_if_ne C dL_law_382 397 385 (by decide) rfl ?_ ?_
        · refine s_aload_n C dL_law_385 386 rfl 5 rfl ?_
          refine s_iconst (v := 0) C dL_law_386 (by decide) 387 rfl ?_
          refine s_lald C hR dL_law_387 388 rfl (fun x23 => ?_)
          refine s_iload C dL_law_388 390 rfl 0 rfl ?_
          refine s_i2l C dL_law_390 391 rfl ?_
          refine s_lcmp C dL_law_391 392 rfl ?_
          refine s_if_eq C dL_law_392 397 395 (by decide) rfl ?_ ?_
          · refine s_goto C dL_law_397 2720 (by decide) ?_
            refine s_iinc C dL_law_2720 (s6 + 4) rfl 6 rfl (by decide) 2723 rfl [(4, .int (s6 + 4)), (6, .int x21), (5, .int x18), (0, .ref b), (1, .ref x1), (2, .ref x3), (3, .ref x5)] rfl ?_
            refine s_goto C dL_law_2723 23 (by decide) ?_
            refine s_r ?_
            refine s_lv [3, 4, 5, 6, 0] rfl ?_
            exact hk7 (s6 + 4)
          · refine s_iconst (v := 0) C dL_law_395 (by decide) 396 rfl ?_
            refine s_r ?_
            rw [hx8]
            exact s_iret C rfl rfl dL_law_396
        · refine s_goto C dL_law_397 2720 (by decide) ?_
          refine s_iinc C dL_law_2720 (s6 + 4) rfl 6 rfl (by decide) 2723 rfl [(4, .int (s6 + 4)), (6, .int x21), (5, .int x18), (0, .ref b), (1, .ref x1), (2, .ref x3), (3, .ref x5)] rfl ?_
          refine s_goto C dL_law_2723 23 (by decide) ?_
          refine s_r ?_
          refine s_lv [3, 4, 5, 6, 0] rfl ?_
          exact hk7 (s6 + 4)
      · refine s_iconst (v := 0) C dL_law_378 (by decide) 379 rfl ?_
        refine s_r ?_
        rw [hx8]
        exact s_iret C rfl rfl dL_law_379
    refine s_tab C dL_law_39 2 (361) 400 (by decide) (by decide) rfl (by decide) ?_ (fun hc292 => ?_)
    · refine s_aload_n C dL_law_400 401 rfl 1 rfl ?_
      refine s_aload_n C dL_law_401 402 rfl 0 rfl ?_
      refine s_iload C dL_law_402 404 rfl 4 rfl ?_
      refine s_iconst (v := 1) C dL_law_404 (by decide) 405 rfl ?_
      refine s_iadd C dL_law_405 406 rfl ?_
      refine s_sld C hX dL_law_406 407 rfl (fun x24 => ?_)
      refine s_aload_n C dL_law_407 408 rfl 0 rfl ?_
      refine s_iload C dL_law_408 410 rfl 4 rfl ?_
      refine s_iconst (v := 2) C dL_law_410 (by decide) 411 rfl ?_
      refine s_iadd C dL_law_411 412 rfl ?_
      refine s_sld C hX dL_law_412 413 rfl (fun x25 => ?_)
      refine s_aload_n C dL_law_413 414 rfl 3 rfl ?_
      refine s_call_i (rn_SH (As := [.ref x1, .int x24, .int x25, .ref x5]) C (ch_at hR hA (ct_X0_setVoltage htr g TA x1 x24 x25 x5)) (lw_SW q1440 q1441 q100 q1442) nv_X0_setVoltage ⟨by decide, by decide⟩ rfl (bl rfl) dL_law_414) 417 rfl (fun x26 => ?_)
      refine s_istore C dL_law_417 (by decide) 419 rfl [(5, .int x26), (0, .ref b), (1, .ref x1), (2, .ref x3), (3, .ref x5), (4, .int s6)] rfl ?_
      refine s_aload_n C dL_law_419 420 rfl 3 rfl ?_
      refine s_aload_n C dL_law_420 421 rfl 1 rfl ?_
      refine s_iload C dL_law_421 423 rfl 5 rfl ?_
      refine s_iconst (v := 1) C dL_law_423 (by decide) 424 rfl ?_
      refine s_iadd C dL_law_424 425 rfl ?_
      refine s_sld C hX dL_law_425 426 rfl (fun x27 => ?_)
      refine s_aload_n C dL_law_426 427 rfl 1 rfl ?_
      refine s_iload C dL_law_427 429 rfl 5 rfl ?_
      refine s_iconst (v := 2) C dL_law_429 (by decide) 430 rfl ?_
      refine s_iadd C dL_law_430 431 rfl ?_
      refine s_sld C hX dL_law_431 432 rfl (fun x28 => ?_)
      refine s_call_i (rn_V (As := [.int x27, .int x28]) C (ct_at hR hA (ct_on (ct_X4_setVoltage g TA x3 x27 x28))) (rv_on C hR (q := vw_12) rfl) (lw_V q1927 q1928 q1929 q112 q1930) ⟨rfl, nv_X4_setVoltage⟩ ⟨by decide, by decide⟩ rfl (bl rfl) dL_law_432) 435 rfl (fun x29 => ?_)
      refine s_istore C dL_law_435 (by decide) 437 rfl [(6, .int x29), (5, .int x26), (0, .ref b), (1, .ref x1), (2, .ref x3), (3, .ref x5), (4, .int s6)] rfl ?_
      refine s_aload_n C dL_law_437 438 rfl 4 rfl ?_
      refine s_call_i (rn_V (As := []) C (ct_at hR hA (ct_on (ct_X4_thrown g TA x3))) (rv_on C hR (q := vw_12) rfl) (lw_V q1869 q1870 q1871 q112 q1872) ⟨rfl, nv_X4_thrown⟩ ⟨by decide, by decide⟩ rfl (bl rfl) dL_law_438) 441 rfl (fun x30 => ?_)
      refine s_iload C dL_law_441 443 rfl 1 rfl ?_
      refine s_icmp_eq C dL_law_443 448 446 (by decide) rfl ?_ ?_
      · refine s_iload C dL_law_448 450 rfl 1 rfl ?_
        refine s_if_ne C dL_law_450 465 453 (by decide) rfl ?_ ?_
        · refine s_aload_n C dL_law_453 454 rfl 5 rfl ?_
          refine s_iconst (v := 0) C dL_law_454 (by decide) 455 rfl ?_
          refine s_lald C hR dL_law_455 456 rfl (fun x31 => ?_)
          refine s_iload C dL_law_456 458 rfl 0 rfl ?_
          refine s_i2l C dL_law_458 459 rfl ?_
          refine s_lcmp C dL_law_459 460 rfl ?_
          refine s_if_eq C dL_law_460 465 463 (by decide) rfl ?_ ?_
          · refine s_goto C dL_law_465 2720 (by decide) ?_
            refine s_iinc C dL_law_2720 (s6 + 4) rfl 6 rfl (by decide) 2723 rfl [(4, .int (s6 + 4)), (6, .int x29), (5, .int x26), (0, .ref b), (1, .ref x1), (2, .ref x3), (3, .ref x5)] rfl ?_
            refine s_goto C dL_law_2723 23 (by decide) ?_
            refine s_r ?_
            refine s_lv [3, 4, 5, 6, 0] rfl ?_
            exact hk7 (s6 + 4)
          · refine s_iconst (v := 0) C dL_law_463 (by decide) 464 rfl ?_
            refine s_r ?_
            rw [hx8]
            exact s_iret C rfl rfl dL_law_464
        · refine s_goto C dL_law_465 2720 (by decide) ?_
          refine s_iinc C dL_law_2720 (s6 + 4) rfl 6 rfl (by decide) 2723 rfl [(4, .int (s6 + 4)), (6, .int x29), (5, .int x26), (0, .ref b), (1, .ref x1), (2, .ref x3), (3, .ref x5)] rfl ?_
          refine s_goto C dL_law_2723 23 (by decide) ?_
          refine s_r ?_
          refine s_lv [3, 4, 5, 6, 0] rfl ?_
          exact hk7 (s6 + 4)
      · refine s_iconst (v := 0) C dL_law_446 (by decide) 447 rfl ?_
        refine s_r ?_
        rw [hx8]
        exact s_iret C rfl rfl dL_law_447
    refine s_tab C dL_law_39 3 (429) 468 (by decide) (by decide) rfl (by decide) ?_ (fun hc293 => ?_)
    · refine s_aload_n C dL_law_468 469 rfl 1 rfl ?_
      refine s_aload_n C dL_law_469 470 rfl 0 rfl ?_
      refine s_iload C dL_law_470 472 rfl 4 rfl ?_
      refine s_iconst (v := 1) C dL_law_472 (by decide) 473 rfl ?_
      refine s_iadd C dL_law_473 474 rfl ?_
      refine s_sld C hX dL_law_474 475 rfl (fun x32 => ?_)
      refine s_aload_n C dL_law_475 476 rfl 0 rfl ?_
      refine s_iload C dL_law_476 478 rfl 4 rfl ?_
      refine s_iconst (v := 2) C dL_law_478 (by decide) 479 rfl ?_
      refine s_iadd C dL_law_479 480 rfl ?_
      refine s_sld C hX dL_law_480 481 rfl (fun x33 => ?_)
      refine s_aload_n C dL_law_481 482 rfl 3 rfl ?_
      refine s_call_i (rn_SH (As := [.ref x1, .int x32, .int x33, .ref x5]) C (ch_at hR hA (ct_X0_setFactor htr g TA x1 x32 x33 x5)) (lw_SW q1459 q1460 q100 q1461) nv_X0_setFactor ⟨by decide, by decide⟩ rfl (bl rfl) dL_law_482) 485 rfl (fun x34 => ?_)
      refine s_istore C dL_law_485 (by decide) 487 rfl [(5, .int x34), (0, .ref b), (1, .ref x1), (2, .ref x3), (3, .ref x5), (4, .int s6)] rfl ?_
      refine s_aload_n C dL_law_487 488 rfl 3 rfl ?_
      refine s_aload_n C dL_law_488 489 rfl 1 rfl ?_
      refine s_iload C dL_law_489 491 rfl 5 rfl ?_
      refine s_iconst (v := 1) C dL_law_491 (by decide) 492 rfl ?_
      refine s_iadd C dL_law_492 493 rfl ?_
      refine s_sld C hX dL_law_493 494 rfl (fun x35 => ?_)
      refine s_aload_n C dL_law_494 495 rfl 1 rfl ?_
      refine s_iload C dL_law_495 497 rfl 5 rfl ?_
      refine s_iconst (v := 2) C dL_law_497 (by decide) 498 rfl ?_
      refine s_iadd C dL_law_498 499 rfl ?_
      refine s_sld C hX dL_law_499 500 rfl (fun x36 => ?_)
      refine s_call_i (rn_V (As := [.int x35, .int x36]) C (ct_at hR hA (ct_on (ct_X4_setFactor g TA x3 x35 x36))) (rv_on C hR (q := vw_12) rfl) (lw_V q1943 q1944 q1945 q112 q1946) ⟨rfl, nv_X4_setFactor⟩ ⟨by decide, by decide⟩ rfl (bl rfl) dL_law_500) 503 rfl (fun x37 => ?_)
      refine s_istore C dL_law_503 (by decide) 505 rfl [(6, .int x37), (5, .int x34), (0, .ref b), (1, .ref x1), (2, .ref x3), (3, .ref x5), (4, .int s6)] rfl ?_
      refine s_aload_n C dL_law_505 506 rfl 4 rfl ?_
      refine s_call_i (rn_V (As := []) C (ct_at hR hA (ct_on (ct_X4_thrown g TA x3))) (rv_on C hR (q := vw_12) rfl) (lw_V q1869 q1870 q1871 q112 q1872) ⟨rfl, nv_X4_thrown⟩ ⟨by decide, by decide⟩ rfl (bl rfl) dL_law_506) 509 rfl (fun x38 => ?_)
      refine s_iload C dL_law_509 511 rfl 1 rfl ?_
      refine s_icmp_eq C dL_law_511 516 514 (by decide) rfl ?_ ?_
      · refine s_iload C dL_law_516 518 rfl 1 rfl ?_
        refine s_if_ne C dL_law_518 533 521 (by decide) rfl ?_ ?_
        · refine s_aload_n C dL_law_521 522 rfl 5 rfl ?_
          refine s_iconst (v := 0) C dL_law_522 (by decide) 523 rfl ?_
          refine s_lald C hR dL_law_523 524 rfl (fun x39 => ?_)
          refine s_iload C dL_law_524 526 rfl 0 rfl ?_
          refine s_i2l C dL_law_526 527 rfl ?_
          refine s_lcmp C dL_law_527 528 rfl ?_
          refine s_if_eq C dL_law_528 533 531 (by decide) rfl ?_ ?_
          · refine s_goto C dL_law_533 2720 (by decide) ?_
            refine s_iinc C dL_law_2720 (s6 + 4) rfl 6 rfl (by decide) 2723 rfl [(4, .int (s6 + 4)), (6, .int x37), (5, .int x34), (0, .ref b), (1, .ref x1), (2, .ref x3), (3, .ref x5)] rfl ?_
            refine s_goto C dL_law_2723 23 (by decide) ?_
            refine s_r ?_
            refine s_lv [3, 4, 5, 6, 0] rfl ?_
            exact hk7 (s6 + 4)
          · refine s_iconst (v := 0) C dL_law_531 (by decide) 532 rfl ?_
            refine s_r ?_
            rw [hx8]
            exact s_iret C rfl rfl dL_law_532
        · refine s_goto C dL_law_533 2720 (by decide) ?_
          refine s_iinc C dL_law_2720 (s6 + 4) rfl 6 rfl (by decide) 2723 rfl [(4, .int (s6 + 4)), (6, .int x37), (5, .int x34), (0, .ref b), (1, .ref x1), (2, .ref x3), (3, .ref x5)] rfl ?_
          refine s_goto C dL_law_2723 23 (by decide) ?_
          refine s_r ?_
          refine s_lv [3, 4, 5, 6, 0] rfl ?_
          exact hk7 (s6 + 4)
      · refine s_iconst (v := 0) C dL_law_514 (by decide) 515 rfl ?_
        refine s_r ?_
        rw [hx8]
        exact s_iret C rfl rfl dL_law_515
    refine s_tab C dL_law_39 4 (497) 536 (by decide) (by decide) rfl (by decide) ?_ (fun hc294 => ?_)
    · refine s_aload_n C dL_law_536 537 rfl 1 rfl ?_
      refine s_aload_n C dL_law_537 538 rfl 0 rfl ?_
      refine s_iload C dL_law_538 540 rfl 4 rfl ?_
      refine s_iconst (v := 1) C dL_law_540 (by decide) 541 rfl ?_
      refine s_iadd C dL_law_541 542 rfl ?_
      refine s_sld C hX dL_law_542 543 rfl (fun x40 => ?_)
      refine s_aload_n C dL_law_543 544 rfl 0 rfl ?_
      refine s_iload C dL_law_544 546 rfl 4 rfl ?_
      refine s_iconst (v := 2) C dL_law_546 (by decide) 547 rfl ?_
      refine s_iadd C dL_law_547 548 rfl ?_
      refine s_sld C hX dL_law_548 549 rfl (fun x41 => ?_)
      refine s_aload_n C dL_law_549 550 rfl 3 rfl ?_
      refine s_call_i (rn_SH (As := [.ref x1, .int x40, .int x41, .ref x5]) C (ch_at hR hA (ct_X0_setSpeed htr g TA x1 x40 x41 x5)) (lw_SW q1470 q1471 q100 q1472) nv_X0_setSpeed ⟨by decide, by decide⟩ rfl (bl rfl) dL_law_550) 553 rfl (fun x42 => ?_)
      refine s_istore C dL_law_553 (by decide) 555 rfl [(5, .int x42), (0, .ref b), (1, .ref x1), (2, .ref x3), (3, .ref x5), (4, .int s6)] rfl ?_
      refine s_aload_n C dL_law_555 556 rfl 3 rfl ?_
      refine s_aload_n C dL_law_556 557 rfl 1 rfl ?_
      refine s_iload C dL_law_557 559 rfl 5 rfl ?_
      refine s_iconst (v := 1) C dL_law_559 (by decide) 560 rfl ?_
      refine s_iadd C dL_law_560 561 rfl ?_
      refine s_sld C hX dL_law_561 562 rfl (fun x43 => ?_)
      refine s_aload_n C dL_law_562 563 rfl 1 rfl ?_
      refine s_iload C dL_law_563 565 rfl 5 rfl ?_
      refine s_iconst (v := 2) C dL_law_565 (by decide) 566 rfl ?_
      refine s_iadd C dL_law_566 567 rfl ?_
      refine s_sld C hX dL_law_567 568 rfl (fun x44 => ?_)
      refine s_call_i (rn_V (As := [.int x43, .int x44]) C (ct_at hR hA (ct_on (ct_X4_setSpeed g TA x3 x43 x44))) (rv_on C hR (q := vw_12) rfl) (lw_V q1955 q1956 q1957 q112 q1958) ⟨rfl, nv_X4_setSpeed⟩ ⟨by decide, by decide⟩ rfl (bl rfl) dL_law_568) 571 rfl (fun x45 => ?_)
      refine s_istore C dL_law_571 (by decide) 573 rfl [(6, .int x45), (5, .int x42), (0, .ref b), (1, .ref x1), (2, .ref x3), (3, .ref x5), (4, .int s6)] rfl ?_
      refine s_aload_n C dL_law_573 574 rfl 4 rfl ?_
      refine s_call_i (rn_V (As := []) C (ct_at hR hA (ct_on (ct_X4_thrown g TA x3))) (rv_on C hR (q := vw_12) rfl) (lw_V q1869 q1870 q1871 q112 q1872) ⟨rfl, nv_X4_thrown⟩ ⟨by decide, by decide⟩ rfl (bl rfl) dL_law_574) 577 rfl (fun x46 => ?_)
      refine s_iload C dL_law_577 579 rfl 1 rfl ?_
      refine s_icmp_eq C dL_law_579 584 582 (by decide) rfl ?_ ?_
      · refine s_iload C dL_law_584 586 rfl 1 rfl ?_
        refine s_if_ne C dL_law_586 601 589 (by decide) rfl ?_ ?_
        · refine s_aload_n C dL_law_589 590 rfl 5 rfl ?_
          refine s_iconst (v := 0) C dL_law_590 (by decide) 591 rfl ?_
          refine s_lald C hR dL_law_591 592 rfl (fun x47 => ?_)
          refine s_iload C dL_law_592 594 rfl 0 rfl ?_
          refine s_i2l C dL_law_594 595 rfl ?_
          refine s_lcmp C dL_law_595 596 rfl ?_
          refine s_if_eq C dL_law_596 601 599 (by decide) rfl ?_ ?_
          · refine s_goto C dL_law_601 2720 (by decide) ?_
            refine s_iinc C dL_law_2720 (s6 + 4) rfl 6 rfl (by decide) 2723 rfl [(4, .int (s6 + 4)), (6, .int x45), (5, .int x42), (0, .ref b), (1, .ref x1), (2, .ref x3), (3, .ref x5)] rfl ?_
            refine s_goto C dL_law_2723 23 (by decide) ?_
            refine s_r ?_
            refine s_lv [3, 4, 5, 6, 0] rfl ?_
            exact hk7 (s6 + 4)
          · refine s_iconst (v := 0) C dL_law_599 (by decide) 600 rfl ?_
            refine s_r ?_
            rw [hx8]
            exact s_iret C rfl rfl dL_law_600
        · refine s_goto C dL_law_601 2720 (by decide) ?_
          refine s_iinc C dL_law_2720 (s6 + 4) rfl 6 rfl (by decide) 2723 rfl [(4, .int (s6 + 4)), (6, .int x45), (5, .int x42), (0, .ref b), (1, .ref x1), (2, .ref x3), (3, .ref x5)] rfl ?_
          refine s_goto C dL_law_2723 23 (by decide) ?_
          refine s_r ?_
          refine s_lv [3, 4, 5, 6, 0] rfl ?_
          exact hk7 (s6 + 4)
      · refine s_iconst (v := 0) C dL_law_582 (by decide) 583 rfl ?_
        refine s_r ?_
        rw [hx8]
        exact s_iret C rfl rfl dL_law_583
    refine s_tab C dL_law_39 5 (565) 604 (by decide) (by decide) rfl (by decide) ?_ (fun hc295 => ?_)
    · refine s_aload_n C dL_law_604 605 rfl 1 rfl ?_
      refine s_aload_n C dL_law_605 606 rfl 0 rfl ?_
      refine s_iload C dL_law_606 608 rfl 4 rfl ?_
      refine s_iconst (v := 1) C dL_law_608 (by decide) 609 rfl ?_
      refine s_iadd C dL_law_609 610 rfl ?_
      refine s_sld C hX dL_law_610 611 rfl (fun x48 => ?_)
      refine s_aload_n C dL_law_611 612 rfl 0 rfl ?_
      refine s_iload C dL_law_612 614 rfl 4 rfl ?_
      refine s_iconst (v := 2) C dL_law_614 (by decide) 615 rfl ?_
      refine s_iadd C dL_law_615 616 rfl ?_
      refine s_sld C hX dL_law_616 617 rfl (fun x49 => ?_)
      refine s_aload_n C dL_law_617 618 rfl 0 rfl ?_
      refine s_iload C dL_law_618 620 rfl 4 rfl ?_
      refine s_iconst (v := 3) C dL_law_620 (by decide) 621 rfl ?_
      refine s_iadd C dL_law_621 622 rfl ?_
      refine s_sld C hX dL_law_622 623 rfl (fun x50 => ?_)
      refine s_aload_n C dL_law_623 624 rfl 3 rfl ?_
      refine s_call_i (rn_SH (As := [.ref x1, .int x48, .int x49, .int x50, .ref x5]) C (ch_at hR hA (ct_X0_join htr g TA x1 x48 x49 x50 x5)) (lw_SW q1481 q1482 q100 q1483) nv_X0_join ⟨by decide, by decide⟩ rfl (bl rfl) dL_law_624) 627 rfl (fun x51 => ?_)
      refine s_istore C dL_law_627 (by decide) 629 rfl [(5, .int x51), (0, .ref b), (1, .ref x1), (2, .ref x3), (3, .ref x5), (4, .int s6)] rfl ?_
      refine s_aload_n C dL_law_629 630 rfl 3 rfl ?_
      refine s_aload_n C dL_law_630 631 rfl 1 rfl ?_
      refine s_iload C dL_law_631 633 rfl 5 rfl ?_
      refine s_iconst (v := 1) C dL_law_633 (by decide) 634 rfl ?_
      refine s_iadd C dL_law_634 635 rfl ?_
      refine s_sld C hX dL_law_635 636 rfl (fun x52 => ?_)
      refine s_aload_n C dL_law_636 637 rfl 1 rfl ?_
      refine s_iload C dL_law_637 639 rfl 5 rfl ?_
      refine s_iconst (v := 2) C dL_law_639 (by decide) 640 rfl ?_
      refine s_iadd C dL_law_640 641 rfl ?_
      refine s_sld C hX dL_law_641 642 rfl (fun x53 => ?_)
      refine s_aload_n C dL_law_642 643 rfl 1 rfl ?_
      refine s_iload C dL_law_643 645 rfl 5 rfl ?_
      refine s_iconst (v := 3) C dL_law_645 (by decide) 646 rfl ?_
      refine s_iadd C dL_law_646 647 rfl ?_
      refine s_sld C hX dL_law_647 648 rfl (fun x54 => ?_)
      refine s_call_i (rn_V (As := [.int x52, .int x53, .int x54]) C (ct_at hR hA (ct_on (ct_X4_join g TA x3 x52 x53 x54))) (rv_on C hR (q := vw_12) rfl) (lw_V q1959 q1960 q1961 q112 q1962) ⟨rfl, nv_X4_join⟩ ⟨by decide, by decide⟩ rfl (bl rfl) dL_law_648) 651 rfl (fun x55 => ?_)
      refine s_istore C dL_law_651 (by decide) 653 rfl [(6, .int x55), (5, .int x51), (0, .ref b), (1, .ref x1), (2, .ref x3), (3, .ref x5), (4, .int s6)] rfl ?_
      refine s_aload_n C dL_law_653 654 rfl 4 rfl ?_
      refine s_call_i (rn_V (As := []) C (ct_at hR hA (ct_on (ct_X4_thrown g TA x3))) (rv_on C hR (q := vw_12) rfl) (lw_V q1869 q1870 q1871 q112 q1872) ⟨rfl, nv_X4_thrown⟩ ⟨by decide, by decide⟩ rfl (bl rfl) dL_law_654) 657 rfl (fun x56 => ?_)
      refine s_iload C dL_law_657 659 rfl 1 rfl ?_
      refine s_icmp_eq C dL_law_659 664 662 (by decide) rfl ?_ ?_
      · refine s_iload C dL_law_664 666 rfl 1 rfl ?_
        refine s_if_ne C dL_law_666 681 669 (by decide) rfl ?_ ?_
        · refine s_aload_n C dL_law_669 670 rfl 5 rfl ?_
          refine s_iconst (v := 0) C dL_law_670 (by decide) 671 rfl ?_
          refine s_lald C hR dL_law_671 672 rfl (fun x57 => ?_)
          refine s_iload C dL_law_672 674 rfl 0 rfl ?_
          refine s_i2l C dL_law_674 675 rfl ?_
          refine s_lcmp C dL_law_675 676 rfl ?_
          refine s_if_eq C dL_law_676 681 679 (by decide) rfl ?_ ?_
          · refine s_goto C dL_law_681 2720 (by decide) ?_
            refine s_iinc C dL_law_2720 (s6 + 4) rfl 6 rfl (by decide) 2723 rfl [(4, .int (s6 + 4)), (6, .int x55), (5, .int x51), (0, .ref b), (1, .ref x1), (2, .ref x3), (3, .ref x5)] rfl ?_
            refine s_goto C dL_law_2723 23 (by decide) ?_
            refine s_r ?_
            refine s_lv [3, 4, 5, 6, 0] rfl ?_
            exact hk7 (s6 + 4)
          · refine s_iconst (v := 0) C dL_law_679 (by decide) 680 rfl ?_
            refine s_r ?_
            rw [hx8]
            exact s_iret C rfl rfl dL_law_680
        · refine s_goto C dL_law_681 2720 (by decide) ?_
          refine s_iinc C dL_law_2720 (s6 + 4) rfl 6 rfl (by decide) 2723 rfl [(4, .int (s6 + 4)), (6, .int x55), (5, .int x51), (0, .ref b), (1, .ref x1), (2, .ref x3), (3, .ref x5)] rfl ?_
          refine s_goto C dL_law_2723 23 (by decide) ?_
          refine s_r ?_
          refine s_lv [3, 4, 5, 6, 0] rfl ?_
          exact hk7 (s6 + 4)
      · refine s_iconst (v := 0) C dL_law_662 (by decide) 663 rfl ?_
        refine s_r ?_
        rw [hx8]
        exact s_iret C rfl rfl dL_law_663
    refine s_tab C dL_law_39 6 (645) 684 (by decide) (by decide) rfl (by decide) ?_ (fun hc296 => ?_)
    · refine s_aload_n C dL_law_684 685 rfl 1 rfl ?_
      refine s_aload_n C dL_law_685 686 rfl 0 rfl ?_
      refine s_iload C dL_law_686 688 rfl 4 rfl ?_
      refine s_iconst (v := 1) C dL_law_688 (by decide) 689 rfl ?_
      refine s_iadd C dL_law_689 690 rfl ?_
      refine s_sld C hX dL_law_690 691 rfl (fun x58 => ?_)
      refine s_aload_n C dL_law_691 692 rfl 0 rfl ?_
      refine s_iload C dL_law_692 694 rfl 4 rfl ?_
      refine s_iconst (v := 2) C dL_law_694 (by decide) 695 rfl ?_
      refine s_iadd C dL_law_695 696 rfl ?_
      refine s_sld C hX dL_law_696 697 rfl (fun x59 => ?_)
      refine s_aload_n C dL_law_697 698 rfl 3 rfl ?_
      refine s_call_i (rn_SH (As := [.ref x1, .int x58, .int x59, .ref x5]) C (ch_at hR hA (ct_X0_takeOut htr g TA x1 x58 x59 x5)) (lw_SW q1500 q1501 q100 q1502) nv_X0_takeOut ⟨by decide, by decide⟩ rfl (bl rfl) dL_law_698) 701 rfl (fun x60 => ?_)
      refine s_istore C dL_law_701 (by decide) 703 rfl [(5, .int x60), (0, .ref b), (1, .ref x1), (2, .ref x3), (3, .ref x5), (4, .int s6)] rfl ?_
      refine s_aload_n C dL_law_703 704 rfl 3 rfl ?_
      refine s_aload_n C dL_law_704 705 rfl 1 rfl ?_
      refine s_iload C dL_law_705 707 rfl 5 rfl ?_
      refine s_iconst (v := 1) C dL_law_707 (by decide) 708 rfl ?_
      refine s_iadd C dL_law_708 709 rfl ?_
      refine s_sld C hX dL_law_709 710 rfl (fun x61 => ?_)
      refine s_aload_n C dL_law_710 711 rfl 1 rfl ?_
      refine s_iload C dL_law_711 713 rfl 5 rfl ?_
      refine s_iconst (v := 2) C dL_law_713 (by decide) 714 rfl ?_
      refine s_iadd C dL_law_714 715 rfl ?_
      refine s_sld C hX dL_law_715 716 rfl (fun x62 => ?_)
      refine s_call_i (rn_V (As := [.int x61, .int x62]) C (ct_at hR hA (ct_on (ct_X4_takeOut g TA x3 x61 x62))) (rv_on C hR (q := vw_12) rfl) (lw_V q1986 q1987 q1988 q112 q1989) ⟨rfl, nv_X4_takeOut⟩ ⟨by decide, by decide⟩ rfl (bl rfl) dL_law_716) 719 rfl (fun x63 => ?_)
      refine s_istore C dL_law_719 (by decide) 721 rfl [(6, .int x63), (5, .int x60), (0, .ref b), (1, .ref x1), (2, .ref x3), (3, .ref x5), (4, .int s6)] rfl ?_
      refine s_aload_n C dL_law_721 722 rfl 4 rfl ?_
      refine s_call_i (rn_V (As := []) C (ct_at hR hA (ct_on (ct_X4_thrown g TA x3))) (rv_on C hR (q := vw_12) rfl) (lw_V q1869 q1870 q1871 q112 q1872) ⟨rfl, nv_X4_thrown⟩ ⟨by decide, by decide⟩ rfl (bl rfl) dL_law_722) 725 rfl (fun x64 => ?_)
      refine s_iload C dL_law_725 727 rfl 1 rfl ?_
      refine s_icmp_eq C dL_law_727 732 730 (by decide) rfl ?_ ?_
      · refine s_iload C dL_law_732 734 rfl 1 rfl ?_
        refine s_if_ne C dL_law_734 749 737 (by decide) rfl ?_ ?_
        · refine s_aload_n C dL_law_737 738 rfl 5 rfl ?_
          refine s_iconst (v := 0) C dL_law_738 (by decide) 739 rfl ?_
          refine s_lald C hR dL_law_739 740 rfl (fun x65 => ?_)
          refine s_iload C dL_law_740 742 rfl 0 rfl ?_
          refine s_i2l C dL_law_742 743 rfl ?_
          refine s_lcmp C dL_law_743 744 rfl ?_
          refine s_if_eq C dL_law_744 749 747 (by decide) rfl ?_ ?_
          · refine s_goto C dL_law_749 2720 (by decide) ?_
            refine s_iinc C dL_law_2720 (s6 + 4) rfl 6 rfl (by decide) 2723 rfl [(4, .int (s6 + 4)), (6, .int x63), (5, .int x60), (0, .ref b), (1, .ref x1), (2, .ref x3), (3, .ref x5)] rfl ?_
            refine s_goto C dL_law_2723 23 (by decide) ?_
            refine s_r ?_
            refine s_lv [3, 4, 5, 6, 0] rfl ?_
            exact hk7 (s6 + 4)
          · refine s_iconst (v := 0) C dL_law_747 (by decide) 748 rfl ?_
            refine s_r ?_
            rw [hx8]
            exact s_iret C rfl rfl dL_law_748
        · refine s_goto C dL_law_749 2720 (by decide) ?_
          refine s_iinc C dL_law_2720 (s6 + 4) rfl 6 rfl (by decide) 2723 rfl [(4, .int (s6 + 4)), (6, .int x63), (5, .int x60), (0, .ref b), (1, .ref x1), (2, .ref x3), (3, .ref x5)] rfl ?_
          refine s_goto C dL_law_2723 23 (by decide) ?_
          refine s_r ?_
          refine s_lv [3, 4, 5, 6, 0] rfl ?_
          exact hk7 (s6 + 4)
      · refine s_iconst (v := 0) C dL_law_730 (by decide) 731 rfl ?_
        refine s_r ?_
        rw [hx8]
        exact s_iret C rfl rfl dL_law_731
    refine s_tab C dL_law_39 7 (713) 752 (by decide) (by decide) rfl (by decide) ?_ (fun hc297 => ?_)
    · refine s_aload_n C dL_law_752 753 rfl 1 rfl ?_
      refine s_aload_n C dL_law_753 754 rfl 0 rfl ?_
      refine s_iload C dL_law_754 756 rfl 4 rfl ?_
      refine s_iconst (v := 1) C dL_law_756 (by decide) 757 rfl ?_
      refine s_iadd C dL_law_757 758 rfl ?_
      refine s_sld C hX dL_law_758 759 rfl (fun x66 => ?_)
      refine s_aload_n C dL_law_759 760 rfl 3 rfl ?_
      refine s_call_i (rn_SH (As := [.ref x1, .int x66, .ref x5]) C (ch_at hR hA (ct_X0_setMode htr g TA x1 x66 x5)) (lw_SW q1511 q1512 q100 q1513) nv_X0_setMode ⟨by decide, by decide⟩ rfl (bl rfl) dL_law_760) 763 rfl (fun x67 => ?_)
      refine s_istore C dL_law_763 (by decide) 765 rfl [(5, .int x67), (0, .ref b), (1, .ref x1), (2, .ref x3), (3, .ref x5), (4, .int s6)] rfl ?_
      refine s_aload_n C dL_law_765 766 rfl 3 rfl ?_
      refine s_aload_n C dL_law_766 767 rfl 1 rfl ?_
      refine s_iload C dL_law_767 769 rfl 5 rfl ?_
      refine s_iconst (v := 1) C dL_law_769 (by decide) 770 rfl ?_
      refine s_iadd C dL_law_770 771 rfl ?_
      refine s_sld C hX dL_law_771 772 rfl (fun x68 => ?_)
      refine s_call_i (rn_V (As := [.int x68]) C (ct_at hR hA (ct_on (ct_X4_setMode g TA x3 x68))) (rv_on C hR (q := vw_12) rfl) (lw_V q2054 q2055 q2056 q112 q2057) ⟨rfl, nv_X4_setMode⟩ ⟨by decide, by decide⟩ rfl (bl rfl) dL_law_772) 775 rfl (fun x69 => ?_)
      refine s_istore C dL_law_775 (by decide) 777 rfl [(6, .int x69), (5, .int x67), (0, .ref b), (1, .ref x1), (2, .ref x3), (3, .ref x5), (4, .int s6)] rfl ?_
      refine s_aload_n C dL_law_777 778 rfl 4 rfl ?_
      refine s_call_i (rn_V (As := []) C (ct_at hR hA (ct_on (ct_X4_thrown g TA x3))) (rv_on C hR (q := vw_12) rfl) (lw_V q1869 q1870 q1871 q112 q1872) ⟨rfl, nv_X4_thrown⟩ ⟨by decide, by decide⟩ rfl (bl rfl) dL_law_778) 781 rfl (fun x70 => ?_)
      refine s_iload C dL_law_781 783 rfl 1 rfl ?_
      refine s_icmp_eq C dL_law_783 788 786 (by decide) rfl ?_ ?_
      · refine s_iload C dL_law_788 790 rfl 1 rfl ?_
        refine s_if_ne C dL_law_790 805 793 (by decide) rfl ?_ ?_
        · refine s_aload_n C dL_law_793 794 rfl 5 rfl ?_
          refine s_iconst (v := 0) C dL_law_794 (by decide) 795 rfl ?_
          refine s_lald C hR dL_law_795 796 rfl (fun x71 => ?_)
          refine s_iload C dL_law_796 798 rfl 0 rfl ?_
          refine s_i2l C dL_law_798 799 rfl ?_
          refine s_lcmp C dL_law_799 800 rfl ?_
          refine s_if_eq C dL_law_800 805 803 (by decide) rfl ?_ ?_
          · refine s_goto C dL_law_805 2720 (by decide) ?_
            refine s_iinc C dL_law_2720 (s6 + 4) rfl 6 rfl (by decide) 2723 rfl [(4, .int (s6 + 4)), (6, .int x69), (5, .int x67), (0, .ref b), (1, .ref x1), (2, .ref x3), (3, .ref x5)] rfl ?_
            refine s_goto C dL_law_2723 23 (by decide) ?_
            refine s_r ?_
            refine s_lv [3, 4, 5, 6, 0] rfl ?_
            exact hk7 (s6 + 4)
          · refine s_iconst (v := 0) C dL_law_803 (by decide) 804 rfl ?_
            refine s_r ?_
            rw [hx8]
            exact s_iret C rfl rfl dL_law_804
        · refine s_goto C dL_law_805 2720 (by decide) ?_
          refine s_iinc C dL_law_2720 (s6 + 4) rfl 6 rfl (by decide) 2723 rfl [(4, .int (s6 + 4)), (6, .int x69), (5, .int x67), (0, .ref b), (1, .ref x1), (2, .ref x3), (3, .ref x5)] rfl ?_
          refine s_goto C dL_law_2723 23 (by decide) ?_
          refine s_r ?_
          refine s_lv [3, 4, 5, 6, 0] rfl ?_
          exact hk7 (s6 + 4)
      · refine s_iconst (v := 0) C dL_law_786 (by decide) 787 rfl ?_
        refine s_r ?_
        rw [hx8]
        exact s_iret C rfl rfl dL_law_787
    refine s_tab C dL_law_39 8 (769) 808 (by decide) (by decide) rfl (by decide) ?_ (fun hc298 => ?_)
    · refine s_aload_n C dL_law_808 809 rfl 1 rfl ?_
      refine s_aload_n C dL_law_809 810 rfl 0 rfl ?_
      refine s_iload C dL_law_810 812 rfl 4 rfl ?_
      refine s_iconst (v := 1) C dL_law_812 (by decide) 813 rfl ?_
      refine s_iadd C dL_law_813 814 rfl ?_
      refine s_sld C hX dL_law_814 815 rfl (fun x72 => ?_)
      refine s_aload_n C dL_law_815 816 rfl 3 rfl ?_
      refine s_call_i (rn_SH (As := [.ref x1, .int x72, .ref x5]) C (ch_at hR hA (ct_X0_setWay htr g TA x1 x72 x5)) (lw_SW q1522 q1523 q100 q1524) nv_X0_setWay ⟨by decide, by decide⟩ rfl (bl rfl) dL_law_816) 819 rfl (fun x73 => ?_)
      refine s_istore C dL_law_819 (by decide) 821 rfl [(5, .int x73), (0, .ref b), (1, .ref x1), (2, .ref x3), (3, .ref x5), (4, .int s6)] rfl ?_
      refine s_aload_n C dL_law_821 822 rfl 3 rfl ?_
      refine s_aload_n C dL_law_822 823 rfl 1 rfl ?_
      refine s_iload C dL_law_823 825 rfl 5 rfl ?_
      refine s_iconst (v := 1) C dL_law_825 (by decide) 826 rfl ?_
      refine s_iadd C dL_law_826 827 rfl ?_
      refine s_sld C hX dL_law_827 828 rfl (fun x74 => ?_)
      refine s_call_i (rn_V (As := [.int x74]) C (ct_at hR hA (ct_on (ct_X4_setWay g TA x3 x74))) (rv_on C hR (q := vw_12) rfl) (lw_V q2062 q2063 q2064 q112 q2065) ⟨rfl, nv_X4_setWay⟩ ⟨by decide, by decide⟩ rfl (bl rfl) dL_law_828) 831 rfl (fun x75 => ?_)
      refine s_istore C dL_law_831 (by decide) 833 rfl [(6, .int x75), (5, .int x73), (0, .ref b), (1, .ref x1), (2, .ref x3), (3, .ref x5), (4, .int s6)] rfl ?_
      refine s_aload_n C dL_law_833 834 rfl 4 rfl ?_
      refine s_call_i (rn_V (As := []) C (ct_at hR hA (ct_on (ct_X4_thrown g TA x3))) (rv_on C hR (q := vw_12) rfl) (lw_V q1869 q1870 q1871 q112 q1872) ⟨rfl, nv_X4_thrown⟩ ⟨by decide, by decide⟩ rfl (bl rfl) dL_law_834) 837 rfl (fun x76 => ?_)
      refine s_iload C dL_law_837 839 rfl 1 rfl ?_
      refine s_icmp_eq C dL_law_839 844 842 (by decide) rfl ?_ ?_
      · refine s_iload C dL_law_844 846 rfl 1 rfl ?_
        refine s_if_ne C dL_law_846 861 849 (by decide) rfl ?_ ?_
        · refine s_aload_n C dL_law_849 850 rfl 5 rfl ?_
          refine s_iconst (v := 0) C dL_law_850 (by decide) 851 rfl ?_
          refine s_lald C hR dL_law_851 852 rfl (fun x77 => ?_)
          refine s_iload C dL_law_852 854 rfl 0 rfl ?_
          refine s_i2l C dL_law_854 855 rfl ?_
          refine s_lcmp C dL_law_855 856 rfl ?_
          refine s_if_eq C dL_law_856 861 859 (by decide) rfl ?_ ?_
          · refine s_goto C dL_law_861 2720 (by decide) ?_
            refine s_iinc C dL_law_2720 (s6 + 4) rfl 6 rfl (by decide) 2723 rfl [(4, .int (s6 + 4)), (6, .int x75), (5, .int x73), (0, .ref b), (1, .ref x1), (2, .ref x3), (3, .ref x5)] rfl ?_
            refine s_goto C dL_law_2723 23 (by decide) ?_
            refine s_r ?_
            refine s_lv [3, 4, 5, 6, 0] rfl ?_
            exact hk7 (s6 + 4)
          · refine s_iconst (v := 0) C dL_law_859 (by decide) 860 rfl ?_
            refine s_r ?_
            rw [hx8]
            exact s_iret C rfl rfl dL_law_860
        · refine s_goto C dL_law_861 2720 (by decide) ?_
          refine s_iinc C dL_law_2720 (s6 + 4) rfl 6 rfl (by decide) 2723 rfl [(4, .int (s6 + 4)), (6, .int x75), (5, .int x73), (0, .ref b), (1, .ref x1), (2, .ref x3), (3, .ref x5)] rfl ?_
          refine s_goto C dL_law_2723 23 (by decide) ?_
          refine s_r ?_
          refine s_lv [3, 4, 5, 6, 0] rfl ?_
          exact hk7 (s6 + 4)
      · refine s_iconst (v := 0) C dL_law_842 (by decide) 843 rfl ?_
        refine s_r ?_
        rw [hx8]
        exact s_iret C rfl rfl dL_law_843
    refine s_tab C dL_law_39 9 (825) 864 (by decide) (by decide) rfl (by decide) ?_ (fun hc299 => ?_)
    · refine s_aload_n C dL_law_864 865 rfl 1 rfl ?_
      refine s_call_i (rn_V (As := []) C (ct_at hR hA (ct_on (ct_X1_turnGuard g TA x1))) (rv_on C hR (q := vw_0) rfl) (lw_V q529 q530 q531 q101 q532) ⟨rfl, nv_X1_turnGuard⟩ ⟨by decide, by decide⟩ rfl (bl rfl) dL_law_865) 868 rfl (fun x78 => ?_)
      refine s_aload_n C dL_law_868 869 rfl 2 rfl ?_
      refine s_call_i (rn_V (As := []) C (ct_at hR hA (ct_on (ct_X4_turnGuard g TA x3))) (rv_on C hR (q := vw_12) rfl) (lw_V q2066 q2067 q2068 q112 q2069) ⟨rfl, nv_X4_turnGuard⟩ ⟨by decide, by decide⟩ rfl (bl rfl) dL_law_869) 872 rfl (fun x79 => ?_)
      refine s_icmp_eq C dL_law_872 2720 875 (by decide) rfl ?_ ?_
      · refine s_iinc C dL_law_2720 (s6 + 4) rfl 4 rfl (by decide) 2723 rfl [(4, .int (s6 + 4)), (0, .ref b), (1, .ref x1), (2, .ref x3), (3, .ref x5)] rfl ?_
        refine s_goto C dL_law_2723 23 (by decide) ?_
        refine s_r ?_
        refine s_lv [1, 2, 3, 4, 0] rfl ?_
        exact hk7 (s6 + 4)
      · refine s_iconst (v := 0) C dL_law_875 (by decide) 876 rfl ?_
        refine s_r ?_
        rw [hx8]
        exact s_iret C rfl rfl dL_law_876
    refine s_tab C dL_law_39 10 (838) 877 (by decide) (by decide) rfl (by decide) ?_ (fun hc300 => ?_)
    · refine s_aload_n C dL_law_877 878 rfl 1 rfl ?_
      refine s_aload_n C dL_law_878 879 rfl 0 rfl ?_
      refine s_iload C dL_law_879 881 rfl 4 rfl ?_
      refine s_iconst (v := 1) C dL_law_881 (by decide) 882 rfl ?_
      refine s_iadd C dL_law_882 883 rfl ?_
      refine s_sld C hX dL_law_883 884 rfl (fun x80 => ?_)
      refine s_aload_n C dL_law_884 885 rfl 3 rfl ?_
      refine s_call_i (rn_SH (As := [.ref x1, .int x80, .ref x5]) C (ch_at hR hA (ct_X0_record htr g TA x1 x80 x5)) (lw_SW q1540 q1541 q100 q1542) nv_X0_record ⟨by decide, by decide⟩ rfl (bl rfl) dL_law_885) 888 rfl (fun x81 => ?_)
      refine s_istore C dL_law_888 (by decide) 890 rfl [(5, .int x81), (0, .ref b), (1, .ref x1), (2, .ref x3), (3, .ref x5), (4, .int s6)] rfl ?_
      refine s_aload_n C dL_law_890 891 rfl 3 rfl ?_
      refine s_aload_n C dL_law_891 892 rfl 1 rfl ?_
      refine s_iload C dL_law_892 894 rfl 5 rfl ?_
      refine s_iconst (v := 1) C dL_law_894 (by decide) 895 rfl ?_
      refine s_iadd C dL_law_895 896 rfl ?_
      refine s_sld C hX dL_law_896 897 rfl (fun x82 => ?_)
      refine s_call_i (rn_V (As := [.int x82]) C (ct_at hR hA (ct_on (ct_X4_record g TA x3 x82))) (rv_on C hR (q := vw_12) rfl) (lw_V q2070 q2071 q2072 q112 q2073) ⟨rfl, nv_X4_record⟩ ⟨by decide, by decide⟩ rfl (bl rfl) dL_law_897) 900 rfl (fun x83 => ?_)
      refine s_istore C dL_law_900 (by decide) 902 rfl [(6, .int x83), (5, .int x81), (0, .ref b), (1, .ref x1), (2, .ref x3), (3, .ref x5), (4, .int s6)] rfl ?_
      refine s_aload_n C dL_law_902 903 rfl 4 rfl ?_
      refine s_call_i (rn_V (As := []) C (ct_at hR hA (ct_on (ct_X4_thrown g TA x3))) (rv_on C hR (q := vw_12) rfl) (lw_V q1869 q1870 q1871 q112 q1872) ⟨rfl, nv_X4_thrown⟩ ⟨by decide, by decide⟩ rfl (bl rfl) dL_law_903) 906 rfl (fun x84 => ?_)
      refine s_iload C dL_law_906 908 rfl 1 rfl ?_
      refine s_icmp_eq C dL_law_908 913 911 (by decide) rfl ?_ ?_
      · refine s_iload C dL_law_913 915 rfl 1 rfl ?_
        refine s_if_ne C dL_law_915 930 918 (by decide) rfl ?_ ?_
        · refine s_aload_n C dL_law_918 919 rfl 5 rfl ?_
          refine s_iconst (v := 0) C dL_law_919 (by decide) 920 rfl ?_
          refine s_lald C hR dL_law_920 921 rfl (fun x85 => ?_)
          refine s_iload C dL_law_921 923 rfl 0 rfl ?_
          refine s_i2l C dL_law_923 924 rfl ?_
          refine s_lcmp C dL_law_924 925 rfl ?_
          refine s_if_eq C dL_law_925 930 928 (by decide) rfl ?_ ?_
          · refine s_goto C dL_law_930 2720 (by decide) ?_
            refine s_iinc C dL_law_2720 (s6 + 4) rfl 6 rfl (by decide) 2723 rfl [(4, .int (s6 + 4)), (6, .int x83), (5, .int x81), (0, .ref b), (1, .ref x1), (2, .ref x3), (3, .ref x5)] rfl ?_
            refine s_goto C dL_law_2723 23 (by decide) ?_
            refine s_r ?_
            refine s_lv [3, 4, 5, 6, 0] rfl ?_
            exact hk7 (s6 + 4)
          · refine s_iconst (v := 0) C dL_law_928 (by decide) 929 rfl ?_
            refine s_r ?_
            rw [hx8]
            exact s_iret C rfl rfl dL_law_929
        · refine s_goto C dL_law_930 2720 (by decide) ?_
          refine s_iinc C dL_law_2720 (s6 + 4) rfl 6 rfl (by decide) 2723 rfl [(4, .int (s6 + 4)), (6, .int x83), (5, .int x81), (0, .ref b), (1, .ref x1), (2, .ref x3), (3, .ref x5)] rfl ?_
          refine s_goto C dL_law_2723 23 (by decide) ?_
          refine s_r ?_
          refine s_lv [3, 4, 5, 6, 0] rfl ?_
          exact hk7 (s6 + 4)
      · refine s_iconst (v := 0) C dL_law_911 (by decide) 912 rfl ?_
        refine s_r ?_
        rw [hx8]
        exact s_iret C rfl rfl dL_law_912
    refine s_tab C dL_law_39 11 (894) 933 (by decide) (by decide) rfl (by decide) ?_ (fun hc301 => ?_)
    · refine s_aload_n C dL_law_933 934 rfl 1 rfl ?_
      refine s_aload_n C dL_law_934 935 rfl 0 rfl ?_
      refine s_iload C dL_law_935 937 rfl 4 rfl ?_
      refine s_iconst (v := 1) C dL_law_937 (by decide) 938 rfl ?_
      refine s_iadd C dL_law_938 939 rfl ?_
      refine s_sld C hX dL_law_939 940 rfl (fun x86 => ?_)
      refine s_aload_n C dL_law_940 941 rfl 3 rfl ?_
      refine s_call_i (rn_SH (As := [.ref x1, .int x86, .ref x5]) C (ch_at hR hA (ct_X0_pass htr g TA x1 x86 x5)) (lw_SW q1551 q1552 q100 q1553) nv_X0_pass ⟨by decide, by decide⟩ rfl (bl rfl) dL_law_941) 944 rfl (fun x87 => ?_)
      refine s_istore C dL_law_944 (by decide) 946 rfl [(5, .int x87), (0, .ref b), (1, .ref x1), (2, .ref x3), (3, .ref x5), (4, .int s6)] rfl ?_
      refine s_aload_n C dL_law_946 947 rfl 3 rfl ?_
      refine s_aload_n C dL_law_947 948 rfl 1 rfl ?_
      refine s_iload C dL_law_948 950 rfl 5 rfl ?_
      refine s_iconst (v := 1) C dL_law_950 (by decide) 951 rfl ?_
      refine s_iadd C dL_law_951 952 rfl ?_
      refine s_sld C hX dL_law_952 953 rfl (fun x88 => ?_)
      refine s_call_i (rn_V (As := [.int x88]) C (ct_at hR hA (ct_on (ct_X4_pass g TA x3 x88))) (rv_on C hR (q := vw_12) rfl) (lw_V q1994 q1995 q1996 q112 q1997) ⟨rfl, nv_X4_pass⟩ ⟨by decide, by decide⟩ rfl (bl rfl) dL_law_953) 956 rfl (fun x89 => ?_)
      refine s_istore C dL_law_956 (by decide) 958 rfl [(6, .int x89), (5, .int x87), (0, .ref b), (1, .ref x1), (2, .ref x3), (3, .ref x5), (4, .int s6)] rfl ?_
      refine s_aload_n C dL_law_958 959 rfl 4 rfl ?_
      refine s_call_i (rn_V (As := []) C (ct_at hR hA (ct_on (ct_X4_thrown g TA x3))) (rv_on C hR (q := vw_12) rfl) (lw_V q1869 q1870 q1871 q112 q1872) ⟨rfl, nv_X4_thrown⟩ ⟨by decide, by decide⟩ rfl (bl rfl) dL_law_959) 962 rfl (fun x90 => ?_)
      refine s_iload C dL_law_962 964 rfl 1 rfl ?_
      refine s_icmp_eq C dL_law_964 969 967 (by decide) rfl ?_ ?_
      · refine s_iload C dL_law_969 971 rfl 1 rfl ?_
        refine s_if_ne C dL_law_971 986 974 (by decide) rfl ?_ ?_
        · refine s_aload_n C dL_law_974 975 rfl 5 rfl ?_
          refine s_iconst (v := 0) C dL_law_975 (by decide) 976 rfl ?_
          refine s_lald C hR dL_law_976 977 rfl (fun x91 => ?_)
          refine s_iload C dL_law_977 979 rfl 0 rfl ?_
          refine s_i2l C dL_law_979 980 rfl ?_
          refine s_lcmp C dL_law_980 981 rfl ?_
          refine s_if_eq C dL_law_981 986 984 (by decide) rfl ?_ ?_
          · refine s_goto C dL_law_986 2720 (by decide) ?_
            refine s_iinc C dL_law_2720 (s6 + 4) rfl 6 rfl (by decide) 2723 rfl [(4, .int (s6 + 4)), (6, .int x89), (5, .int x87), (0, .ref b), (1, .ref x1), (2, .ref x3), (3, .ref x5)] rfl ?_
            refine s_goto C dL_law_2723 23 (by decide) ?_
            refine s_r ?_
            refine s_lv [3, 4, 5, 6, 0] rfl ?_
            exact hk7 (s6 + 4)
          · refine s_iconst (v := 0) C dL_law_984 (by decide) 985 rfl ?_
            refine s_r ?_
            rw [hx8]
            exact s_iret C rfl rfl dL_law_985
        · refine s_goto C dL_law_986 2720 (by decide) ?_
          refine s_iinc C dL_law_2720 (s6 + 4) rfl 6 rfl (by decide) 2723 rfl [(4, .int (s6 + 4)), (6, .int x89), (5, .int x87), (0, .ref b), (1, .ref x1), (2, .ref x3), (3, .ref x5)] rfl ?_
          refine s_goto C dL_law_2723 23 (by decide) ?_
          refine s_r ?_
          refine s_lv [3, 4, 5, 6, 0] rfl ?_
          exact hk7 (s6 + 4)
      · refine s_iconst (v := 0) C dL_law_967 (by decide) 968 rfl ?_
        refine s_r ?_
        rw [hx8]
        exact s_iret C rfl rfl dL_law_968
    refine s_tab C dL_law_39 12 (950) 989 (by decide) (by decide) rfl (by decide) ?_ (fun hc302 => ?_)
    · refine s_aload_n C dL_law_989 990 rfl 1 rfl ?_
      refine s_call_i (rn_V (As := []) C (ct_at hR hA (ct_on (ct_X1_modules g TA x1))) (rv_on C hR (q := vw_0) rfl) (lw_V q552 q522 q523 q101 q524) ⟨rfl, nv_X1_modules⟩ ⟨by decide, by decide⟩ rfl (bl rfl) dL_law_990) 993 rfl (fun x92 => ?_)
      refine s_aload_n C dL_law_993 994 rfl 2 rfl ?_
      refine s_call_i (rn_V (As := []) C (ct_at hR hA (ct_on (ct_X4_modules g TA x3))) (rv_on C hR (q := vw_12) rfl) (lw_V q2074 q2075 q2076 q112 q2077) ⟨rfl, nv_X4_modules⟩ ⟨by decide, by decide⟩ rfl (bl rfl) dL_law_994) 997 rfl (fun x93 => ?_)
      refine s_icmp_eq C dL_law_997 2720 1000 (by decide) rfl ?_ ?_
      · refine s_iinc C dL_law_2720 (s6 + 4) rfl 4 rfl (by decide) 2723 rfl [(4, .int (s6 + 4)), (0, .ref b), (1, .ref x1), (2, .ref x3), (3, .ref x5)] rfl ?_
        refine s_goto C dL_law_2723 23 (by decide) ?_
        refine s_r ?_
        refine s_lv [1, 2, 3, 4, 0] rfl ?_
        exact hk7 (s6 + 4)
      · refine s_iconst (v := 0) C dL_law_1000 (by decide) 1001 rfl ?_
        refine s_r ?_
        rw [hx8]
        exact s_iret C rfl rfl dL_law_1001
    refine s_tab C dL_law_39 13 (963) 1002 (by decide) (by decide) rfl (by decide) ?_ (fun hc303 => ?_)
    · refine s_aload_n C dL_law_1002 1003 rfl 1 rfl ?_
      refine s_aload_n C dL_law_1003 1004 rfl 0 rfl ?_
      refine s_iload C dL_law_1004 1006 rfl 4 rfl ?_
      refine s_iconst (v := 1) C dL_law_1006 (by decide) 1007 rfl ?_
      refine s_iadd C dL_law_1007 1008 rfl ?_
      refine s_sld C hX dL_law_1008 1009 rfl (fun x94 => ?_)
      refine s_aload_n C dL_law_1009 1010 rfl 3 rfl ?_
      refine s_call_i (rn_SH (As := [.ref x1, .int x94, .ref x5]) C (ch_at hR hA (ct_X0_kindOf htr g TA x1 x94 x5)) (lw_SW q1563 q1564 q100 q1565) nv_X0_kindOf ⟨by decide, by decide⟩ rfl (bl rfl) dL_law_1010) 1013 rfl (fun x95 => ?_)
      refine s_istore C dL_law_1013 (by decide) 1015 rfl [(5, .int x95), (0, .ref b), (1, .ref x1), (2, .ref x3), (3, .ref x5), (4, .int s6)] rfl ?_
      refine s_aload_n C dL_law_1015 1016 rfl 3 rfl ?_
      refine s_aload_n C dL_law_1016 1017 rfl 1 rfl ?_
      refine s_iload C dL_law_1017 1019 rfl 5 rfl ?_
      refine s_iconst (v := 1) C dL_law_1019 (by decide) 1020 rfl ?_
      refine s_iadd C dL_law_1020 1021 rfl ?_
      refine s_sld C hX dL_law_1021 1022 rfl (fun x96 => ?_)
      refine s_call_i (rn_V (As := [.int x96]) C (ct_at hR hA (ct_on (ct_X4_kindOf g TA x3 x96))) (rv_on C hR (q := vw_12) rfl) (lw_V q2082 q2083 q2084 q112 q2085) ⟨rfl, nv_X4_kindOf⟩ ⟨by decide, by decide⟩ rfl (bl rfl) dL_law_1022) 1025 rfl (fun x97 => ?_)
      refine s_istore C dL_law_1025 (by decide) 1027 rfl [(6, .int x97), (5, .int x95), (0, .ref b), (1, .ref x1), (2, .ref x3), (3, .ref x5), (4, .int s6)] rfl ?_
      refine s_aload_n C dL_law_1027 1028 rfl 4 rfl ?_
      refine s_call_i (rn_V (As := []) C (ct_at hR hA (ct_on (ct_X4_thrown g TA x3))) (rv_on C hR (q := vw_12) rfl) (lw_V q1869 q1870 q1871 q112 q1872) ⟨rfl, nv_X4_thrown⟩ ⟨by decide, by decide⟩ rfl (bl rfl) dL_law_1028) 1031 rfl (fun x98 => ?_)
      refine s_iload C dL_law_1031 1033 rfl 1 rfl ?_
      refine s_icmp_eq C dL_law_1033 1038 1036 (by decide) rfl ?_ ?_
      · refine s_iload C dL_law_1038 1040 rfl 1 rfl ?_
        refine s_if_ne C dL_law_1040 1055 1043 (by decide) rfl ?_ ?_
        · refine s_aload_n C dL_law_1043 1044 rfl 5 rfl ?_
          refine s_iconst (v := 0) C dL_law_1044 (by decide) 1045 rfl ?_
          refine s_lald C hR dL_law_1045 1046 rfl (fun x99 => ?_)
          refine s_iload C dL_law_1046 1048 rfl 0 rfl ?_
          refine s_i2l C dL_law_1048 1049 rfl ?_
          refine s_lcmp C dL_law_1049 1050 rfl ?_
          refine s_if_eq C dL_law_1050 1055 1053 (by decide) rfl ?_ ?_
          · refine s_goto C dL_law_1055 2720 (by decide) ?_
            refine s_iinc C dL_law_2720 (s6 + 4) rfl 6 rfl (by decide) 2723 rfl [(4, .int (s6 + 4)), (6, .int x97), (5, .int x95), (0, .ref b), (1, .ref x1), (2, .ref x3), (3, .ref x5)] rfl ?_
            refine s_goto C dL_law_2723 23 (by decide) ?_
            refine s_r ?_
            refine s_lv [3, 4, 5, 6, 0] rfl ?_
            exact hk7 (s6 + 4)
          · refine s_iconst (v := 0) C dL_law_1053 (by decide) 1054 rfl ?_
            refine s_r ?_
            rw [hx8]
            exact s_iret C rfl rfl dL_law_1054
        · refine s_goto C dL_law_1055 2720 (by decide) ?_
          refine s_iinc C dL_law_2720 (s6 + 4) rfl 6 rfl (by decide) 2723 rfl [(4, .int (s6 + 4)), (6, .int x97), (5, .int x95), (0, .ref b), (1, .ref x1), (2, .ref x3), (3, .ref x5)] rfl ?_
          refine s_goto C dL_law_2723 23 (by decide) ?_
          refine s_r ?_
          refine s_lv [3, 4, 5, 6, 0] rfl ?_
          exact hk7 (s6 + 4)
      · refine s_iconst (v := 0) C dL_law_1036 (by decide) 1037 rfl ?_
        refine s_r ?_
        rw [hx8]
        exact s_iret C rfl rfl dL_law_1037
    refine s_tab C dL_law_39 14 (1019) 1058 (by decide) (by decide) rfl (by decide) ?_ (fun hc304 => ?_)
    · refine s_aload_n C dL_law_1058 1059 rfl 1 rfl ?_
      refine s_aload_n C dL_law_1059 1060 rfl 0 rfl ?_
      refine s_iload C dL_law_1060 1062 rfl 4 rfl ?_
      refine s_iconst (v := 1) C dL_law_1062 (by decide) 1063 rfl ?_
      refine s_iadd C dL_law_1063 1064 rfl ?_
      refine s_sld C hX dL_law_1064 1065 rfl (fun x100 => ?_)
      refine s_aload_n C dL_law_1065 1066 rfl 3 rfl ?_
      refine s_call_i (rn_SH (As := [.ref x1, .int x100, .ref x5]) C (ch_at hR hA (ct_X0_inputsOf htr g TA x1 x100 x5)) (lw_SW q1570 q1571 q100 q1572) nv_X0_inputsOf ⟨by decide, by decide⟩ rfl (bl rfl) dL_law_1066) 1069 rfl (fun x101 => ?_)
      refine s_istore C dL_law_1069 (by decide) 1071 rfl [(5, .int x101), (0, .ref b), (1, .ref x1), (2, .ref x3), (3, .ref x5), (4, .int s6)] rfl ?_
      refine s_aload_n C dL_law_1071 1072 rfl 3 rfl ?_
      refine s_aload_n C dL_law_1072 1073 rfl 1 rfl ?_
      refine s_iload C dL_law_1073 1075 rfl 5 rfl ?_
      refine s_iconst (v := 1) C dL_law_1075 (by decide) 1076 rfl ?_
      refine s_iadd C dL_law_1076 1077 rfl ?_
      refine s_sld C hX dL_law_1077 1078 rfl (fun x102 => ?_)
      refine s_call_i (rn_V (As := [.int x102]) C (ct_at hR hA (ct_on (ct_X4_inputsOf g TA x3 x102))) (rv_on C hR (q := vw_12) rfl) (lw_V q2090 q2091 q2092 q112 q2093) ⟨rfl, nv_X4_inputsOf⟩ ⟨by decide, by decide⟩ rfl (bl rfl) dL_law_1078) 1081 rfl (fun x103 => ?_)
      refine s_istore C dL_law_1081 (by decide) 1083 rfl [(6, .int x103), (5, .int x101), (0, .ref b), (1, .ref x1), (2, .ref x3), (3, .ref x5), (4, .int s6)] rfl ?_
      refine s_aload_n C dL_law_1083 1084 rfl 4 rfl ?_
      refine s_call_i (rn_V (As := []) C (ct_at hR hA (ct_on (ct_X4_thrown g TA x3))) (rv_on C hR (q := vw_12) rfl) (lw_V q1869 q1870 q1871 q112 q1872) ⟨rfl, nv_X4_thrown⟩ ⟨by decide, by decide⟩ rfl (bl rfl) dL_law_1084) 1087 rfl (fun x104 => ?_)
      refine s_iload C dL_law_1087 1089 rfl 1 rfl ?_
      refine s_icmp_eq C dL_law_1089 1094 1092 (by decide) rfl ?_ ?_
      · refine s_iload C dL_law_1094 1096 rfl 1 rfl ?_
        refine s_if_ne C dL_law_1096 1111 1099 (by decide) rfl ?_ ?_
        · refine s_aload_n C dL_law_1099 1100 rfl 5 rfl ?_
          refine s_iconst (v := 0) C dL_law_1100 (by decide) 1101 rfl ?_
          refine s_lald C hR dL_law_1101 1102 rfl (fun x105 => ?_)
          refine s_iload C dL_law_1102 1104 rfl 0 rfl ?_
          refine s_i2l C dL_law_1104 1105 rfl ?_
          refine s_lcmp C dL_law_1105 1106 rfl ?_
          refine s_if_eq C dL_law_1106 1111 1109 (by decide) rfl ?_ ?_
          · refine s_goto C dL_law_1111 2720 (by decide) ?_
            refine s_iinc C dL_law_2720 (s6 + 4) rfl 6 rfl (by decide) 2723 rfl [(4, .int (s6 + 4)), (6, .int x103), (5, .int x101), (0, .ref b), (1, .ref x1), (2, .ref x3), (3, .ref x5)] rfl ?_
            refine s_goto C dL_law_2723 23 (by decide) ?_
            refine s_r ?_
            refine s_lv [3, 4, 5, 6, 0] rfl ?_
            exact hk7 (s6 + 4)
          · refine s_iconst (v := 0) C dL_law_1109 (by decide) 1110 rfl ?_
            refine s_r ?_
            rw [hx8]
            exact s_iret C rfl rfl dL_law_1110
        · refine s_goto C dL_law_1111 2720 (by decide) ?_
          refine s_iinc C dL_law_2720 (s6 + 4) rfl 6 rfl (by decide) 2723 rfl [(4, .int (s6 + 4)), (6, .int x103), (5, .int x101), (0, .ref b), (1, .ref x1), (2, .ref x3), (3, .ref x5)] rfl ?_
          refine s_goto C dL_law_2723 23 (by decide) ?_
          refine s_r ?_
          refine s_lv [3, 4, 5, 6, 0] rfl ?_
          exact hk7 (s6 + 4)
      · refine s_iconst (v := 0) C dL_law_1092 (by decide) 1093 rfl ?_
        refine s_r ?_
        rw [hx8]
        exact s_iret C rfl rfl dL_law_1093
    refine s_tab C dL_law_39 15 (1075) 1114 (by decide) (by decide) rfl (by decide) ?_ (fun hc305 => ?_)
    · refine s_aload_n C dL_law_1114 1115 rfl 1 rfl ?_
      refine s_aload_n C dL_law_1115 1116 rfl 0 rfl ?_
      refine s_iload C dL_law_1116 1118 rfl 4 rfl ?_
      refine s_iconst (v := 1) C dL_law_1118 (by decide) 1119 rfl ?_
      refine s_iadd C dL_law_1119 1120 rfl ?_
      refine s_sld C hX dL_law_1120 1121 rfl (fun x106 => ?_)
      refine s_aload_n C dL_law_1121 1122 rfl 0 rfl ?_
      refine s_iload C dL_law_1122 1124 rfl 4 rfl ?_
      refine s_iconst (v := 2) C dL_law_1124 (by decide) 1125 rfl ?_
      refine s_iadd C dL_law_1125 1126 rfl ?_
      refine s_sld C hX dL_law_1126 1127 rfl (fun x107 => ?_)
      refine s_aload_n C dL_law_1127 1128 rfl 3 rfl ?_
      refine s_call_i (rn_SH (As := [.ref x1, .int x106, .int x107, .ref x5]) C (ch_at hR hA (ct_X0_cordIn htr g TA x1 x106 x107 x5)) (lw_SW q1577 q1578 q100 q1579) nv_X0_cordIn ⟨by decide, by decide⟩ rfl (bl rfl) dL_law_1128) 1131 rfl (fun x108 => ?_)
      refine s_istore C dL_law_1131 (by decide) 1133 rfl [(5, .int x108), (0, .ref b), (1, .ref x1), (2, .ref x3), (3, .ref x5), (4, .int s6)] rfl ?_
      refine s_aload_n C dL_law_1133 1134 rfl 3 rfl ?_
      refine s_aload_n C dL_law_1134 1135 rfl 1 rfl ?_
      refine s_iload C dL_law_1135 1137 rfl 5 rfl ?_
      refine s_iconst (v := 1) C dL_law_1137 (by decide) 1138 rfl ?_
      refine s_iadd C dL_law_1138 1139 rfl ?_
      refine s_sld C hX dL_law_1139 1140 rfl (fun x109 => ?_)
      refine s_aload_n C dL_law_1140 1141 rfl 1 rfl ?_
      refine s_iload C dL_law_1141 1143 rfl 5 rfl ?_
      refine s_iconst (v := 2) C dL_law_1143 (by decide) 1144 rfl ?_
      refine s_iadd C dL_law_1144 1145 rfl ?_
      refine s_sld C hX dL_law_1145 1146 rfl (fun x110 => ?_)
      refine s_call_i (rn_V (As := [.int x109, .int x110]) C (ct_at hR hA (ct_on (ct_X4_cordIn g TA x3 x109 x110))) (rv_on C hR (q := vw_12) rfl) (lw_V q2094 q2095 q2096 q112 q2097) ⟨rfl, nv_X4_cordIn⟩ ⟨by decide, by decide⟩ rfl (bl rfl) dL_law_1146) 1149 rfl (fun x111 => ?_)
      refine s_istore C dL_law_1149 (by decide) 1151 rfl [(6, .int x111), (5, .int x108), (0, .ref b), (1, .ref x1), (2, .ref x3), (3, .ref x5), (4, .int s6)] rfl ?_
      refine s_aload_n C dL_law_1151 1152 rfl 4 rfl ?_
      refine s_call_i (rn_V (As := []) C (ct_at hR hA (ct_on (ct_X4_thrown g TA x3))) (rv_on C hR (q := vw_12) rfl) (lw_V q1869 q1870 q1871 q112 q1872) ⟨rfl, nv_X4_thrown⟩ ⟨by decide, by decide⟩ rfl (bl rfl) dL_law_1152) 1155 rfl (fun x112 => ?_)
      refine s_iload C dL_law_1155 1157 rfl 1 rfl ?_
      refine s_icmp_eq C dL_law_1157 1162 1160 (by decide) rfl ?_ ?_
      · refine s_iload C dL_law_1162 1164 rfl 1 rfl ?_
        refine s_if_ne C dL_law_1164 1179 1167 (by decide) rfl ?_ ?_
        · refine s_aload_n C dL_law_1167 1168 rfl 5 rfl ?_
          refine s_iconst (v := 0) C dL_law_1168 (by decide) 1169 rfl ?_
          refine s_lald C hR dL_law_1169 1170 rfl (fun x113 => ?_)
          refine s_iload C dL_law_1170 1172 rfl 0 rfl ?_
          refine s_i2l C dL_law_1172 1173 rfl ?_
          refine s_lcmp C dL_law_1173 1174 rfl ?_
          refine s_if_eq C dL_law_1174 1179 1177 (by decide) rfl ?_ ?_
          · refine s_goto C dL_law_1179 2720 (by decide) ?_
            refine s_iinc C dL_law_2720 (s6 + 4) rfl 6 rfl (by decide) 2723 rfl [(4, .int (s6 + 4)), (6, .int x111), (5, .int x108), (0, .ref b), (1, .ref x1), (2, .ref x3), (3, .ref x5)] rfl ?_
            refine s_goto C dL_law_2723 23 (by decide) ?_
            refine s_r ?_
            refine s_lv [3, 4, 5, 6, 0] rfl ?_
            exact hk7 (s6 + 4)
          · refine s_iconst (v := 0) C dL_law_1177 (by decide) 1178 rfl ?_
            refine s_r ?_
            rw [hx8]
            exact s_iret C rfl rfl dL_law_1178
        · refine s_goto C dL_law_1179 2720 (by decide) ?_
          refine s_iinc C dL_law_2720 (s6 + 4) rfl 6 rfl (by decide) 2723 rfl [(4, .int (s6 + 4)), (6, .int x111), (5, .int x108), (0, .ref b), (1, .ref x1), (2, .ref x3), (3, .ref x5)] rfl ?_
          refine s_goto C dL_law_2723 23 (by decide) ?_
          refine s_r ?_
          refine s_lv [3, 4, 5, 6, 0] rfl ?_
          exact hk7 (s6 + 4)
      · refine s_iconst (v := 0) C dL_law_1160 (by decide) 1161 rfl ?_
        refine s_r ?_
        rw [hx8]
        exact s_iret C rfl rfl dL_law_1161
    refine s_tab C dL_law_39 16 (1143) 1182 (by decide) (by decide) rfl (by decide) ?_ (fun hc306 => ?_)
    · refine s_aload_n C dL_law_1182 1183 rfl 1 rfl ?_
      refine s_aload_n C dL_law_1183 1184 rfl 0 rfl ?_
      refine s_iload C dL_law_1184 1186 rfl 4 rfl ?_
      refine s_iconst (v := 1) C dL_law_1186 (by decide) 1187 rfl ?_
      refine s_iadd C dL_law_1187 1188 rfl ?_
      refine s_sld C hX dL_law_1188 1189 rfl (fun x114 => ?_)
      refine s_aload_n C dL_law_1189 1190 rfl 0 rfl ?_
      refine s_iload C dL_law_1190 1192 rfl 4 rfl ?_
      refine s_iconst (v := 2) C dL_law_1192 (by decide) 1193 rfl ?_
      refine s_iadd C dL_law_1193 1194 rfl ?_
      refine s_sld C hX dL_law_1194 1195 rfl (fun x115 => ?_)
      refine s_aload_n C dL_law_1195 1196 rfl 3 rfl ?_
      refine s_call_i (rn_SH (As := [.ref x1, .int x114, .int x115, .ref x5]) C (ch_at hR hA (ct_X0_weightOf htr g TA x1 x114 x115 x5)) (lw_SW q1584 q1585 q100 q1586) nv_X0_weightOf ⟨by decide, by decide⟩ rfl (bl rfl) dL_law_1196) 1199 rfl (fun x116 => ?_)
      refine s_istore C dL_law_1199 (by decide) 1201 rfl [(5, .int x116), (0, .ref b), (1, .ref x1), (2, .ref x3), (3, .ref x5), (4, .int s6)] rfl ?_
      refine s_aload_n C dL_law_1201 1202 rfl 3 rfl ?_
      refine s_aload_n C dL_law_1202 1203 rfl 1 rfl ?_
      refine s_iload C dL_law_1203 1205 rfl 5 rfl ?_
      refine s_iconst (v := 1) C dL_law_1205 (by decide) 1206 rfl ?_
      refine s_iadd C dL_law_1206 1207 rfl ?_
      refine s_sld C hX dL_law_1207 1208 rfl (fun x117 => ?_)
      refine s_aload_n C dL_law_1208 1209 rfl 1 rfl ?_
      refine s_iload C dL_law_1209 1211 rfl 5 rfl ?_
      refine s_iconst (v := 2) C dL_law_1211 (by decide) 1212 rfl ?_
      refine s_iadd C dL_law_1212 1213 rfl ?_
      refine s_sld C hX dL_law_1213 1214 rfl (fun x118 => ?_)
      refine s_call_i (rn_V (As := [.int x117, .int x118]) C (ct_at hR hA (ct_on (ct_X4_weightOf g TA x3 x117 x118))) (rv_on C hR (q := vw_12) rfl) (lw_V q2102 q2103 q2104 q112 q2105) ⟨rfl, nv_X4_weightOf⟩ ⟨by decide, by decide⟩ rfl (bl rfl) dL_law_1214) 1217 rfl (fun x119 => ?_)
      refine s_istore C dL_law_1217 (by decide) 1219 rfl [(6, .int x119), (5, .int x116), (0, .ref b), (1, .ref x1), (2, .ref x3), (3, .ref x5), (4, .int s6)] rfl ?_
      refine s_aload_n C dL_law_1219 1220 rfl 4 rfl ?_
      refine s_call_i (rn_V (As := []) C (ct_at hR hA (ct_on (ct_X4_thrown g TA x3))) (rv_on C hR (q := vw_12) rfl) (lw_V q1869 q1870 q1871 q112 q1872) ⟨rfl, nv_X4_thrown⟩ ⟨by decide, by decide⟩ rfl (bl rfl) dL_law_1220) 1223 rfl (fun x120 => ?_)
      refine s_iload C dL_law_1223 1225 rfl 1 rfl ?_
      refine s_icmp_eq C dL_law_1225 1230 1228 (by decide) rfl ?_ ?_
      · refine s_iload C dL_law_1230 1232 rfl 1 rfl ?_
        refine s_if_ne C dL_law_1232 1247 1235 (by decide) rfl ?_ ?_
        · refine s_aload_n C dL_law_1235 1236 rfl 5 rfl ?_
          refine s_iconst (v := 0) C dL_law_1236 (by decide) 1237 rfl ?_
          refine s_lald C hR dL_law_1237 1238 rfl (fun x121 => ?_)
          refine s_iload C dL_law_1238 1240 rfl 0 rfl ?_
          refine s_i2l C dL_law_1240 1241 rfl ?_
          refine s_lcmp C dL_law_1241 1242 rfl ?_
          refine s_if_eq C dL_law_1242 1247 1245 (by decide) rfl ?_ ?_
          · refine s_goto C dL_law_1247 2720 (by decide) ?_
            refine s_iinc C dL_law_2720 (s6 + 4) rfl 6 rfl (by decide) 2723 rfl [(4, .int (s6 + 4)), (6, .int x119), (5, .int x116), (0, .ref b), (1, .ref x1), (2, .ref x3), (3, .ref x5)] rfl ?_
            refine s_goto C dL_law_2723 23 (by decide) ?_
            refine s_r ?_
            refine s_lv [3, 4, 5, 6, 0] rfl ?_
            exact hk7 (s6 + 4)
          · refine s_iconst (v := 0) C dL_law_1245 (by decide) 1246 rfl ?_
            refine s_r ?_
            rw [hx8]
            exact s_iret C rfl rfl dL_law_1246
        · refine s_goto C dL_law_1247 2720 (by decide) ?_
          refine s_iinc C dL_law_2720 (s6 + 4) rfl 6 rfl (by decide) 2723 rfl [(4, .int (s6 + 4)), (6, .int x119), (5, .int x116), (0, .ref b), (1, .ref x1), (2, .ref x3), (3, .ref x5)] rfl ?_
          refine s_goto C dL_law_2723 23 (by decide) ?_
          refine s_r ?_
          refine s_lv [3, 4, 5, 6, 0] rfl ?_
          exact hk7 (s6 + 4)
      · refine s_iconst (v := 0) C dL_law_1228 (by decide) 1229 rfl ?_
        refine s_r ?_
        rw [hx8]
        exact s_iret C rfl rfl dL_law_1229
    refine s_tab C dL_law_39 17 (1211) 1250 (by decide) (by decide) rfl (by decide) ?_ (fun hc307 => ?_)
    · refine s_aload_n C dL_law_1250 1251 rfl 1 rfl ?_
      refine s_aload_n C dL_law_1251 1252 rfl 0 rfl ?_
      refine s_iload C dL_law_1252 1254 rfl 4 rfl ?_
      refine s_iconst (v := 1) C dL_law_1254 (by decide) 1255 rfl ?_
      refine s_iadd C dL_law_1255 1256 rfl ?_
      refine s_sld C hX dL_law_1256 1257 rfl (fun x122 => ?_)
      refine s_aload_n C dL_law_1257 1258 rfl 3 rfl ?_
      refine s_call_i (rn_SH (As := [.ref x1, .int x122, .ref x5]) C (ch_at hR hA (ct_X0_settingOf htr g TA x1 x122 x5)) (lw_SW q1591 q1592 q100 q1593) nv_X0_settingOf ⟨by decide, by decide⟩ rfl (bl rfl) dL_law_1258) 1261 rfl (fun x123 => ?_)
      refine s_istore C dL_law_1261 (by decide) 1263 rfl [(5, .int x123), (0, .ref b), (1, .ref x1), (2, .ref x3), (3, .ref x5), (4, .int s6)] rfl ?_
      refine s_aload_n C dL_law_1263 1264 rfl 3 rfl ?_
      refine s_aload_n C dL_law_1264 1265 rfl 1 rfl ?_
      refine s_iload C dL_law_1265 1267 rfl 5 rfl ?_
      refine s_iconst (v := 1) C dL_law_1267 (by decide) 1268 rfl ?_
      refine s_iadd C dL_law_1268 1269 rfl ?_
      refine s_sld C hX dL_law_1269 1270 rfl (fun x124 => ?_)
      refine s_call_i (rn_V (As := [.int x124]) C (ct_at hR hA (ct_on (ct_X4_settingOf g TA x3 x124))) (rv_on C hR (q := vw_12) rfl) (lw_V q2106 q2107 q2108 q112 q2109) ⟨rfl, nv_X4_settingOf⟩ ⟨by decide, by decide⟩ rfl (bl rfl) dL_law_1270) 1273 rfl (fun x125 => ?_)
      refine s_istore C dL_law_1273 (by decide) 1275 rfl [(6, .int x125), (5, .int x123), (0, .ref b), (1, .ref x1), (2, .ref x3), (3, .ref x5), (4, .int s6)] rfl ?_
      refine s_aload_n C dL_law_1275 1276 rfl 4 rfl ?_
      refine s_call_i (rn_V (As := []) C (ct_at hR hA (ct_on (ct_X4_thrown g TA x3))) (rv_on C hR (q := vw_12) rfl) (lw_V q1869 q1870 q1871 q112 q1872) ⟨rfl, nv_X4_thrown⟩ ⟨by decide, by decide⟩ rfl (bl rfl) dL_law_1276) 1279 rfl (fun x126 => ?_)
      refine s_iload C dL_law_1279 1281 rfl 1 rfl ?_
      refine s_icmp_eq C dL_law_1281 1286 1284 (by decide) rfl ?_ ?_
      · refine s_iload C dL_law_1286 1288 rfl 1 rfl ?_
        refine s_if_ne C dL_law_1288 1303 1291 (by decide) rfl ?_ ?_
        · refine s_aload_n C dL_law_1291 1292 rfl 5 rfl ?_
          refine s_iconst (v := 0) C dL_law_1292 (by decide) 1293 rfl ?_
          refine s_lald C hR dL_law_1293 1294 rfl (fun x127 => ?_)
          refine s_iload C dL_law_1294 1296 rfl 0 rfl ?_
          refine s_i2l C dL_law_1296 1297 rfl ?_
          refine s_lcmp C dL_law_1297 1298 rfl ?_
          refine s_if_eq C dL_law_1298 1303 1301 (by decide) rfl ?_ ?_
          · refine s_goto C dL_law_1303 2720 (by decide) ?_
            refine s_iinc C dL_law_2720 (s6 + 4) rfl 6 rfl (by decide) 2723 rfl [(4, .int (s6 + 4)), (6, .int x125), (5, .int x123), (0, .ref b), (1, .ref x1), (2, .ref x3), (3, .ref x5)] rfl ?_
            refine s_goto C dL_law_2723 23 (by decide) ?_
            refine s_r ?_
            refine s_lv [3, 4, 5, 6, 0] rfl ?_
            exact hk7 (s6 + 4)
          · refine s_iconst (v := 0) C dL_law_1301 (by decide) 1302 rfl ?_
            refine s_r ?_
            rw [hx8]
            exact s_iret C rfl rfl dL_law_1302
        · refine s_goto C dL_law_1303 2720 (by decide) ?_
          refine s_iinc C dL_law_2720 (s6 + 4) rfl 6 rfl (by decide) 2723 rfl [(4, .int (s6 + 4)), (6, .int x125), (5, .int x123), (0, .ref b), (1, .ref x1), (2, .ref x3), (3, .ref x5)] rfl ?_
          refine s_goto C dL_law_2723 23 (by decide) ?_
          refine s_r ?_
          refine s_lv [3, 4, 5, 6, 0] rfl ?_
          exact hk7 (s6 + 4)
      · refine s_iconst (v := 0) C dL_law_1284 (by decide) 1285 rfl ?_
        refine s_r ?_
        rw [hx8]
        exact s_iret C rfl rfl dL_law_1285
    refine s_tab C dL_law_39 18 (1267) 1306 (by decide) (by decide) rfl (by decide) ?_ (fun hc308 => ?_)
    · refine s_aload_n C dL_law_1306 1307 rfl 1 rfl ?_
      refine s_aload_n C dL_law_1307 1308 rfl 0 rfl ?_
      refine s_iload C dL_law_1308 1310 rfl 4 rfl ?_
      refine s_iconst (v := 1) C dL_law_1310 (by decide) 1311 rfl ?_
      refine s_iadd C dL_law_1311 1312 rfl ?_
      refine s_sld C hX dL_law_1312 1313 rfl (fun x128 => ?_)
      refine s_aload_n C dL_law_1313 1314 rfl 3 rfl ?_
      refine s_call_i (rn_SH (As := [.ref x1, .int x128, .ref x5]) C (ch_at hR hA (ct_X0_speedOf htr g TA x1 x128 x5)) (lw_SW q1598 q1599 q100 q1600) nv_X0_speedOf ⟨by decide, by decide⟩ rfl (bl rfl) dL_law_1314) 1317 rfl (fun x129 => ?_)
      refine s_istore C dL_law_1317 (by decide) 1319 rfl [(5, .int x129), (0, .ref b), (1, .ref x1), (2, .ref x3), (3, .ref x5), (4, .int s6)] rfl ?_
      refine s_aload_n C dL_law_1319 1320 rfl 3 rfl ?_
      refine s_aload_n C dL_law_1320 1321 rfl 1 rfl ?_
      refine s_iload C dL_law_1321 1323 rfl 5 rfl ?_
      refine s_iconst (v := 1) C dL_law_1323 (by decide) 1324 rfl ?_
      refine s_iadd C dL_law_1324 1325 rfl ?_
      refine s_sld C hX dL_law_1325 1326 rfl (fun x130 => ?_)
      refine s_call_i (rn_V (As := [.int x130]) C (ct_at hR hA (ct_on (ct_X4_speedOf g TA x3 x130))) (rv_on C hR (q := vw_12) rfl) (lw_V q2110 q2111 q2112 q112 q2113) ⟨rfl, nv_X4_speedOf⟩ ⟨by decide, by decide⟩ rfl (bl rfl) dL_law_1326) 1329 rfl (fun x131 => ?_)
      refine s_istore C dL_law_1329 (by decide) 1331 rfl [(6, .int x131), (5, .int x129), (0, .ref b), (1, .ref x1), (2, .ref x3), (3, .ref x5), (4, .int s6)] rfl ?_
      refine s_aload_n C dL_law_1331 1332 rfl 4 rfl ?_
      refine s_call_i (rn_V (As := []) C (ct_at hR hA (ct_on (ct_X4_thrown g TA x3))) (rv_on C hR (q := vw_12) rfl) (lw_V q1869 q1870 q1871 q112 q1872) ⟨rfl, nv_X4_thrown⟩ ⟨by decide, by decide⟩ rfl (bl rfl) dL_law_1332) 1335 rfl (fun x132 => ?_)
      refine s_iload C dL_law_1335 1337 rfl 1 rfl ?_
      refine s_icmp_eq C dL_law_1337 1342 1340 (by decide) rfl ?_ ?_
      · refine s_iload C dL_law_1342 1344 rfl 1 rfl ?_
        refine s_if_ne C dL_law_1344 1359 1347 (by decide) rfl ?_ ?_
        · refine s_aload_n C dL_law_1347 1348 rfl 5 rfl ?_
          refine s_iconst (v := 0) C dL_law_1348 (by decide) 1349 rfl ?_
          refine s_lald C hR dL_law_1349 1350 rfl (fun x133 => ?_)
          refine s_iload C dL_law_1350 1352 rfl 0 rfl ?_
          refine s_i2l C dL_law_1352 1353 rfl ?_
          refine s_lcmp C dL_law_1353 1354 rfl ?_
          refine s_if_eq C dL_law_1354 1359 1357 (by decide) rfl ?_ ?_
          · refine s_goto C dL_law_1359 2720 (by decide) ?_
            refine s_iinc C dL_law_2720 (s6 + 4) rfl 6 rfl (by decide) 2723 rfl [(4, .int (s6 + 4)), (6, .int x131), (5, .int x129), (0, .ref b), (1, .ref x1), (2, .ref x3), (3, .ref x5)] rfl ?_
            refine s_goto C dL_law_2723 23 (by decide) ?_
            refine s_r ?_
            refine s_lv [3, 4, 5, 6, 0] rfl ?_
            exact hk7 (s6 + 4)
          · refine s_iconst (v := 0) C dL_law_1357 (by decide) 1358 rfl ?_
            refine s_r ?_
            rw [hx8]
            exact s_iret C rfl rfl dL_law_1358
        · refine s_goto C dL_law_1359 2720 (by decide) ?_
          refine s_iinc C dL_law_2720 (s6 + 4) rfl 6 rfl (by decide) 2723 rfl [(4, .int (s6 + 4)), (6, .int x131), (5, .int x129), (0, .ref b), (1, .ref x1), (2, .ref x3), (3, .ref x5)] rfl ?_
          refine s_goto C dL_law_2723 23 (by decide) ?_
          refine s_r ?_
          refine s_lv [3, 4, 5, 6, 0] rfl ?_
          exact hk7 (s6 + 4)
      · refine s_iconst (v := 0) C dL_law_1340 (by decide) 1341 rfl ?_
        refine s_r ?_
        rw [hx8]
        exact s_iret C rfl rfl dL_law_1341
    refine s_tab C dL_law_39 19 (1323) 1362 (by decide) (by decide) rfl (by decide) ?_ (fun hc309 => ?_)
    · refine s_aload_n C dL_law_1362 1363 rfl 1 rfl ?_
      refine s_call_i (rn_V (As := []) C (ct_at hR hA (ct_on (ct_X1_cords g TA x1))) (rv_on C hR (q := vw_0) rfl) (lw_V q553 q554 q555 q101 q556) ⟨rfl, nv_X1_cords⟩ ⟨by decide, by decide⟩ rfl (bl rfl) dL_law_1363) 1366 rfl (fun x134 => ?_)
      refine s_aload_n C dL_law_1366 1367 rfl 2 rfl ?_
      refine s_call_i (rn_V (As := []) C (ct_at hR hA (ct_on (ct_X4_cords g TA x3))) (rv_on C hR (q := vw_12) rfl) (lw_V q2118 q2119 q2120 q112 q2121) ⟨rfl, nv_X4_cords⟩ ⟨by decide, by decide⟩ rfl (bl rfl) dL_law_1367) 1370 rfl (fun x135 => ?_)
      refine s_icmp_eq C dL_law_1370 2720 1373 (by decide) rfl ?_ ?_
      · refine s_iinc C dL_law_2720 (s6 + 4) rfl 4 rfl (by decide) 2723 rfl [(4, .int (s6 + 4)), (0, .ref b), (1, .ref x1), (2, .ref x3), (3, .ref x5)] rfl ?_
        refine s_goto C dL_law_2723 23 (by decide) ?_
        refine s_r ?_
        refine s_lv [1, 2, 3, 4, 0] rfl ?_
        exact hk7 (s6 + 4)
      · refine s_iconst (v := 0) C dL_law_1373 (by decide) 1374 rfl ?_
        refine s_r ?_
        rw [hx8]
        exact s_iret C rfl rfl dL_law_1374
    refine s_tab C dL_law_39 20 (1336) 1375 (by decide) (by decide) rfl (by decide) ?_ (fun hc310 => ?_)
    · refine s_aload_n C dL_law_1375 1376 rfl 1 rfl ?_
      refine s_call_i (rn_V (As := []) C (ct_at hR hA (ct_on (ct_X1_mode g TA x1))) (rv_on C hR (q := vw_0) rfl) (lw_V q566 q567 q568 q101 q569) ⟨rfl, nv_X1_mode⟩ ⟨by decide, by decide⟩ rfl (bl rfl) dL_law_1376) 1379 rfl (fun x136 => ?_)
      refine s_aload_n C dL_law_1379 1380 rfl 2 rfl ?_
      refine s_call_i (rn_V (As := []) C (ct_at hR hA (ct_on (ct_X4_mode g TA x3))) (rv_on C hR (q := vw_12) rfl) (lw_V q2126 q2127 q2128 q112 q2129) ⟨rfl, nv_X4_mode⟩ ⟨by decide, by decide⟩ rfl (bl rfl) dL_law_1380) 1383 rfl (fun x137 => ?_)
      refine s_icmp_eq C dL_law_1383 2720 1386 (by decide) rfl ?_ ?_
      · refine s_iinc C dL_law_2720 (s6 + 4) rfl 4 rfl (by decide) 2723 rfl [(4, .int (s6 + 4)), (0, .ref b), (1, .ref x1), (2, .ref x3), (3, .ref x5)] rfl ?_
        refine s_goto C dL_law_2723 23 (by decide) ?_
        refine s_r ?_
        refine s_lv [1, 2, 3, 4, 0] rfl ?_
        exact hk7 (s6 + 4)
      · refine s_iconst (v := 0) C dL_law_1386 (by decide) 1387 rfl ?_
        refine s_r ?_
        rw [hx8]
        exact s_iret C rfl rfl dL_law_1387
    refine s_tab C dL_law_39 21 (1349) 1388 (by decide) (by decide) rfl (by decide) ?_ (fun hc311 => ?_)
    · refine s_aload_n C dL_law_1388 1389 rfl 1 rfl ?_
      refine s_call_i (rn_V (As := []) C (ct_at hR hA (ct_on (ct_X1_way g TA x1))) (rv_on C hR (q := vw_0) rfl) (lw_V q570 q571 q572 q101 q573) ⟨rfl, nv_X1_way⟩ ⟨by decide, by decide⟩ rfl (bl rfl) dL_law_1389) 1392 rfl (fun x138 => ?_)
      refine s_aload_n C dL_law_1392 1393 rfl 2 rfl ?_
      refine s_call_i (rn_V (As := []) C (ct_at hR hA (ct_on (ct_X4_way g TA x3))) (rv_on C hR (q := vw_12) rfl) (lw_V q2130 q2131 q2132 q112 q2133) ⟨rfl, nv_X4_way⟩ ⟨by decide, by decide⟩ rfl (bl rfl) dL_law_1393) 1396 rfl (fun x139 => ?_)
      refine s_icmp_eq C dL_law_1396 2720 1399 (by decide) rfl ?_ ?_
      · refine s_iinc C dL_law_2720 (s6 + 4) rfl 4 rfl (by decide) 2723 rfl [(4, .int (s6 + 4)), (0, .ref b), (1, .ref x1), (2, .ref x3), (3, .ref x5)] rfl ?_
        refine s_goto C dL_law_2723 23 (by decide) ?_
        refine s_r ?_
        refine s_lv [1, 2, 3, 4, 0] rfl ?_
        exact hk7 (s6 + 4)
      · refine s_iconst (v := 0) C dL_law_1399 (by decide) 1400 rfl ?_
        refine s_r ?_
        rw [hx8]
        exact s_iret C rfl rfl dL_law_1400
    refine s_tab C dL_law_39 22 (1362) 1401 (by decide) (by decide) rfl (by decide) ?_ (fun hc312 => ?_)
    · refine s_aload_n C dL_law_1401 1402 rfl 1 rfl ?_
      refine s_call_i (rn_V (As := []) C (ct_at hR hA (ct_on (ct_X1_isGuarded g TA x1))) (rv_on C hR (q := vw_0) rfl) (lw_V q581 q582 q583 q101 q584) ⟨rfl, nv_X1_isGuarded⟩ ⟨by decide, by decide⟩ rfl (bl rfl) dL_law_1402) 1405 rfl (fun x140 => ?_)
      refine s_aload_n C dL_law_1405 1406 rfl 2 rfl ?_
      refine s_call_i (rn_V (As := []) C (ct_at hR hA (ct_on (ct_X4_isGuarded g TA x3))) (rv_on C hR (q := vw_12) rfl) (lw_V q2134 q2135 q2136 q112 q2137) ⟨rfl, nv_X4_isGuarded⟩ ⟨by decide, by decide⟩ rfl (bl rfl) dL_law_1406) 1409 rfl (fun x141 => ?_)
      refine s_icmp_eq C dL_law_1409 2720 1412 (by decide) rfl ?_ ?_
      · refine s_iinc C dL_law_2720 (s6 + 4) rfl 4 rfl (by decide) 2723 rfl [(4, .int (s6 + 4)), (0, .ref b), (1, .ref x1), (2, .ref x3), (3, .ref x5)] rfl ?_
        refine s_goto C dL_law_2723 23 (by decide) ?_
        refine s_r ?_
        refine s_lv [1, 2, 3, 4, 0] rfl ?_
        exact hk7 (s6 + 4)
      · refine s_iconst (v := 0) C dL_law_1412 (by decide) 1413 rfl ?_
        refine s_r ?_
        rw [hx8]
        exact s_iret C rfl rfl dL_law_1413
    refine s_tab C dL_law_39 23 (1375) 1414 (by decide) (by decide) rfl (by decide) ?_ (fun hc313 => ?_)
    · refine s_aload_n C dL_law_1414 1415 rfl 1 rfl ?_
      refine s_call_i (rn_V (As := []) C (ct_at hR hA (ct_on (ct_X1_steps g TA x1))) (rv_on C hR (q := vw_0) rfl) (lw_V q585 q586 q587 q101 q588) ⟨rfl, nv_X1_steps⟩ ⟨by decide, by decide⟩ rfl (bl rfl) dL_law_1415) 1418 rfl (fun x142 => ?_)
      refine s_aload_n C dL_law_1418 1419 rfl 2 rfl ?_
      refine s_call_i (rn_V (As := []) C (ct_at hR hA (ct_on (ct_X4_steps g TA x3))) (rv_on C hR (q := vw_12) rfl) (lw_V q2138 q2139 q2140 q112 q2141) ⟨rfl, nv_X4_steps⟩ ⟨by decide, by decide⟩ rfl (bl rfl) dL_law_1419) 1422 rfl (fun x143 => ?_)
      refine s_icmp_eq C dL_law_1422 2720 1425 (by decide) rfl ?_ ?_
      · refine s_iinc C dL_law_2720 (s6 + 4) rfl 4 rfl (by decide) 2723 rfl [(4, .int (s6 + 4)), (0, .ref b), (1, .ref x1), (2, .ref x3), (3, .ref x5)] rfl ?_
        refine s_goto C dL_law_2723 23 (by decide) ?_
        refine s_r ?_
        refine s_lv [1, 2, 3, 4, 0] rfl ?_
        exact hk7 (s6 + 4)
      · refine s_iconst (v := 0) C dL_law_1425 (by decide) 1426 rfl ?_
        refine s_r ?_
        rw [hx8]
        exact s_iret C rfl rfl dL_law_1426
    refine s_tab C dL_law_39 24 (1388) 1427 (by decide) (by decide) rfl (by decide) ?_ (fun hc314 => ?_)
    · refine s_aload_n C dL_law_1427 1428 rfl 1 rfl ?_
      refine s_aload_n C dL_law_1428 1429 rfl 0 rfl ?_
      refine s_iload C dL_law_1429 1431 rfl 4 rfl ?_
      refine s_iconst (v := 1) C dL_law_1431 (by decide) 1432 rfl ?_
      refine s_iadd C dL_law_1432 1433 rfl ?_
      refine s_sld C hX dL_law_1433 1434 rfl (fun x144 => ?_)
      refine s_aload_n C dL_law_1434 1435 rfl 3 rfl ?_
      refine s_call_i (rn_SH (As := [.ref x1, .int x144, .ref x5]) C (ch_at hR hA (ct_X0_outputOf htr g TA x1 x144 x5)) (lw_SW q1605 q1606 q100 q1607) nv_X0_outputOf ⟨by decide, by decide⟩ rfl (bl rfl) dL_law_1435) 1438 rfl (fun x145 => ?_)
      refine s_istore C dL_law_1438 (by decide) 1440 rfl [(5, .int x145), (0, .ref b), (1, .ref x1), (2, .ref x3), (3, .ref x5), (4, .int s6)] rfl ?_
      refine s_aload_n C dL_law_1440 1441 rfl 3 rfl ?_
      refine s_aload_n C dL_law_1441 1442 rfl 1 rfl ?_
      refine s_iload C dL_law_1442 1444 rfl 5 rfl ?_
      refine s_iconst (v := 1) C dL_law_1444 (by decide) 1445 rfl ?_
      refine s_iadd C dL_law_1445 1446 rfl ?_
      refine s_sld C hX dL_law_1446 1447 rfl (fun x146 => ?_)
      refine s_call_i (rn_V (As := [.int x146]) C (ct_at hR hA (ct_on (ct_X4_outputOf g TA x3 x146))) (rv_on C hR (q := vw_12) rfl) (lw_V q2142 q2143 q2144 q112 q2145) ⟨rfl, nv_X4_outputOf⟩ ⟨by decide, by decide⟩ rfl (bl rfl) dL_law_1447) 1450 rfl (fun x147 => ?_)
      refine s_istore C dL_law_1450 (by decide) 1452 rfl [(6, .int x147), (5, .int x145), (0, .ref b), (1, .ref x1), (2, .ref x3), (3, .ref x5), (4, .int s6)] rfl ?_
      refine s_aload_n C dL_law_1452 1453 rfl 4 rfl ?_
      refine s_call_i (rn_V (As := []) C (ct_at hR hA (ct_on (ct_X4_thrown g TA x3))) (rv_on C hR (q := vw_12) rfl) (lw_V q1869 q1870 q1871 q112 q1872) ⟨rfl, nv_X4_thrown⟩ ⟨by decide, by decide⟩ rfl (bl rfl) dL_law_1453) 1456 rfl (fun x148 => ?_)
      refine s_iload C dL_law_1456 1458 rfl 1 rfl ?_
      refine s_icmp_eq C dL_law_1458 1463 1461 (by decide) rfl ?_ ?_
      · refine s_iload C dL_law_1463 1465 rfl 1 rfl ?_
        refine s_if_ne C dL_law_1465 1480 1468 (by decide) rfl ?_ ?_
        · refine s_aload_n C dL_law_1468 1469 rfl 5 rfl ?_
          refine s_iconst (v := 0) C dL_law_1469 (by decide) 1470 rfl ?_
          refine s_lald C hR dL_law_1470 1471 rfl (fun x149 => ?_)
          refine s_iload C dL_law_1471 1473 rfl 0 rfl ?_
          refine s_i2l C dL_law_1473 1474 rfl ?_
          refine s_lcmp C dL_law_1474 1475 rfl ?_
          refine s_if_eq C dL_law_1475 1480 1478 (by decide) rfl ?_ ?_
          · refine s_goto C dL_law_1480 2720 (by decide) ?_
            refine s_iinc C dL_law_2720 (s6 + 4) rfl 6 rfl (by decide) 2723 rfl [(4, .int (s6 + 4)), (6, .int x147), (5, .int x145), (0, .ref b), (1, .ref x1), (2, .ref x3), (3, .ref x5)] rfl ?_
            refine s_goto C dL_law_2723 23 (by decide) ?_
            refine s_r ?_
            refine s_lv [3, 4, 5, 6, 0] rfl ?_
            exact hk7 (s6 + 4)
          · refine s_iconst (v := 0) C dL_law_1478 (by decide) 1479 rfl ?_
            refine s_r ?_
            rw [hx8]
            exact s_iret C rfl rfl dL_law_1479
        · refine s_goto C dL_law_1480 2720 (by decide) ?_
          refine s_iinc C dL_law_2720 (s6 + 4) rfl 6 rfl (by decide) 2723 rfl [(4, .int (s6 + 4)), (6, .int x147), (5, .int x145), (0, .ref b), (1, .ref x1), (2, .ref x3), (3, .ref x5)] rfl ?_
          refine s_goto C dL_law_2723 23 (by decide) ?_
          refine s_r ?_
          refine s_lv [3, 4, 5, 6, 0] rfl ?_
          exact hk7 (s6 + 4)
      · refine s_iconst (v := 0) C dL_law_1461 (by decide) 1462 rfl ?_
        refine s_r ?_
        rw [hx8]
        exact s_iret C rfl rfl dL_law_1462
    refine s_tab C dL_law_39 25 (1444) 1483 (by decide) (by decide) rfl (by decide) ?_ (fun hc315 => ?_)
    · refine s_aload_n C dL_law_1483 1484 rfl 1 rfl ?_
      refine s_aload_n C dL_law_1484 1485 rfl 0 rfl ?_
      refine s_iload C dL_law_1485 1487 rfl 4 rfl ?_
      refine s_iconst (v := 1) C dL_law_1487 (by decide) 1488 rfl ?_
      refine s_iadd C dL_law_1488 1489 rfl ?_
      refine s_sld C hX dL_law_1489 1490 rfl (fun x150 => ?_)
      refine s_aload_n C dL_law_1490 1491 rfl 3 rfl ?_
      refine s_call_i (rn_SH (As := [.ref x1, .int x150, .ref x5]) C (ch_at hR hA (ct_X0_outputByAsking htr g TA x1 x150 x5)) (lw_SW q1616 q1617 q100 q1618) nv_X0_outputByAsking ⟨by decide, by decide⟩ rfl (bl rfl) dL_law_1491) 1494 rfl (fun x151 => ?_)
      refine s_istore C dL_law_1494 (by decide) 1496 rfl [(5, .int x151), (0, .ref b), (1, .ref x1), (2, .ref x3), (3, .ref x5), (4, .int s6)] rfl ?_
      refine s_aload_n C dL_law_1496 1497 rfl 3 rfl ?_
      refine s_aload_n C dL_law_1497 1498 rfl 1 rfl ?_
      refine s_iload C dL_law_1498 1500 rfl 5 rfl ?_
      refine s_iconst (v := 1) C dL_law_1500 (by decide) 1501 rfl ?_
      refine s_iadd C dL_law_1501 1502 rfl ?_
      refine s_sld C hX dL_law_1502 1503 rfl (fun x152 => ?_)
      refine s_call_i (rn_V (As := [.int x152]) C (ct_at hR hA (ct_on (ct_X4_outputByAsking g TA x3 x152))) (rv_on C hR (q := vw_12) rfl) (lw_V q2150 q2151 q2152 q112 q2153) ⟨rfl, nv_X4_outputByAsking⟩ ⟨by decide, by decide⟩ rfl (bl rfl) dL_law_1503) 1506 rfl (fun x153 => ?_)
      refine s_istore C dL_law_1506 (by decide) 1508 rfl [(6, .int x153), (5, .int x151), (0, .ref b), (1, .ref x1), (2, .ref x3), (3, .ref x5), (4, .int s6)] rfl ?_
      refine s_aload_n C dL_law_1508 1509 rfl 4 rfl ?_
      refine s_call_i (rn_V (As := []) C (ct_at hR hA (ct_on (ct_X4_thrown g TA x3))) (rv_on C hR (q := vw_12) rfl) (lw_V q1869 q1870 q1871 q112 q1872) ⟨rfl, nv_X4_thrown⟩ ⟨by decide, by decide⟩ rfl (bl rfl) dL_law_1509) 1512 rfl (fun x154 => ?_)
      refine s_iload C dL_law_1512 1514 rfl 1 rfl ?_
      refine s_icmp_eq C dL_law_1514 1519 1517 (by decide) rfl ?_ ?_
      · refine s_iload C dL_law_1519 1521 rfl 1 rfl ?_
        refine s_if_ne C dL_law_1521 1536 1524 (by decide) rfl ?_ ?_
        · refine s_aload_n C dL_law_1524 1525 rfl 5 rfl ?_
          refine s_iconst (v := 0) C dL_law_1525 (by decide) 1526 rfl ?_
          refine s_lald C hR dL_law_1526 1527 rfl (fun x155 => ?_)
          refine s_iload C dL_law_1527 1529 rfl 0 rfl ?_
          refine s_i2l C dL_law_1529 1530 rfl ?_
          refine s_lcmp C dL_law_1530 1531 rfl ?_
          refine s_if_eq C dL_law_1531 1536 1534 (by decide) rfl ?_ ?_
          · refine s_goto C dL_law_1536 2720 (by decide) ?_
            refine s_iinc C dL_law_2720 (s6 + 4) rfl 6 rfl (by decide) 2723 rfl [(4, .int (s6 + 4)), (6, .int x153), (5, .int x151), (0, .ref b), (1, .ref x1), (2, .ref x3), (3, .ref x5)] rfl ?_
            refine s_goto C dL_law_2723 23 (by decide) ?_
            refine s_r ?_
            refine s_lv [3, 4, 5, 6, 0] rfl ?_
            exact hk7 (s6 + 4)
          · refine s_iconst (v := 0) C dL_law_1534 (by decide) 1535 rfl ?_
            refine s_r ?_
            rw [hx8]
            exact s_iret C rfl rfl dL_law_1535
        · refine s_goto C dL_law_1536 2720 (by decide) ?_
          refine s_iinc C dL_law_2720 (s6 + 4) rfl 6 rfl (by decide) 2723 rfl [(4, .int (s6 + 4)), (6, .int x153), (5, .int x151), (0, .ref b), (1, .ref x1), (2, .ref x3), (3, .ref x5)] rfl ?_
          refine s_goto C dL_law_2723 23 (by decide) ?_
          refine s_r ?_
          refine s_lv [3, 4, 5, 6, 0] rfl ?_
          exact hk7 (s6 + 4)
      · refine s_iconst (v := 0) C dL_law_1517 (by decide) 1518 rfl ?_
        refine s_r ?_
        rw [hx8]
        exact s_iret C rfl rfl dL_law_1518
    refine s_tab C dL_law_39 26 (1500) 1539 (by decide) (by decide) rfl (by decide) ?_ (fun hc316 => ?_)
    · refine s_aload_n C dL_law_1539 1540 rfl 1 rfl ?_
      refine s_aload_n C dL_law_1540 1541 rfl 0 rfl ?_
      refine s_iload C dL_law_1541 1543 rfl 4 rfl ?_
      refine s_iconst (v := 1) C dL_law_1543 (by decide) 1544 rfl ?_
      refine s_iadd C dL_law_1544 1545 rfl ?_
      refine s_sld C hX dL_law_1545 1546 rfl (fun x156 => ?_)
      refine s_aload_n C dL_law_1546 1547 rfl 0 rfl ?_
      refine s_iload C dL_law_1547 1549 rfl 4 rfl ?_
      refine s_iconst (v := 2) C dL_law_1549 (by decide) 1550 rfl ?_
      refine s_iadd C dL_law_1550 1551 rfl ?_
      refine s_sld C hX dL_law_1551 1552 rfl (fun x157 => ?_)
      refine s_aload_n C dL_law_1552 1553 rfl 3 rfl ?_
      refine s_call_i (rn_SH (As := [.ref x1, .int x156, .int x157, .ref x5]) C (ch_at hR hA (ct_X0_inputOf htr g TA x1 x156 x157 x5)) (lw_SW q1632 q1633 q100 q1634) nv_X0_inputOf ⟨by decide, by decide⟩ rfl (bl rfl) dL_law_1553) 1556 rfl (fun x158 => ?_)
      refine s_istore C dL_law_1556 (by decide) 1558 rfl [(5, .int x158), (0, .ref b), (1, .ref x1), (2, .ref x3), (3, .ref x5), (4, .int s6)] rfl ?_
      refine s_aload_n C dL_law_1558 1559 rfl 3 rfl ?_
      refine s_aload_n C dL_law_1559 1560 rfl 1 rfl ?_
      refine s_iload C dL_law_1560 1562 rfl 5 rfl ?_
      refine s_iconst (v := 1) C dL_law_1562 (by decide) 1563 rfl ?_
      refine s_iadd C dL_law_1563 1564 rfl ?_
      refine s_sld C hX dL_law_1564 1565 rfl (fun x159 => ?_)
      refine s_aload_n C dL_law_1565 1566 rfl 1 rfl ?_
      refine s_iload C dL_law_1566 1568 rfl 5 rfl ?_
      refine s_iconst (v := 2) C dL_law_1568 (by decide) 1569 rfl ?_
      refine s_iadd C dL_law_1569 1570 rfl ?_
      refine s_sld C hX dL_law_1570 1571 rfl (fun x160 => ?_)
      refine s_call_i (rn_V (As := [.int x159, .int x160]) C (ct_at hR hA (ct_on (ct_X4_inputOf g TA x3 x159 x160))) (rv_on C hR (q := vw_12) rfl) (lw_V q2154 q2155 q2156 q112 q2157) ⟨rfl, nv_X4_inputOf⟩ ⟨by decide, by decide⟩ rfl (bl rfl) dL_law_1571) 1574 rfl (fun x161 => ?_)
      refine s_istore C dL_law_1574 (by decide) 1576 rfl [(6, .int x161), (5, .int x158), (0, .ref b), (1, .ref x1), (2, .ref x3), (3, .ref x5), (4, .int s6)] rfl ?_
      refine s_aload_n C dL_law_1576 1577 rfl 4 rfl ?_
      refine s_call_i (rn_V (As := []) C (ct_at hR hA (ct_on (ct_X4_thrown g TA x3))) (rv_on C hR (q := vw_12) rfl) (lw_V q1869 q1870 q1871 q112 q1872) ⟨rfl, nv_X4_thrown⟩ ⟨by decide, by decide⟩ rfl (bl rfl) dL_law_1577) 1580 rfl (fun x162 => ?_)
      refine s_iload C dL_law_1580 1582 rfl 1 rfl ?_
      refine s_icmp_eq C dL_law_1582 1587 1585 (by decide) rfl ?_ ?_
      · refine s_iload C dL_law_1587 1589 rfl 1 rfl ?_
        refine s_if_ne C dL_law_1589 1604 1592 (by decide) rfl ?_ ?_
        · refine s_aload_n C dL_law_1592 1593 rfl 5 rfl ?_
          refine s_iconst (v := 0) C dL_law_1593 (by decide) 1594 rfl ?_
          refine s_lald C hR dL_law_1594 1595 rfl (fun x163 => ?_)
          refine s_iload C dL_law_1595 1597 rfl 0 rfl ?_
          refine s_i2l C dL_law_1597 1598 rfl ?_
          refine s_lcmp C dL_law_1598 1599 rfl ?_
          refine s_if_eq C dL_law_1599 1604 1602 (by decide) rfl ?_ ?_
          · refine s_goto C dL_law_1604 2720 (by decide) ?_
            refine s_iinc C dL_law_2720 (s6 + 4) rfl 6 rfl (by decide) 2723 rfl [(4, .int (s6 + 4)), (6, .int x161), (5, .int x158), (0, .ref b), (1, .ref x1), (2, .ref x3), (3, .ref x5)] rfl ?_
            refine s_goto C dL_law_2723 23 (by decide) ?_
            refine s_r ?_
            refine s_lv [3, 4, 5, 6, 0] rfl ?_
            exact hk7 (s6 + 4)
          · refine s_iconst (v := 0) C dL_law_1602 (by decide) 1603 rfl ?_
            refine s_r ?_
            rw [hx8]
            exact s_iret C rfl rfl dL_law_1603
        · refine s_goto C dL_law_1604 2720 (by decide) ?_
          refine s_iinc C dL_law_2720 (s6 + 4) rfl 6 rfl (by decide) 2723 rfl [(4, .int (s6 + 4)), (6, .int x161), (5, .int x158), (0, .ref b), (1, .ref x1), (2, .ref x3), (3, .ref x5)] rfl ?_
          refine s_goto C dL_law_2723 23 (by decide) ?_
          refine s_r ?_
          refine s_lv [3, 4, 5, 6, 0] rfl ?_
          exact hk7 (s6 + 4)
      · refine s_iconst (v := 0) C dL_law_1585 (by decide) 1586 rfl ?_
        refine s_r ?_
        rw [hx8]
        exact s_iret C rfl rfl dL_law_1586
    refine s_tab C dL_law_39 27 (1568) 1607 (by decide) (by decide) rfl (by decide) ?_ (fun hc317 => ?_)
    · refine s_aload_n C dL_law_1607 1608 rfl 1 rfl ?_
      refine s_aload_n C dL_law_1608 1609 rfl 0 rfl ?_
      refine s_iload C dL_law_1609 1611 rfl 4 rfl ?_
      refine s_iconst (v := 1) C dL_law_1611 (by decide) 1612 rfl ?_
      refine s_iadd C dL_law_1612 1613 rfl ?_
      refine s_sld C hX dL_law_1613 1614 rfl (fun x164 => ?_)
      refine s_aload_n C dL_law_1614 1615 rfl 3 rfl ?_
      refine s_call_i (rn_SH (As := [.ref x1, .int x164, .ref x5]) C (ch_at hR hA (ct_X0_chargeOf htr g TA x1 x164 x5)) (lw_SW q1643 q1644 q100 q1645) nv_X0_chargeOf ⟨by decide, by decide⟩ rfl (bl rfl) dL_law_1615) 1618 rfl (fun x165 => ?_)
      refine s_istore C dL_law_1618 (by decide) 1620 rfl [(5, .int x165), (0, .ref b), (1, .ref x1), (2, .ref x3), (3, .ref x5), (4, .int s6)] rfl ?_
      refine s_aload_n C dL_law_1620 1621 rfl 3 rfl ?_
      refine s_aload_n C dL_law_1621 1622 rfl 1 rfl ?_
      refine s_iload C dL_law_1622 1624 rfl 5 rfl ?_
      refine s_iconst (v := 1) C dL_law_1624 (by decide) 1625 rfl ?_
      refine s_iadd C dL_law_1625 1626 rfl ?_
      refine s_sld C hX dL_law_1626 1627 rfl (fun x166 => ?_)
      refine s_call_i (rn_V (As := [.int x166]) C (ct_at hR hA (ct_on (ct_X4_chargeOf g TA x3 x166))) (rv_on C hR (q := vw_12) rfl) (lw_V q2162 q2163 q2164 q112 q2165) ⟨rfl, nv_X4_chargeOf⟩ ⟨by decide, by decide⟩ rfl (bl rfl) dL_law_1627) 1630 rfl (fun x167 => ?_)
      refine s_istore C dL_law_1630 (by decide) 1632 rfl [(6, .int x167), (5, .int x165), (0, .ref b), (1, .ref x1), (2, .ref x3), (3, .ref x5), (4, .int s6)] rfl ?_
      refine s_aload_n C dL_law_1632 1633 rfl 4 rfl ?_
      refine s_call_i (rn_V (As := []) C (ct_at hR hA (ct_on (ct_X4_thrown g TA x3))) (rv_on C hR (q := vw_12) rfl) (lw_V q1869 q1870 q1871 q112 q1872) ⟨rfl, nv_X4_thrown⟩ ⟨by decide, by decide⟩ rfl (bl rfl) dL_law_1633) 1636 rfl (fun x168 => ?_)
      refine s_iload C dL_law_1636 1638 rfl 1 rfl ?_
      refine s_icmp_eq C dL_law_1638 1643 1641 (by decide) rfl ?_ ?_
      · refine s_iload C dL_law_1643 1645 rfl 1 rfl ?_
        refine s_if_ne C dL_law_1645 1660 1648 (by decide) rfl ?_ ?_
        · refine s_aload_n C dL_law_1648 1649 rfl 5 rfl ?_
          refine s_iconst (v := 0) C dL_law_1649 (by decide) 1650 rfl ?_
          refine s_lald C hR dL_law_1650 1651 rfl (fun x169 => ?_)
          refine s_iload C dL_law_1651 1653 rfl 0 rfl ?_
          refine s_i2l C dL_law_1653 1654 rfl ?_
          refine s_lcmp C dL_law_1654 1655 rfl ?_
          refine s_if_eq C dL_law_1655 1660 1658 (by decide) rfl ?_ ?_
          · refine s_goto C dL_law_1660 2720 (by decide) ?_
            refine s_iinc C dL_law_2720 (s6 + 4) rfl 6 rfl (by decide) 2723 rfl [(4, .int (s6 + 4)), (6, .int x167), (5, .int x165), (0, .ref b), (1, .ref x1), (2, .ref x3), (3, .ref x5)] rfl ?_
            refine s_goto C dL_law_2723 23 (by decide) ?_
            refine s_r ?_
            refine s_lv [3, 4, 5, 6, 0] rfl ?_
            exact hk7 (s6 + 4)
          · refine s_iconst (v := 0) C dL_law_1658 (by decide) 1659 rfl ?_
            refine s_r ?_
            rw [hx8]
            exact s_iret C rfl rfl dL_law_1659
        · refine s_goto C dL_law_1660 2720 (by decide) ?_
          refine s_iinc C dL_law_2720 (s6 + 4) rfl 6 rfl (by decide) 2723 rfl [(4, .int (s6 + 4)), (6, .int x167), (5, .int x165), (0, .ref b), (1, .ref x1), (2, .ref x3), (3, .ref x5)] rfl ?_
          refine s_goto C dL_law_2723 23 (by decide) ?_
          refine s_r ?_
          refine s_lv [3, 4, 5, 6, 0] rfl ?_
          exact hk7 (s6 + 4)
      · refine s_iconst (v := 0) C dL_law_1641 (by decide) 1642 rfl ?_
        refine s_r ?_
        rw [hx8]
        exact s_iret C rfl rfl dL_law_1642
    refine s_tab C dL_law_39 28 (1624) 1663 (by decide) (by decide) rfl (by decide) ?_ (fun hc318 => ?_)
    · refine s_aload_n C dL_law_1663 1664 rfl 1 rfl ?_
      refine s_aload_n C dL_law_1664 1665 rfl 0 rfl ?_
      refine s_iload C dL_law_1665 1667 rfl 4 rfl ?_
      refine s_iconst (v := 1) C dL_law_1667 (by decide) 1668 rfl ?_
      refine s_iadd C dL_law_1668 1669 rfl ?_
      refine s_sld C hX dL_law_1669 1670 rfl (fun x170 => ?_)
      refine s_aload_n C dL_law_1670 1671 rfl 3 rfl ?_
      refine s_call_i (rn_SH (As := [.ref x1, .int x170, .ref x5]) C (ch_at hR hA (ct_X0_rateOf htr g TA x1 x170 x5)) (lw_SW q1650 q1651 q100 q1652) nv_X0_rateOf ⟨by decide, by decide⟩ rfl (bl rfl) dL_law_1671) 1674 rfl (fun x171 => ?_)
      refine s_istore C dL_law_1674 (by decide) 1676 rfl [(5, .int x171), (0, .ref b), (1, .ref x1), (2, .ref x3), (3, .ref x5), (4, .int s6)] rfl ?_
      refine s_aload_n C dL_law_1676 1677 rfl 3 rfl ?_
      refine s_aload_n C dL_law_1677 1678 rfl 1 rfl ?_
      refine s_iload C dL_law_1678 1680 rfl 5 rfl ?_
      refine s_iconst (v := 1) C dL_law_1680 (by decide) 1681 rfl ?_
      refine s_iadd C dL_law_1681 1682 rfl ?_
      refine s_sld C hX dL_law_1682 1683 rfl (fun x172 => ?_)
      refine s_call_i (rn_V (As := [.int x172]) C (ct_at hR hA (ct_on (ct_X4_rateOf g TA x3 x172))) (rv_on C hR (q := vw_12) rfl) (lw_V q2166 q2167 q2168 q112 q2169) ⟨rfl, nv_X4_rateOf⟩ ⟨by decide, by decide⟩ rfl (bl rfl) dL_law_1683) 1686 rfl (fun x173 => ?_)
      refine s_istore C dL_law_1686 (by decide) 1688 rfl [(6, .int x173), (5, .int x171), (0, .ref b), (1, .ref x1), (2, .ref x3), (3, .ref x5), (4, .int s6)] rfl ?_
      refine s_aload_n C dL_law_1688 1689 rfl 4 rfl ?_
      refine s_call_i (rn_V (As := []) C (ct_at hR hA (ct_on (ct_X4_thrown g TA x3))) (rv_on C hR (q := vw_12) rfl) (lw_V q1869 q1870 q1871 q112 q1872) ⟨rfl, nv_X4_thrown⟩ ⟨by decide, by decide⟩ rfl (bl rfl) dL_law_1689) 1692 rfl (fun x174 => ?_)
      refine s_iload C dL_law_1692 1694 rfl 1 rfl ?_
      refine s_icmp_eq C dL_law_1694 1699 1697 (by decide) rfl ?_ ?_
      · refine s_iload C dL_law_1699 1701 rfl 1 rfl ?_
        refine s_if_ne C dL_law_1701 1716 1704 (by decide) rfl ?_ ?_
        · refine s_aload_n C dL_law_1704 1705 rfl 5 rfl ?_
          refine s_iconst (v := 0) C dL_law_1705 (by decide) 1706 rfl ?_
          refine s_lald C hR dL_law_1706 1707 rfl (fun x175 => ?_)
          refine s_iload C dL_law_1707 1709 rfl 0 rfl ?_
          refine s_i2l C dL_law_1709 1710 rfl ?_
          refine s_lcmp C dL_law_1710 1711 rfl ?_
          refine s_if_eq C dL_law_1711 1716 1714 (by decide) rfl ?_ ?_
          · refine s_goto C dL_law_1716 2720 (by decide) ?_
            refine s_iinc C dL_law_2720 (s6 + 4) rfl 6 rfl (by decide) 2723 rfl [(4, .int (s6 + 4)), (6, .int x173), (5, .int x171), (0, .ref b), (1, .ref x1), (2, .ref x3), (3, .ref x5)] rfl ?_
            refine s_goto C dL_law_2723 23 (by decide) ?_
            refine s_r ?_
            refine s_lv [3, 4, 5, 6, 0] rfl ?_
            exact hk7 (s6 + 4)
          · refine s_iconst (v := 0) C dL_law_1714 (by decide) 1715 rfl ?_
            refine s_r ?_
            rw [hx8]
            exact s_iret C rfl rfl dL_law_1715
        · refine s_goto C dL_law_1716 2720 (by decide) ?_
          refine s_iinc C dL_law_2720 (s6 + 4) rfl 6 rfl (by decide) 2723 rfl [(4, .int (s6 + 4)), (6, .int x173), (5, .int x171), (0, .ref b), (1, .ref x1), (2, .ref x3), (3, .ref x5)] rfl ?_
          refine s_goto C dL_law_2723 23 (by decide) ?_
          refine s_r ?_
          refine s_lv [3, 4, 5, 6, 0] rfl ?_
          exact hk7 (s6 + 4)
      · refine s_iconst (v := 0) C dL_law_1697 (by decide) 1698 rfl ?_
        refine s_r ?_
        rw [hx8]
        exact s_iret C rfl rfl dL_law_1698
    refine s_tab C dL_law_39 29 (1680) 1719 (by decide) (by decide) rfl (by decide) ?_ (fun hc319 => ?_)
    · refine s_aload_n C dL_law_1719 1720 rfl 1 rfl ?_
      refine s_call_i (rn_V (As := []) C (ct_at hR hA (ct_on (ct_X1_overloaded g TA x1))) (rv_on C hR (q := vw_0) rfl) (lw_V q589 q590 q591 q101 q592) ⟨rfl, nv_X1_overloaded⟩ ⟨by decide, by decide⟩ rfl (bl rfl) dL_law_1720) 1723 rfl (fun x176 => ?_)
      refine s_aload_n C dL_law_1723 1724 rfl 2 rfl ?_
      refine s_call_i (rn_V (As := []) C (ct_at hR hA (ct_on (ct_X4_overloaded g TA x3))) (rv_on C hR (q := vw_12) rfl) (lw_V q2174 q2175 q2176 q112 q2177) ⟨rfl, nv_X4_overloaded⟩ ⟨by decide, by decide⟩ rfl (bl rfl) dL_law_1724) 1727 rfl (fun x177 => ?_)
      refine s_icmp_eq C dL_law_1727 2720 1730 (by decide) rfl ?_ ?_
      · refine s_iinc C dL_law_2720 (s6 + 4) rfl 4 rfl (by decide) 2723 rfl [(4, .int (s6 + 4)), (0, .ref b), (1, .ref x1), (2, .ref x3), (3, .ref x5)] rfl ?_
        refine s_goto C dL_law_2723 23 (by decide) ?_
        refine s_r ?_
        refine s_lv [1, 2, 3, 4, 0] rfl ?_
        exact hk7 (s6 + 4)
      · refine s_iconst (v := 0) C dL_law_1730 (by decide) 1731 rfl ?_
        refine s_r ?_
        rw [hx8]
        exact s_iret C rfl rfl dL_law_1731
    refine s_tab C dL_law_39 30 (1693) 1732 (by decide) (by decide) rfl (by decide) ?_ (fun hc320 => ?_)
    · refine s_aload_n C dL_law_1732 1733 rfl 1 rfl ?_
      refine s_aload_n C dL_law_1733 1734 rfl 0 rfl ?_
      refine s_iload C dL_law_1734 1736 rfl 4 rfl ?_
      refine s_iconst (v := 1) C dL_law_1736 (by decide) 1737 rfl ?_
      refine s_iadd C dL_law_1737 1738 rfl ?_
      refine s_sld C hX dL_law_1738 1739 rfl (fun x178 => ?_)
      refine s_aload_n C dL_law_1739 1740 rfl 3 rfl ?_
      refine s_call_i (rn_SH (As := [.ref x1, .int x178, .ref x5]) C (ch_at hR hA (ct_X0_peakOf htr g TA x1 x178 x5)) (lw_SW q1657 q1658 q100 q1659) nv_X0_peakOf ⟨by decide, by decide⟩ rfl (bl rfl) dL_law_1740) 1743 rfl (fun x179 => ?_)
      refine s_istore C dL_law_1743 (by decide) 1745 rfl [(5, .int x179), (0, .ref b), (1, .ref x1), (2, .ref x3), (3, .ref x5), (4, .int s6)] rfl ?_
      refine s_aload_n C dL_law_1745 1746 rfl 3 rfl ?_
      refine s_aload_n C dL_law_1746 1747 rfl 1 rfl ?_
      refine s_iload C dL_law_1747 1749 rfl 5 rfl ?_
      refine s_iconst (v := 1) C dL_law_1749 (by decide) 1750 rfl ?_
      refine s_iadd C dL_law_1750 1751 rfl ?_
      refine s_sld C hX dL_law_1751 1752 rfl (fun x180 => ?_)
      refine s_call_i (rn_V (As := [.int x180]) C (ct_at hR hA (ct_on (ct_X4_peakOf g TA x3 x180))) (rv_on C hR (q := vw_12) rfl) (lw_V q2182 q2183 q2184 q112 q2185) ⟨rfl, nv_X4_peakOf⟩ ⟨by decide, by decide⟩ rfl (bl rfl) dL_law_1752) 1755 rfl (fun x181 => ?_)
      refine s_istore C dL_law_1755 (by decide) 1757 rfl [(6, .int x181), (5, .int x179), (0, .ref b), (1, .ref x1), (2, .ref x3), (3, .ref x5), (4, .int s6)] rfl ?_
      refine s_aload_n C dL_law_1757 1758 rfl 4 rfl ?_
      refine s_call_i (rn_V (As := []) C (ct_at hR hA (ct_on (ct_X4_thrown g TA x3))) (rv_on C hR (q := vw_12) rfl) (lw_V q1869 q1870 q1871 q112 q1872) ⟨rfl, nv_X4_thrown⟩ ⟨by decide, by decide⟩ rfl (bl rfl) dL_law_1758) 1761 rfl (fun x182 => ?_)
      refine s_iload C dL_law_1761 1763 rfl 1 rfl ?_
      refine s_icmp_eq C dL_law_1763 1768 1766 (by decide) rfl ?_ ?_
      · refine s_iload C dL_law_1768 1770 rfl 1 rfl ?_
        refine s_if_ne C dL_law_1770 1785 1773 (by decide) rfl ?_ ?_
        · refine s_aload_n C dL_law_1773 1774 rfl 5 rfl ?_
          refine s_iconst (v := 0) C dL_law_1774 (by decide) 1775 rfl ?_
          refine s_lald C hR dL_law_1775 1776 rfl (fun x183 => ?_)
          refine s_iload C dL_law_1776 1778 rfl 0 rfl ?_
          refine s_i2l C dL_law_1778 1779 rfl ?_
          refine s_lcmp C dL_law_1779 1780 rfl ?_
          refine s_if_eq C dL_law_1780 1785 1783 (by decide) rfl ?_ ?_
          · refine s_goto C dL_law_1785 2720 (by decide) ?_
            refine s_iinc C dL_law_2720 (s6 + 4) rfl 6 rfl (by decide) 2723 rfl [(4, .int (s6 + 4)), (6, .int x181), (5, .int x179), (0, .ref b), (1, .ref x1), (2, .ref x3), (3, .ref x5)] rfl ?_
            refine s_goto C dL_law_2723 23 (by decide) ?_
            refine s_r ?_
            refine s_lv [3, 4, 5, 6, 0] rfl ?_
            exact hk7 (s6 + 4)
          · refine s_iconst (v := 0) C dL_law_1783 (by decide) 1784 rfl ?_
            refine s_r ?_
            rw [hx8]
            exact s_iret C rfl rfl dL_law_1784
        · refine s_goto C dL_law_1785 2720 (by decide) ?_
          refine s_iinc C dL_law_2720 (s6 + 4) rfl 6 rfl (by decide) 2723 rfl [(4, .int (s6 + 4)), (6, .int x181), (5, .int x179), (0, .ref b), (1, .ref x1), (2, .ref x3), (3, .ref x5)] rfl ?_
          refine s_goto C dL_law_2723 23 (by decide) ?_
          refine s_r ?_
          refine s_lv [3, 4, 5, 6, 0] rfl ?_
          exact hk7 (s6 + 4)
      · refine s_iconst (v := 0) C dL_law_1766 (by decide) 1767 rfl ?_
        refine s_r ?_
        rw [hx8]
        exact s_iret C rfl rfl dL_law_1767
    refine s_tab C dL_law_39 31 (1749) 1788 (by decide) (by decide) rfl (by decide) ?_ (fun hc321 => ?_)
    · refine s_aload_n C dL_law_1788 1789 rfl 1 rfl ?_
      refine s_aload_n C dL_law_1789 1790 rfl 0 rfl ?_
      refine s_iload C dL_law_1790 1792 rfl 4 rfl ?_
      refine s_iconst (v := 1) C dL_law_1792 (by decide) 1793 rfl ?_
      refine s_iadd C dL_law_1793 1794 rfl ?_
      refine s_sld C hX dL_law_1794 1795 rfl (fun x184 => ?_)
      refine s_aload_n C dL_law_1795 1796 rfl 3 rfl ?_
      refine s_call_i (rn_SH (As := [.ref x1, .int x184, .ref x5]) C (ch_at hR hA (ct_X0_scaleOf htr g TA x1 x184 x5)) (lw_SW q1664 q1665 q100 q1666) nv_X0_scaleOf ⟨by decide, by decide⟩ rfl (bl rfl) dL_law_1796) 1799 rfl (fun x185 => ?_)
      refine s_istore C dL_law_1799 (by decide) 1801 rfl [(5, .int x185), (0, .ref b), (1, .ref x1), (2, .ref x3), (3, .ref x5), (4, .int s6)] rfl ?_
      refine s_aload_n C dL_law_1801 1802 rfl 3 rfl ?_
      refine s_aload_n C dL_law_1802 1803 rfl 1 rfl ?_
      refine s_iload C dL_law_1803 1805 rfl 5 rfl ?_
      refine s_iconst (v := 1) C dL_law_1805 (by decide) 1806 rfl ?_
      refine s_iadd C dL_law_1806 1807 rfl ?_
      refine s_sld C hX dL_law_1807 1808 rfl (fun x186 => ?_)
      refine s_call_i (rn_V (As := [.int x186]) C (ct_at hR hA (ct_on (ct_X4_scaleOf g TA x3 x186))) (rv_on C hR (q := vw_12) rfl) (lw_V q2186 q2187 q2188 q112 q2189) ⟨rfl, nv_X4_scaleOf⟩ ⟨by decide, by decide⟩ rfl (bl rfl) dL_law_1808) 1811 rfl (fun x187 => ?_)
      refine s_istore C dL_law_1811 (by decide) 1813 rfl [(6, .int x187), (5, .int x185), (0, .ref b), (1, .ref x1), (2, .ref x3), (3, .ref x5), (4, .int s6)] rfl ?_
      refine s_aload_n C dL_law_1813 1814 rfl 4 rfl ?_
      refine s_call_i (rn_V (As := []) C (ct_at hR hA (ct_on (ct_X4_thrown g TA x3))) (rv_on C hR (q := vw_12) rfl) (lw_V q1869 q1870 q1871 q112 q1872) ⟨rfl, nv_X4_thrown⟩ ⟨by decide, by decide⟩ rfl (bl rfl) dL_law_1814) 1817 rfl (fun x188 => ?_)
      refine s_iload C dL_law_1817 1819 rfl 1 rfl ?_
      refine s_icmp_eq C dL_law_1819 1824 1822 (by decide) rfl ?_ ?_
      · refine s_iload C dL_law_1824 1826 rfl 1 rfl ?_
        refine s_if_ne C dL_law_1826 1841 1829 (by decide) rfl ?_ ?_
        · refine s_aload_n C dL_law_1829 1830 rfl 5 rfl ?_
          refine s_iconst (v := 0) C dL_law_1830 (by decide) 1831 rfl ?_
          refine s_lald C hR dL_law_1831 1832 rfl (fun x189 => ?_)
          refine s_iload C dL_law_1832 1834 rfl 0 rfl ?_
          refine s_i2l C dL_law_1834 1835 rfl ?_
          refine s_lcmp C dL_law_1835 1836 rfl ?_
          refine s_if_eq C dL_law_1836 1841 1839 (by decide) rfl ?_ ?_
          · refine s_goto C dL_law_1841 2720 (by decide) ?_
            refine s_iinc C dL_law_2720 (s6 + 4) rfl 6 rfl (by decide) 2723 rfl [(4, .int (s6 + 4)), (6, .int x187), (5, .int x185), (0, .ref b), (1, .ref x1), (2, .ref x3), (3, .ref x5)] rfl ?_
            refine s_goto C dL_law_2723 23 (by decide) ?_
            refine s_r ?_
            refine s_lv [3, 4, 5, 6, 0] rfl ?_
            exact hk7 (s6 + 4)
          · refine s_iconst (v := 0) C dL_law_1839 (by decide) 1840 rfl ?_
            refine s_r ?_
            rw [hx8]
            exact s_iret C rfl rfl dL_law_1840
        · refine s_goto C dL_law_1841 2720 (by decide) ?_
          refine s_iinc C dL_law_2720 (s6 + 4) rfl 6 rfl (by decide) 2723 rfl [(4, .int (s6 + 4)), (6, .int x187), (5, .int x185), (0, .ref b), (1, .ref x1), (2, .ref x3), (3, .ref x5)] rfl ?_
          refine s_goto C dL_law_2723 23 (by decide) ?_
          refine s_r ?_
          refine s_lv [3, 4, 5, 6, 0] rfl ?_
          exact hk7 (s6 + 4)
      · refine s_iconst (v := 0) C dL_law_1822 (by decide) 1823 rfl ?_
        refine s_r ?_
        rw [hx8]
        exact s_iret C rfl rfl dL_law_1823
    refine s_tab C dL_law_39 32 (1805) 1844 (by decide) (by decide) rfl (by decide) ?_ (fun hc322 => ?_)
    · refine s_aload_n C dL_law_1844 1845 rfl 1 rfl ?_
      refine s_aload_n C dL_law_1845 1846 rfl 0 rfl ?_
      refine s_iload C dL_law_1846 1848 rfl 4 rfl ?_
      refine s_iconst (v := 1) C dL_law_1848 (by decide) 1849 rfl ?_
      refine s_iadd C dL_law_1849 1850 rfl ?_
      refine s_sld C hX dL_law_1850 1851 rfl (fun x190 => ?_)
      refine s_aload_n C dL_law_1851 1852 rfl 3 rfl ?_
      refine s_call_i (rn_SH (As := [.ref x1, .int x190, .ref x5]) C (ch_at hR hA (ct_X0_levelOf htr g TA x1 x190 x5)) (lw_SW q1671 q1672 q100 q1673) nv_X0_levelOf ⟨by decide, by decide⟩ rfl (bl rfl) dL_law_1852) 1855 rfl (fun x191 => ?_)
      refine s_istore C dL_law_1855 (by decide) 1857 rfl [(5, .int x191), (0, .ref b), (1, .ref x1), (2, .ref x3), (3, .ref x5), (4, .int s6)] rfl ?_
      refine s_aload_n C dL_law_1857 1858 rfl 3 rfl ?_
      refine s_aload_n C dL_law_1858 1859 rfl 1 rfl ?_
      refine s_iload C dL_law_1859 1861 rfl 5 rfl ?_
      refine s_iconst (v := 1) C dL_law_1861 (by decide) 1862 rfl ?_
      refine s_iadd C dL_law_1862 1863 rfl ?_
      refine s_sld C hX dL_law_1863 1864 rfl (fun x192 => ?_)
      refine s_call_i (rn_V (As := [.int x192]) C (ct_at hR hA (ct_on (ct_X4_levelOf g TA x3 x192))) (rv_on C hR (q := vw_12) rfl) (lw_V q2194 q2195 q2196 q112 q2197) ⟨rfl, nv_X4_levelOf⟩ ⟨by decide, by decide⟩ rfl (bl rfl) dL_law_1864) 1867 rfl (fun x193 => ?_)
      refine s_istore C dL_law_1867 (by decide) 1869 rfl [(6, .int x193), (5, .int x191), (0, .ref b), (1, .ref x1), (2, .ref x3), (3, .ref x5), (4, .int s6)] rfl ?_
      refine s_aload_n C dL_law_1869 1870 rfl 4 rfl ?_
      refine s_call_i (rn_V (As := []) C (ct_at hR hA (ct_on (ct_X4_thrown g TA x3))) (rv_on C hR (q := vw_12) rfl) (lw_V q1869 q1870 q1871 q112 q1872) ⟨rfl, nv_X4_thrown⟩ ⟨by decide, by decide⟩ rfl (bl rfl) dL_law_1870) 1873 rfl (fun x194 => ?_)
      refine s_iload C dL_law_1873 1875 rfl 1 rfl ?_
      refine s_icmp_eq C dL_law_1875 1880 1878 (by decide) rfl ?_ ?_
      · refine s_iload C dL_law_1880 1882 rfl 1 rfl ?_
        refine s_if_ne C dL_law_1882 1897 1885 (by decide) rfl ?_ ?_
        · refine s_aload_n C dL_law_1885 1886 rfl 5 rfl ?_
          refine s_iconst (v := 0) C dL_law_1886 (by decide) 1887 rfl ?_
          refine s_lald C hR dL_law_1887 1888 rfl (fun x195 => ?_)
          refine s_iload C dL_law_1888 1890 rfl 0 rfl ?_
          refine s_i2l C dL_law_1890 1891 rfl ?_
          refine s_lcmp C dL_law_1891 1892 rfl ?_
          refine s_if_eq C dL_law_1892 1897 1895 (by decide) rfl ?_ ?_
          · refine s_goto C dL_law_1897 2720 (by decide) ?_
            refine s_iinc C dL_law_2720 (s6 + 4) rfl 6 rfl (by decide) 2723 rfl [(4, .int (s6 + 4)), (6, .int x193), (5, .int x191), (0, .ref b), (1, .ref x1), (2, .ref x3), (3, .ref x5)] rfl ?_
            refine s_goto C dL_law_2723 23 (by decide) ?_
            refine s_r ?_
            refine s_lv [3, 4, 5, 6, 0] rfl ?_
            exact hk7 (s6 + 4)
          · refine s_iconst (v := 0) C dL_law_1895 (by decide) 1896 rfl ?_
            refine s_r ?_
            rw [hx8]
            exact s_iret C rfl rfl dL_law_1896
        · refine s_goto C dL_law_1897 2720 (by decide) ?_
          refine s_iinc C dL_law_2720 (s6 + 4) rfl 6 rfl (by decide) 2723 rfl [(4, .int (s6 + 4)), (6, .int x193), (5, .int x191), (0, .ref b), (1, .ref x1), (2, .ref x3), (3, .ref x5)] rfl ?_
          refine s_goto C dL_law_2723 23 (by decide) ?_
          refine s_r ?_
          refine s_lv [3, 4, 5, 6, 0] rfl ?_
          exact hk7 (s6 + 4)
      · refine s_iconst (v := 0) C dL_law_1878 (by decide) 1879 rfl ?_
        refine s_r ?_
        rw [hx8]
        exact s_iret C rfl rfl dL_law_1879
    refine s_tab C dL_law_39 33 (1861) 1900 (by decide) (by decide) rfl (by decide) ?_ (fun hc323 => ?_)
    · refine s_aload_n C dL_law_1900 1901 rfl 1 rfl ?_
      refine s_aload_n C dL_law_1901 1902 rfl 0 rfl ?_
      refine s_iload C dL_law_1902 1904 rfl 4 rfl ?_
      refine s_iconst (v := 1) C dL_law_1904 (by decide) 1905 rfl ?_
      refine s_iadd C dL_law_1905 1906 rfl ?_
      refine s_sld C hX dL_law_1906 1907 rfl (fun x196 => ?_)
      refine s_aload_n C dL_law_1907 1908 rfl 3 rfl ?_
      refine s_call_i (rn_SH (As := [.ref x1, .int x196, .ref x5]) C (ch_at hR hA (ct_X0_feeders htr g TA x1 x196 x5)) (lw_SW q1678 q1679 q100 q1680) nv_X0_feeders ⟨by decide, by decide⟩ rfl (bl rfl) dL_law_1908) 1911 rfl (fun x197 => ?_)
      refine s_istore C dL_law_1911 (by decide) 1913 rfl [(5, .int x197), (0, .ref b), (1, .ref x1), (2, .ref x3), (3, .ref x5), (4, .int s6)] rfl ?_
      refine s_aload_n C dL_law_1913 1914 rfl 3 rfl ?_
      refine s_aload_n C dL_law_1914 1915 rfl 1 rfl ?_
      refine s_iload C dL_law_1915 1917 rfl 5 rfl ?_
      refine s_iconst (v := 1) C dL_law_1917 (by decide) 1918 rfl ?_
      refine s_iadd C dL_law_1918 1919 rfl ?_
      refine s_sld C hX dL_law_1919 1920 rfl (fun x198 => ?_)
      refine s_call_i (rn_V (As := [.int x198]) C (ct_at hR hA (ct_on (ct_X4_feeders g TA x3 x198))) (rv_on C hR (q := vw_12) rfl) (lw_V q2202 q2203 q2204 q112 q2205) ⟨rfl, nv_X4_feeders⟩ ⟨by decide, by decide⟩ rfl (bl rfl) dL_law_1920) 1923 rfl (fun x199 => ?_)
      refine s_istore C dL_law_1923 (by decide) 1925 rfl [(6, .int x199), (5, .int x197), (0, .ref b), (1, .ref x1), (2, .ref x3), (3, .ref x5), (4, .int s6)] rfl ?_
      refine s_aload_n C dL_law_1925 1926 rfl 4 rfl ?_
      refine s_call_i (rn_V (As := []) C (ct_at hR hA (ct_on (ct_X4_thrown g TA x3))) (rv_on C hR (q := vw_12) rfl) (lw_V q1869 q1870 q1871 q112 q1872) ⟨rfl, nv_X4_thrown⟩ ⟨by decide, by decide⟩ rfl (bl rfl) dL_law_1926) 1929 rfl (fun x200 => ?_)
      refine s_iload C dL_law_1929 1931 rfl 1 rfl ?_
      refine s_icmp_eq C dL_law_1931 1936 1934 (by decide) rfl ?_ ?_
      · refine s_iload C dL_law_1936 1938 rfl 1 rfl ?_
        refine s_if_ne C dL_law_1938 1953 1941 (by decide) rfl ?_ ?_
        · refine s_aload_n C dL_law_1941 1942 rfl 5 rfl ?_
          refine s_iconst (v := 0) C dL_law_1942 (by decide) 1943 rfl ?_
          refine s_lald C hR dL_law_1943 1944 rfl (fun x201 => ?_)
          refine s_iload C dL_law_1944 1946 rfl 0 rfl ?_
          refine s_i2l C dL_law_1946 1947 rfl ?_
          refine s_lcmp C dL_law_1947 1948 rfl ?_
          refine s_if_eq C dL_law_1948 1953 1951 (by decide) rfl ?_ ?_
          · refine s_goto C dL_law_1953 2720 (by decide) ?_
            refine s_iinc C dL_law_2720 (s6 + 4) rfl 6 rfl (by decide) 2723 rfl [(4, .int (s6 + 4)), (6, .int x199), (5, .int x197), (0, .ref b), (1, .ref x1), (2, .ref x3), (3, .ref x5)] rfl ?_
            refine s_goto C dL_law_2723 23 (by decide) ?_
            refine s_r ?_
            refine s_lv [3, 4, 5, 6, 0] rfl ?_
            exact hk7 (s6 + 4)
          · refine s_iconst (v := 0) C dL_law_1951 (by decide) 1952 rfl ?_
            refine s_r ?_
            rw [hx8]
            exact s_iret C rfl rfl dL_law_1952
        · refine s_goto C dL_law_1953 2720 (by decide) ?_
          refine s_iinc C dL_law_2720 (s6 + 4) rfl 6 rfl (by decide) 2723 rfl [(4, .int (s6 + 4)), (6, .int x199), (5, .int x197), (0, .ref b), (1, .ref x1), (2, .ref x3), (3, .ref x5)] rfl ?_
          refine s_goto C dL_law_2723 23 (by decide) ?_
          refine s_r ?_
          refine s_lv [3, 4, 5, 6, 0] rfl ?_
          exact hk7 (s6 + 4)
      · refine s_iconst (v := 0) C dL_law_1934 (by decide) 1935 rfl ?_
        refine s_r ?_
        rw [hx8]
        exact s_iret C rfl rfl dL_law_1935
    refine s_tab C dL_law_39 34 (1917) 1956 (by decide) (by decide) rfl (by decide) ?_ (fun hc324 => ?_)
    · refine s_aload_n C dL_law_1956 1957 rfl 1 rfl ?_
      refine s_aload_n C dL_law_1957 1958 rfl 0 rfl ?_
      refine s_iload C dL_law_1958 1960 rfl 4 rfl ?_
      refine s_iconst (v := 1) C dL_law_1960 (by decide) 1961 rfl ?_
      refine s_iadd C dL_law_1961 1962 rfl ?_
      refine s_sld C hX dL_law_1962 1963 rfl (fun x202 => ?_)
      refine s_aload_n C dL_law_1963 1964 rfl 3 rfl ?_
      refine s_call_i (rn_SH (As := [.ref x1, .int x202, .ref x5]) C (ch_at hR hA (ct_X0_dependsOn htr g TA x1 x202 x5)) (lw_SW q1686 q1687 q100 q1688) nv_X0_dependsOn ⟨by decide, by decide⟩ rfl (bl rfl) dL_law_1964) 1967 rfl (fun x203 => ?_)
      refine s_istore C dL_law_1967 (by decide) 1969 rfl [(5, .int x203), (0, .ref b), (1, .ref x1), (2, .ref x3), (3, .ref x5), (4, .int s6)] rfl ?_
      refine s_aload_n C dL_law_1969 1970 rfl 3 rfl ?_
      refine s_aload_n C dL_law_1970 1971 rfl 1 rfl ?_
      refine s_iload C dL_law_1971 1973 rfl 5 rfl ?_
      refine s_iconst (v := 1) C dL_law_1973 (by decide) 1974 rfl ?_
      refine s_iadd C dL_law_1974 1975 rfl ?_
      refine s_sld C hX dL_law_1975 1976 rfl (fun x204 => ?_)
      refine s_call_i (rn_V (As := [.int x204]) C (ct_at hR hA (ct_on (ct_X4_dependsOn g TA x3 x204))) (rv_on C hR (q := vw_12) rfl) (lw_V q2206 q2207 q2208 q112 q2209) ⟨rfl, nv_X4_dependsOn⟩ ⟨by decide, by decide⟩ rfl (bl rfl) dL_law_1976) 1979 rfl (fun x205 => ?_)
      refine s_istore C dL_law_1979 (by decide) 1981 rfl [(6, .int x205), (5, .int x203), (0, .ref b), (1, .ref x1), (2, .ref x3), (3, .ref x5), (4, .int s6)] rfl ?_
      refine s_aload_n C dL_law_1981 1982 rfl 4 rfl ?_
      refine s_call_i (rn_V (As := []) C (ct_at hR hA (ct_on (ct_X4_thrown g TA x3))) (rv_on C hR (q := vw_12) rfl) (lw_V q1869 q1870 q1871 q112 q1872) ⟨rfl, nv_X4_thrown⟩ ⟨by decide, by decide⟩ rfl (bl rfl) dL_law_1982) 1985 rfl (fun x206 => ?_)
      refine s_iload C dL_law_1985 1987 rfl 1 rfl ?_
      refine s_icmp_eq C dL_law_1987 1992 1990 (by decide) rfl ?_ ?_
      · refine s_iload C dL_law_1992 1994 rfl 1 rfl ?_
        refine s_if_ne C dL_law_1994 2009 1997 (by decide) rfl ?_ ?_
        · refine s_aload_n C dL_law_1997 1998 rfl 5 rfl ?_
          refine s_iconst (v := 0) C dL_law_1998 (by decide) 1999 rfl ?_
          refine s_lald C hR dL_law_1999 2000 rfl (fun x207 => ?_)
          refine s_iload C dL_law_2000 2002 rfl 0 rfl ?_
          refine s_i2l C dL_law_2002 2003 rfl ?_
          refine s_lcmp C dL_law_2003 2004 rfl ?_
          refine s_if_eq C dL_law_2004 2009 2007 (by decide) rfl ?_ ?_
          · refine s_goto C dL_law_2009 2720 (by decide) ?_
            refine s_iinc C dL_law_2720 (s6 + 4) rfl 6 rfl (by decide) 2723 rfl [(4, .int (s6 + 4)), (6, .int x205), (5, .int x203), (0, .ref b), (1, .ref x1), (2, .ref x3), (3, .ref x5)] rfl ?_
            refine s_goto C dL_law_2723 23 (by decide) ?_
            refine s_r ?_
            refine s_lv [3, 4, 5, 6, 0] rfl ?_
            exact hk7 (s6 + 4)
          · refine s_iconst (v := 0) C dL_law_2007 (by decide) 2008 rfl ?_
            refine s_r ?_
            rw [hx8]
            exact s_iret C rfl rfl dL_law_2008
        · refine s_goto C dL_law_2009 2720 (by decide) ?_
          refine s_iinc C dL_law_2720 (s6 + 4) rfl 6 rfl (by decide) 2723 rfl [(4, .int (s6 + 4)), (6, .int x205), (5, .int x203), (0, .ref b), (1, .ref x1), (2, .ref x3), (3, .ref x5)] rfl ?_
          refine s_goto C dL_law_2723 23 (by decide) ?_
          refine s_r ?_
          refine s_lv [3, 4, 5, 6, 0] rfl ?_
          exact hk7 (s6 + 4)
      · refine s_iconst (v := 0) C dL_law_1990 (by decide) 1991 rfl ?_
        refine s_r ?_
        rw [hx8]
        exact s_iret C rfl rfl dL_law_1991
    refine s_tab C dL_law_39 35 (1973) 2012 (by decide) (by decide) rfl (by decide) ?_ (fun hc325 => ?_)
    · refine s_aload_n C dL_law_2012 2013 rfl 1 rfl ?_
      refine s_aload_n C dL_law_2013 2014 rfl 0 rfl ?_
      refine s_iload C dL_law_2014 2016 rfl 4 rfl ?_
      refine s_iconst (v := 1) C dL_law_2016 (by decide) 2017 rfl ?_
      refine s_iadd C dL_law_2017 2018 rfl ?_
      refine s_sld C hX dL_law_2018 2019 rfl (fun x208 => ?_)
      refine s_aload_n C dL_law_2019 2020 rfl 3 rfl ?_
      refine s_call_i (rn_SH (As := [.ref x1, .int x208, .ref x5]) C (ch_at hR hA (ct_X0_dependsByTable htr g TA x1 x208 x5)) (lw_SW q1693 q1694 q100 q1695) nv_X0_dependsByTable ⟨by decide, by decide⟩ rfl (bl rfl) dL_law_2020) 2023 rfl (fun x209 => ?_)
      refine s_istore C dL_law_2023 (by decide) 2025 rfl [(5, .int x209), (0, .ref b), (1, .ref x1), (2, .ref x3), (3, .ref x5), (4, .int s6)] rfl ?_
      refine s_aload_n C dL_law_2025 2026 rfl 3 rfl ?_
      refine s_aload_n C dL_law_2026 2027 rfl 1 rfl ?_
      refine s_iload C dL_law_2027 2029 rfl 5 rfl ?_
      refine s_iconst (v := 1) C dL_law_2029 (by decide) 2030 rfl ?_
      refine s_iadd C dL_law_2030 2031 rfl ?_
      refine s_sld C hX dL_law_2031 2032 rfl (fun x210 => ?_)
      refine s_call_i (rn_V (As := [.int x210]) C (ct_at hR hA (ct_on (ct_X4_dependsByTable g TA x3 x210))) (rv_on C hR (q := vw_12) rfl) (lw_V q2210 q2211 q2212 q112 q2213) ⟨rfl, nv_X4_dependsByTable⟩ ⟨by decide, by decide⟩ rfl (bl rfl) dL_law_2032) 2035 rfl (fun x211 => ?_)
      refine s_istore C dL_law_2035 (by decide) 2037 rfl [(6, .int x211), (5, .int x209), (0, .ref b), (1, .ref x1), (2, .ref x3), (3, .ref x5), (4, .int s6)] rfl ?_
      refine s_aload_n C dL_law_2037 2038 rfl 4 rfl ?_
      refine s_call_i (rn_V (As := []) C (ct_at hR hA (ct_on (ct_X4_thrown g TA x3))) (rv_on C hR (q := vw_12) rfl) (lw_V q1869 q1870 q1871 q112 q1872) ⟨rfl, nv_X4_thrown⟩ ⟨by decide, by decide⟩ rfl (bl rfl) dL_law_2038) 2041 rfl (fun x212 => ?_)
      refine s_iload C dL_law_2041 2043 rfl 1 rfl ?_
      refine s_icmp_eq C dL_law_2043 2048 2046 (by decide) rfl ?_ ?_
      · refine s_iload C dL_law_2048 2050 rfl 1 rfl ?_
        refine s_if_ne C dL_law_2050 2065 2053 (by decide) rfl ?_ ?_
        · refine s_aload_n C dL_law_2053 2054 rfl 5 rfl ?_
          refine s_iconst (v := 0) C dL_law_2054 (by decide) 2055 rfl ?_
          refine s_lald C hR dL_law_2055 2056 rfl (fun x213 => ?_)
          refine s_iload C dL_law_2056 2058 rfl 0 rfl ?_
          refine s_i2l C dL_law_2058 2059 rfl ?_
          refine s_lcmp C dL_law_2059 2060 rfl ?_
          refine s_if_eq C dL_law_2060 2065 2063 (by decide) rfl ?_ ?_
          · refine s_goto C dL_law_2065 2720 (by decide) ?_
            refine s_iinc C dL_law_2720 (s6 + 4) rfl 6 rfl (by decide) 2723 rfl [(4, .int (s6 + 4)), (6, .int x211), (5, .int x209), (0, .ref b), (1, .ref x1), (2, .ref x3), (3, .ref x5)] rfl ?_
            refine s_goto C dL_law_2723 23 (by decide) ?_
            refine s_r ?_
            refine s_lv [3, 4, 5, 6, 0] rfl ?_
            exact hk7 (s6 + 4)
          · refine s_iconst (v := 0) C dL_law_2063 (by decide) 2064 rfl ?_
            refine s_r ?_
            rw [hx8]
            exact s_iret C rfl rfl dL_law_2064
        · refine s_goto C dL_law_2065 2720 (by decide) ?_
          refine s_iinc C dL_law_2720 (s6 + 4) rfl 6 rfl (by decide) 2723 rfl [(4, .int (s6 + 4)), (6, .int x211), (5, .int x209), (0, .ref b), (1, .ref x1), (2, .ref x3), (3, .ref x5)] rfl ?_
          refine s_goto C dL_law_2723 23 (by decide) ?_
          refine s_r ?_
          refine s_lv [3, 4, 5, 6, 0] rfl ?_
          exact hk7 (s6 + 4)
      · refine s_iconst (v := 0) C dL_law_2046 (by decide) 2047 rfl ?_
        refine s_r ?_
        rw [hx8]
        exact s_iret C rfl rfl dL_law_2047
    refine s_tab C dL_law_39 36 (2029) 2068 (by decide) (by decide) rfl (by decide) ?_ (fun hc326 => ?_)
    · refine s_aload_n C dL_law_2068 2069 rfl 1 rfl ?_
      refine s_call_i (rn_V (As := []) C (ct_at hR hA (ct_on (ct_X1_inCircles g TA x1))) (rv_on C hR (q := vw_0) rfl) (lw_V q666 q667 q668 q101 q669) ⟨rfl, nv_X1_inCircles⟩ ⟨by decide, by decide⟩ rfl (bl rfl) dL_law_2069) 2072 rfl (fun x214 => ?_)
      refine s_aload_n C dL_law_2072 2073 rfl 2 rfl ?_
      refine s_call_i (rn_V (As := []) C (ct_at hR hA (ct_on (ct_X4_inCircles g TA x3))) (rv_on C hR (q := vw_12) rfl) (lw_V q2214 q2215 q2216 q112 q2217) ⟨rfl, nv_X4_inCircles⟩ ⟨by decide, by decide⟩ rfl (bl rfl) dL_law_2073) 2076 rfl (fun x215 => ?_)
      refine s_icmp_eq C dL_law_2076 2720 2079 (by decide) rfl ?_ ?_
      · refine s_iinc C dL_law_2720 (s6 + 4) rfl 4 rfl (by decide) 2723 rfl [(4, .int (s6 + 4)), (0, .ref b), (1, .ref x1), (2, .ref x3), (3, .ref x5)] rfl ?_
        refine s_goto C dL_law_2723 23 (by decide) ?_
        refine s_r ?_
        refine s_lv [1, 2, 3, 4, 0] rfl ?_
        exact hk7 (s6 + 4)
      · refine s_iconst (v := 0) C dL_law_2079 (by decide) 2080 rfl ?_
        refine s_r ?_
        rw [hx8]
        exact s_iret C rfl rfl dL_law_2080
    refine s_tab C dL_law_39 37 (2042) 2081 (by decide) (by decide) rfl (by decide) ?_ (fun hc327 => ?_)
    · refine s_aload_n C dL_law_2081 2082 rfl 1 rfl ?_
      refine s_call_i (rn_V (As := []) C (ct_at hR hA (ct_on (ct_X1_ends g TA x1))) (rv_on C hR (q := vw_0) rfl) (lw_V q689 q690 q691 q101 q692) ⟨rfl, nv_X1_ends⟩ ⟨by decide, by decide⟩ rfl (bl rfl) dL_law_2082) 2085 rfl (fun x216 => ?_)
      refine s_aload_n C dL_law_2085 2086 rfl 2 rfl ?_
      refine s_call_i (rn_V (As := []) C (ct_at hR hA (ct_on (ct_X4_ends g TA x3))) (rv_on C hR (q := vw_12) rfl) (lw_V q2222 q2223 q2224 q112 q2225) ⟨rfl, nv_X4_ends⟩ ⟨by decide, by decide⟩ rfl (bl rfl) dL_law_2086) 2089 rfl (fun x217 => ?_)
      refine s_icmp_eq C dL_law_2089 2720 2092 (by decide) rfl ?_ ?_
      · refine s_iinc C dL_law_2720 (s6 + 4) rfl 4 rfl (by decide) 2723 rfl [(4, .int (s6 + 4)), (0, .ref b), (1, .ref x1), (2, .ref x3), (3, .ref x5)] rfl ?_
        refine s_goto C dL_law_2723 23 (by decide) ?_
        refine s_r ?_
        refine s_lv [1, 2, 3, 4, 0] rfl ?_
        exact hk7 (s6 + 4)
      · refine s_iconst (v := 0) C dL_law_2092 (by decide) 2093 rfl ?_
        refine s_r ?_
        rw [hx8]
        exact s_iret C rfl rfl dL_law_2093
    refine s_tab C dL_law_39 38 (2055) 2094 (by decide) (by decide) rfl (by decide) ?_ (fun hc328 => ?_)
    · refine s_aload_n C dL_law_2094 2095 rfl 1 rfl ?_
      refine s_call_i (rn_V (As := []) C (ct_at hR hA (ct_on (ct_X1_recorded g TA x1))) (rv_on C hR (q := vw_0) rfl) (lw_V q697 q698 q699 q101 q700) ⟨rfl, nv_X1_recorded⟩ ⟨by decide, by decide⟩ rfl (bl rfl) dL_law_2095) 2098 rfl (fun x218 => ?_)
      refine s_aload_n C dL_law_2098 2099 rfl 2 rfl ?_
      refine s_call_i (rn_V (As := []) C (ct_at hR hA (ct_on (ct_X4_recorded g TA x3))) (rv_on C hR (q := vw_12) rfl) (lw_V q2230 q2231 q2232 q112 q2233) ⟨rfl, nv_X4_recorded⟩ ⟨by decide, by decide⟩ rfl (bl rfl) dL_law_2099) 2102 rfl (fun x219 => ?_)
      refine s_icmp_eq C dL_law_2102 2720 2105 (by decide) rfl ?_ ?_
      · refine s_iinc C dL_law_2720 (s6 + 4) rfl 4 rfl (by decide) 2723 rfl [(4, .int (s6 + 4)), (0, .ref b), (1, .ref x1), (2, .ref x3), (3, .ref x5)] rfl ?_
        refine s_goto C dL_law_2723 23 (by decide) ?_
        refine s_r ?_
        refine s_lv [1, 2, 3, 4, 0] rfl ?_
        exact hk7 (s6 + 4)
      · refine s_iconst (v := 0) C dL_law_2105 (by decide) 2106 rfl ?_
        refine s_r ?_
        rw [hx8]
        exact s_iret C rfl rfl dL_law_2106
    refine s_tab C dL_law_39 39 (2068) 2107 (by decide) (by decide) rfl (by decide) ?_ (fun hc329 => ?_)
    · refine s_aload_n C dL_law_2107 2108 rfl 1 rfl ?_
      refine s_call_i (rn_V (As := []) C (ct_at hR hA (ct_on (ct_X1_records g TA x1))) (rv_on C hR (q := vw_0) rfl) (lw_V q701 q702 q703 q101 q704) ⟨rfl, nv_X1_records⟩ ⟨by decide, by decide⟩ rfl (bl rfl) dL_law_2108) 2111 rfl (fun x220 => ?_)
      refine s_aload_n C dL_law_2111 2112 rfl 2 rfl ?_
      refine s_call_i (rn_V (As := []) C (ct_at hR hA (ct_on (ct_X4_records g TA x3))) (rv_on C hR (q := vw_12) rfl) (lw_V q2234 q2235 q2236 q112 q2237) ⟨rfl, nv_X4_records⟩ ⟨by decide, by decide⟩ rfl (bl rfl) dL_law_2112) 2115 rfl (fun x221 => ?_)
      refine s_icmp_eq C dL_law_2115 2720 2118 (by decide) rfl ?_ ?_
      · refine s_iinc C dL_law_2720 (s6 + 4) rfl 4 rfl (by decide) 2723 rfl [(4, .int (s6 + 4)), (0, .ref b), (1, .ref x1), (2, .ref x3), (3, .ref x5)] rfl ?_
        refine s_goto C dL_law_2723 23 (by decide) ?_
        refine s_r ?_
        refine s_lv [1, 2, 3, 4, 0] rfl ?_
        exact hk7 (s6 + 4)
      · refine s_iconst (v := 0) C dL_law_2118 (by decide) 2119 rfl ?_
        refine s_r ?_
        rw [hx8]
        exact s_iret C rfl rfl dL_law_2119
    refine s_tab C dL_law_39 40 (2081) 2120 (by decide) (by decide) rfl (by decide) ?_ (fun hc330 => ?_)
    · refine s_aload_n C dL_law_2120 2121 rfl 1 rfl ?_
      refine s_aload_n C dL_law_2121 2122 rfl 0 rfl ?_
      refine s_iload C dL_law_2122 2124 rfl 4 rfl ?_
      refine s_iconst (v := 1) C dL_law_2124 (by decide) 2125 rfl ?_
      refine s_iadd C dL_law_2125 2126 rfl ?_
      refine s_sld C hX dL_law_2126 2127 rfl (fun x222 => ?_)
      refine s_aload_n C dL_law_2127 2128 rfl 3 rfl ?_
      refine s_call_i (rn_SH (As := [.ref x1, .int x222, .ref x5]) C (ch_at hR hA (ct_X0_recordAt htr g TA x1 x222 x5)) (lw_SW q1704 q1705 q100 q1706) nv_X0_recordAt ⟨by decide, by decide⟩ rfl (bl rfl) dL_law_2128) 2131 rfl (fun x223 => ?_)
      refine s_istore C dL_law_2131 (by decide) 2133 rfl [(5, .int x223), (0, .ref b), (1, .ref x1), (2, .ref x3), (3, .ref x5), (4, .int s6)] rfl ?_
      refine s_aload_n C dL_law_2133 2134 rfl 3 rfl ?_
      refine s_aload_n C dL_law_2134 2135 rfl 1 rfl ?_
      refine s_iload C dL_law_2135 2137 rfl 5 rfl ?_
      refine s_iconst (v := 1) C dL_law_2137 (by decide) 2138 rfl ?_
      refine s_iadd C dL_law_2138 2139 rfl ?_
      refine s_sld C hX dL_law_2139 2140 rfl (fun x224 => ?_)
      refine s_call_i (rn_V (As := [.int x224]) C (ct_at hR hA (ct_on (ct_X4_recordAt g TA x3 x224))) (rv_on C hR (q := vw_12) rfl) (lw_V q2238 q2239 q2240 q112 q2241) ⟨rfl, nv_X4_recordAt⟩ ⟨by decide, by decide⟩ rfl (bl rfl) dL_law_2140) 2143 rfl (fun x225 => ?_)
      refine s_istore C dL_law_2143 (by decide) 2145 rfl [(6, .int x225), (5, .int x223), (0, .ref b), (1, .ref x1), (2, .ref x3), (3, .ref x5), (4, .int s6)] rfl ?_
      refine s_aload_n C dL_law_2145 2146 rfl 4 rfl ?_
      refine s_call_i (rn_V (As := []) C (ct_at hR hA (ct_on (ct_X4_thrown g TA x3))) (rv_on C hR (q := vw_12) rfl) (lw_V q1869 q1870 q1871 q112 q1872) ⟨rfl, nv_X4_thrown⟩ ⟨by decide, by decide⟩ rfl (bl rfl) dL_law_2146) 2149 rfl (fun x226 => ?_)
      refine s_iload C dL_law_2149 2151 rfl 1 rfl ?_
      refine s_icmp_eq C dL_law_2151 2156 2154 (by decide) rfl ?_ ?_
      · refine s_iload C dL_law_2156 2158 rfl 1 rfl ?_
        refine s_if_ne C dL_law_2158 2173 2161 (by decide) rfl ?_ ?_
        · refine s_aload_n C dL_law_2161 2162 rfl 5 rfl ?_
          refine s_iconst (v := 0) C dL_law_2162 (by decide) 2163 rfl ?_
          refine s_lald C hR dL_law_2163 2164 rfl (fun x227 => ?_)
          refine s_iload C dL_law_2164 2166 rfl 0 rfl ?_
          refine s_i2l C dL_law_2166 2167 rfl ?_
          refine s_lcmp C dL_law_2167 2168 rfl ?_
          refine s_if_eq C dL_law_2168 2173 2171 (by decide) rfl ?_ ?_
          · refine s_goto C dL_law_2173 2720 (by decide) ?_
            refine s_iinc C dL_law_2720 (s6 + 4) rfl 6 rfl (by decide) 2723 rfl [(4, .int (s6 + 4)), (6, .int x225), (5, .int x223), (0, .ref b), (1, .ref x1), (2, .ref x3), (3, .ref x5)] rfl ?_
            refine s_goto C dL_law_2723 23 (by decide) ?_
            refine s_r ?_
            refine s_lv [3, 4, 5, 6, 0] rfl ?_
            exact hk7 (s6 + 4)
          · refine s_iconst (v := 0) C dL_law_2171 (by decide) 2172 rfl ?_
            refine s_r ?_
            rw [hx8]
            exact s_iret C rfl rfl dL_law_2172
        · refine s_goto C dL_law_2173 2720 (by decide) ?_
          refine s_iinc C dL_law_2720 (s6 + 4) rfl 6 rfl (by decide) 2723 rfl [(4, .int (s6 + 4)), (6, .int x225), (5, .int x223), (0, .ref b), (1, .ref x1), (2, .ref x3), (3, .ref x5)] rfl ?_
          refine s_goto C dL_law_2723 23 (by decide) ?_
          refine s_r ?_
          refine s_lv [3, 4, 5, 6, 0] rfl ?_
          exact hk7 (s6 + 4)
      · refine s_iconst (v := 0) C dL_law_2154 (by decide) 2155 rfl ?_
        refine s_r ?_
        rw [hx8]
        exact s_iret C rfl rfl dL_law_2155
    refine s_tab C dL_law_39 41 (2137) 2176 (by decide) (by decide) rfl (by decide) ?_ (fun hc331 => ?_)
    · refine s_aload_n C dL_law_2176 2177 rfl 1 rfl ?_
      refine s_call_i (rn_V (As := []) C (ct_at hR hA (ct_on (ct_X1_crossings g TA x1))) (rv_on C hR (q := vw_0) rfl) (lw_V q705 q706 q707 q101 q708) ⟨rfl, nv_X1_crossings⟩ ⟨by decide, by decide⟩ rfl (bl rfl) dL_law_2177) 2180 rfl (fun x228 => ?_)
      refine s_aload_n C dL_law_2180 2181 rfl 2 rfl ?_
      refine s_call_i (rn_V (As := []) C (ct_at hR hA (ct_on (ct_X4_crossings g TA x3))) (rv_on C hR (q := vw_12) rfl) (lw_V q2242 q2243 q2244 q112 q2245) ⟨rfl, nv_X4_crossings⟩ ⟨by decide, by decide⟩ rfl (bl rfl) dL_law_2181) 2184 rfl (fun x229 => ?_)
      refine s_icmp_eq C dL_law_2184 2720 2187 (by decide) rfl ?_ ?_
      · refine s_iinc C dL_law_2720 (s6 + 4) rfl 4 rfl (by decide) 2723 rfl [(4, .int (s6 + 4)), (0, .ref b), (1, .ref x1), (2, .ref x3), (3, .ref x5)] rfl ?_
        refine s_goto C dL_law_2723 23 (by decide) ?_
        refine s_r ?_
        refine s_lv [1, 2, 3, 4, 0] rfl ?_
        exact hk7 (s6 + 4)
      · refine s_iconst (v := 0) C dL_law_2187 (by decide) 2188 rfl ?_
        refine s_r ?_
        rw [hx8]
        exact s_iret C rfl rfl dL_law_2188
    refine s_tab C dL_law_39 42 (2150) 2189 (by decide) (by decide) rfl (by decide) ?_ (fun hc332 => ?_)
    · refine s_aload_n C dL_law_2189 2190 rfl 1 rfl ?_
      refine s_call_i (rn_V (As := []) C (ct_at hR hA (ct_on (ct_X1_beat g TA x1))) (rv_on C hR (q := vw_0) rfl) (lw_V q709 q710 q711 q101 q712) ⟨rfl, nv_X1_beat⟩ ⟨by decide, by decide⟩ rfl (bl rfl) dL_law_2190) 2193 rfl (fun x230 => ?_)
      refine s_aload_n C dL_law_2193 2194 rfl 2 rfl ?_
      refine s_call_i (rn_V (As := []) C (ct_at hR hA (ct_on (ct_X4_beat g TA x3))) (rv_on C hR (q := vw_12) rfl) (lw_V q2246 q2247 q2248 q112 q2249) ⟨rfl, nv_X4_beat⟩ ⟨by decide, by decide⟩ rfl (bl rfl) dL_law_2194) 2197 rfl (fun x231 => ?_)
      refine s_icmp_eq C dL_law_2197 2720 2200 (by decide) rfl ?_ ?_
      · refine s_iinc C dL_law_2720 (s6 + 4) rfl 4 rfl (by decide) 2723 rfl [(4, .int (s6 + 4)), (0, .ref b), (1, .ref x1), (2, .ref x3), (3, .ref x5)] rfl ?_
        refine s_goto C dL_law_2723 23 (by decide) ?_
        refine s_r ?_
        refine s_lv [1, 2, 3, 4, 0] rfl ?_
        exact hk7 (s6 + 4)
      · refine s_iconst (v := 0) C dL_law_2200 (by decide) 2201 rfl ?_
        refine s_r ?_
        rw [hx8]
        exact s_iret C rfl rfl dL_law_2201
    refine s_tab C dL_law_39 43 (2163) 2202 (by decide) (by decide) rfl (by decide) ?_ (fun hc333 => ?_)
    · refine s_aload_n C dL_law_2202 2203 rfl 1 rfl ?_
      refine s_call_d (rn_V (As := []) C (ct_at hR hA (ct_on (ct_X1_meanRecord g TA x1))) (rv_on C hR (q := vw_0) rfl) (lw_V q713 q714 q715 q101 q716) ⟨rfl, nv_X1_meanRecord⟩ ⟨by decide, by decide⟩ rfl (bl rfl) dL_law_2203) 2206 rfl (fun x232 => ?_)
      refine s_dstore C dL_law_2206 (by decide) 2208 rfl [(5, .double x232), (0, .ref b), (1, .ref x1), (2, .ref x3), (3, .ref x5), (4, .int s6)] rfl ?_
      refine s_aload_n C dL_law_2208 2209 rfl 3 rfl ?_
      refine s_call_d (rn_V (As := []) C (ct_at hR hA (ct_on (ct_X4_meanRecord g TA x3))) (rv_on C hR (q := vw_12) rfl) (lw_V q2250 q2251 q2252 q112 q2253) ⟨rfl, nv_X4_meanRecord⟩ ⟨by decide, by decide⟩ rfl (bl rfl) dL_law_2209) 2212 rfl (fun x233 => ?_)
      refine s_dstore C dL_law_2212 (by decide) 2214 rfl [(7, .double x233), (5, .double x232), (0, .ref b), (1, .ref x1), (2, .ref x3), (3, .ref x5), (4, .int s6)] rfl ?_
      refine s_dload C dL_law_2214 2216 rfl 1 rfl ?_
      refine s_dload C dL_law_2216 2218 rfl 0 rfl ?_
      refine s_dcmp C dL_law_2218 2219 rfl ?_
      refine s_if_eq C dL_law_2219 2240 2222 (by decide) rfl ?_ ?_
      · refine s_goto C dL_law_2240 2720 (by decide) ?_
        refine s_iinc C dL_law_2720 (s6 + 4) rfl 6 rfl (by decide) 2723 rfl [(4, .int (s6 + 4)), (7, .double x233), (5, .double x232), (0, .ref b), (1, .ref x1), (2, .ref x3), (3, .ref x5)] rfl ?_
        refine s_goto C dL_law_2723 23 (by decide) ?_
        refine s_r ?_
        refine s_lv [3, 4, 5, 6, 0] rfl ?_
        exact hk7 (s6 + 4)
      · refine s_dload C dL_law_2222 2224 rfl 1 rfl ?_
        refine s_dload C dL_law_2224 2226 rfl 1 rfl ?_
        refine s_dcmp C dL_law_2226 2227 rfl ?_
        refine s_if_eq C dL_law_2227 2238 2230 (by decide) rfl ?_ ?_
        · refine s_iconst (v := 0) C dL_law_2238 (by decide) 2239 rfl ?_
          refine s_r ?_
          rw [hx8]
          exact s_iret C rfl rfl dL_law_2239
        · refine s_dload C dL_law_2230 2232 rfl 0 rfl ?_
          refine s_dload C dL_law_2232 2234 rfl 0 rfl ?_
          refine s_dcmp C dL_law_2234 2235 rfl ?_
          refine s_if_ne C dL_law_2235 2240 2238 (by decide) rfl ?_ ?_
          · refine s_iconst (v := 0) C dL_law_2238 (by decide) 2239 rfl ?_
            refine s_r ?_
            rw [hx8]
            exact s_iret C rfl rfl dL_law_2239
          · refine s_goto C dL_law_2240 2720 (by decide) ?_
            refine s_iinc C dL_law_2720 (s6 + 4) rfl 6 rfl (by decide) 2723 rfl [(4, .int (s6 + 4)), (7, .double x233), (5, .double x232), (0, .ref b), (1, .ref x1), (2, .ref x3), (3, .ref x5)] rfl ?_
            refine s_goto C dL_law_2723 23 (by decide) ?_
            refine s_r ?_
            refine s_lv [3, 4, 5, 6, 0] rfl ?_
            exact hk7 (s6 + 4)
    refine s_tab C dL_law_39 44 (2204) 2243 (by decide) (by decide) rfl (by decide) ?_ (fun hc334 => ?_)
    · refine s_aload_n C dL_law_2243 2244 rfl 1 rfl ?_
      refine s_aload_n C dL_law_2244 2245 rfl 0 rfl ?_
      refine s_iload C dL_law_2245 2247 rfl 4 rfl ?_
      refine s_iconst (v := 1) C dL_law_2247 (by decide) 2248 rfl ?_
      refine s_iadd C dL_law_2248 2249 rfl ?_
      refine s_sld C hX dL_law_2249 2250 rfl (fun x234 => ?_)
      refine s_aload_n C dL_law_2250 2251 rfl 0 rfl ?_
      refine s_iload C dL_law_2251 2253 rfl 4 rfl ?_
      refine s_iconst (v := 2) C dL_law_2253 (by decide) 2254 rfl ?_
      refine s_iadd C dL_law_2254 2255 rfl ?_
      refine s_sld C hX dL_law_2255 2256 rfl (fun x235 => ?_)
      refine s_aload_n C dL_law_2256 2257 rfl 3 rfl ?_
      refine s_call_i (rn_SH (As := [.ref x1, .int x234, .int x235, .ref x5]) C (ch_at hR hA (ct_X0_wouldCircle htr g TA x1 x234 x235 x5)) (lw_SW q1711 q1712 q100 q1713) nv_X0_wouldCircle ⟨by decide, by decide⟩ rfl (bl rfl) dL_law_2257) 2260 rfl (fun x236 => ?_)
      refine s_istore C dL_law_2260 (by decide) 2262 rfl [(5, .int x236), (0, .ref b), (1, .ref x1), (2, .ref x3), (3, .ref x5), (4, .int s6)] rfl ?_
      refine s_aload_n C dL_law_2262 2263 rfl 3 rfl ?_
      refine s_aload_n C dL_law_2263 2264 rfl 1 rfl ?_
      refine s_iload C dL_law_2264 2266 rfl 5 rfl ?_
      refine s_iconst (v := 1) C dL_law_2266 (by decide) 2267 rfl ?_
      refine s_iadd C dL_law_2267 2268 rfl ?_
      refine s_sld C hX dL_law_2268 2269 rfl (fun x237 => ?_)
      refine s_aload_n C dL_law_2269 2270 rfl 1 rfl ?_
      refine s_iload C dL_law_2270 2272 rfl 5 rfl ?_
      refine s_iconst (v := 2) C dL_law_2272 (by decide) 2273 rfl ?_
      refine s_iadd C dL_law_2273 2274 rfl ?_
      refine s_sld C hX dL_law_2274 2275 rfl (fun x238 => ?_)
      refine s_call_i (rn_V (As := [.int x237, .int x238]) C (ct_at hR hA (ct_on (ct_X4_wouldCircle g TA x3 x237 x238))) (rv_on C hR (q := vw_12) rfl) (lw_V q2258 q2259 q2260 q112 q2261) ⟨rfl, nv_X4_wouldCircle⟩ ⟨by decide, by decide⟩ rfl (bl rfl) dL_law_2275) 2278 rfl (fun x239 => ?_)
      refine s_istore C dL_law_2278 (by decide) 2280 rfl [(6, .int x239), (5, .int x236), (0, .ref b), (1, .ref x1), (2, .ref x3), (3, .ref x5), (4, .int s6)] rfl ?_
      refine s_aload_n C dL_law_2280 2281 rfl 4 rfl ?_
      refine s_call_i (rn_V (As := []) C (ct_at hR hA (ct_on (ct_X4_thrown g TA x3))) (rv_on C hR (q := vw_12) rfl) (lw_V q1869 q1870 q1871 q112 q1872) ⟨rfl, nv_X4_thrown⟩ ⟨by decide, by decide⟩ rfl (bl rfl) dL_law_2281) 2284 rfl (fun x240 => ?_)
      refine s_iload C dL_law_2284 2286 rfl 1 rfl ?_
      refine s_icmp_eq C dL_law_2286 2291 2289 (by decide) rfl ?_ ?_
      · refine s_iload C dL_law_2291 2293 rfl 1 rfl ?_
        refine s_if_ne C dL_law_2293 2315 2296 (by decide) rfl ?_ ?_
        · refine s_aload_n C dL_law_2296 2297 rfl 5 rfl ?_
          refine s_iconst (v := 0) C dL_law_2297 (by decide) 2298 rfl ?_
          refine s_lald C hR dL_law_2298 2299 rfl (fun x241 => ?_)
          refine s_iload C dL_law_2299 2301 rfl 0 rfl ?_
          refine s_cut (J := 2309) (LJ := (fun (v242 : Int64) => [(0, .ref b), (1, .ref x1), (2, .ref x3), (3, .ref x5), (4, .int s6)])) (SJ := (fun (v242 : Int64) => [.long v242, .long x241])) (fun v242 => ?_) (fun _ _ hK243 => ?_)
          · refine s_lcmp C dL_law_2309 2310 rfl ?_
            refine s_if_eq C dL_law_2310 2315 2313 (by decide) rfl ?_ ?_
            · refine s_goto C dL_law_2315 2720 (by decide) ?_
              refine s_iinc C dL_law_2720 (s6 + 4) rfl 4 rfl (by decide) 2723 rfl [(4, .int (s6 + 4)), (0, .ref b), (1, .ref x1), (2, .ref x3), (3, .ref x5)] rfl ?_
              refine s_goto C dL_law_2723 23 (by decide) ?_
              refine s_r ?_
              refine s_lv [1, 2, 3, 4, 0] rfl ?_
              exact hk7 (s6 + 4)
            · refine s_iconst (v := 0) C dL_law_2313 (by decide) 2314 rfl ?_
              refine s_r ?_
              rw [hx8]
              exact s_iret C rfl rfl dL_law_2314
          · refine s_if_eq C dL_law_2301 2308 2304 (by decide) rfl ?_ ?_
            · refine s_lconst (v := 0) C dL_law_2308 (by decide) 2309 rfl ?_
              refine s_r ?_
              refine s_lv [2, 3, 4, 5, 6] rfl ?_
              exact hK243 0
            · refine s_lconst (v := 1) C dL_law_2304 (by decide) 2305 rfl ?_
              refine s_goto C dL_law_2305 2309 (by decide) ?_
              refine s_r ?_
              refine s_lv [2, 3, 4, 5, 6] rfl ?_
              exact hK243 1
        · refine s_goto C dL_law_2315 2720 (by decide) ?_
          refine s_iinc C dL_law_2720 (s6 + 4) rfl 6 rfl (by decide) 2723 rfl [(4, .int (s6 + 4)), (6, .int x239), (5, .int x236), (0, .ref b), (1, .ref x1), (2, .ref x3), (3, .ref x5)] rfl ?_
          refine s_goto C dL_law_2723 23 (by decide) ?_
          refine s_r ?_
          refine s_lv [3, 4, 5, 6, 0] rfl ?_
          exact hk7 (s6 + 4)
      · refine s_iconst (v := 0) C dL_law_2289 (by decide) 2290 rfl ?_
        refine s_r ?_
        rw [hx8]
        exact s_iret C rfl rfl dL_law_2290
    refine s_tab C dL_law_39 45 (2279) 2318 (by decide) (by decide) rfl (by decide) ?_ (fun hc335 => ?_)
    · refine s_aload_n C dL_law_2318 2319 rfl 1 rfl ?_
      refine s_aload_n C dL_law_2319 2320 rfl 0 rfl ?_
      refine s_iload C dL_law_2320 2322 rfl 4 rfl ?_
      refine s_iconst (v := 1) C dL_law_2322 (by decide) 2323 rfl ?_
      refine s_iadd C dL_law_2323 2324 rfl ?_
      refine s_sld C hX dL_law_2324 2325 rfl (fun x244 => ?_)
      refine s_aload_n C dL_law_2325 2326 rfl 0 rfl ?_
      refine s_iload C dL_law_2326 2328 rfl 4 rfl ?_
      refine s_iconst (v := 2) C dL_law_2328 (by decide) 2329 rfl ?_
      refine s_iadd C dL_law_2329 2330 rfl ?_
      refine s_sld C hX dL_law_2330 2331 rfl (fun x245 => ?_)
      refine s_aload_n C dL_law_2331 2332 rfl 3 rfl ?_
      refine s_call_i (rn_SH (As := [.ref x1, .int x244, .int x245, .ref x5]) C (ch_at hR hA (ct_X0_outputIn htr g TA x1 x244 x245 x5)) (lw_SW q1718 q1719 q100 q1720) nv_X0_outputIn ⟨by decide, by decide⟩ rfl (bl rfl) dL_law_2332) 2335 rfl (fun x246 => ?_)
      refine s_istore C dL_law_2335 (by decide) 2337 rfl [(5, .int x246), (0, .ref b), (1, .ref x1), (2, .ref x3), (3, .ref x5), (4, .int s6)] rfl ?_
      refine s_aload_n C dL_law_2337 2338 rfl 3 rfl ?_
      refine s_aload_n C dL_law_2338 2339 rfl 1 rfl ?_
      refine s_iload C dL_law_2339 2341 rfl 5 rfl ?_
      refine s_iconst (v := 1) C dL_law_2341 (by decide) 2342 rfl ?_
      refine s_iadd C dL_law_2342 2343 rfl ?_
      refine s_sld C hX dL_law_2343 2344 rfl (fun x247 => ?_)
      refine s_aload_n C dL_law_2344 2345 rfl 1 rfl ?_
      refine s_iload C dL_law_2345 2347 rfl 5 rfl ?_
      refine s_iconst (v := 2) C dL_law_2347 (by decide) 2348 rfl ?_
      refine s_iadd C dL_law_2348 2349 rfl ?_
      refine s_sld C hX dL_law_2349 2350 rfl (fun x248 => ?_)
      refine s_call_i (rn_V (As := [.int x247, .int x248]) C (ct_at hR hA (ct_on (ct_X4_outputIn g TA x3 x247 x248))) (rv_on C hR (q := vw_12) rfl) (lw_V q2262 q2263 q2264 q112 q2265) ⟨rfl, nv_X4_outputIn⟩ ⟨by decide, by decide⟩ rfl (bl rfl) dL_law_2350) 2353 rfl (fun x249 => ?_)
      refine s_istore C dL_law_2353 (by decide) 2355 rfl [(6, .int x249), (5, .int x246), (0, .ref b), (1, .ref x1), (2, .ref x3), (3, .ref x5), (4, .int s6)] rfl ?_
      refine s_aload_n C dL_law_2355 2356 rfl 4 rfl ?_
      refine s_call_i (rn_V (As := []) C (ct_at hR hA (ct_on (ct_X4_thrown g TA x3))) (rv_on C hR (q := vw_12) rfl) (lw_V q1869 q1870 q1871 q112 q1872) ⟨rfl, nv_X4_thrown⟩ ⟨by decide, by decide⟩ rfl (bl rfl) dL_law_2356) 2359 rfl (fun x250 => ?_)
      refine s_iload C dL_law_2359 2361 rfl 1 rfl ?_
      refine s_icmp_eq C dL_law_2361 2366 2364 (by decide) rfl ?_ ?_
      · refine s_iload C dL_law_2366 2368 rfl 1 rfl ?_
        refine s_if_ne C dL_law_2368 2383 2371 (by decide) rfl ?_ ?_
        · refine s_aload_n C dL_law_2371 2372 rfl 5 rfl ?_
          refine s_iconst (v := 0) C dL_law_2372 (by decide) 2373 rfl ?_
          refine s_lald C hR dL_law_2373 2374 rfl (fun x251 => ?_)
          refine s_iload C dL_law_2374 2376 rfl 0 rfl ?_
          refine s_i2l C dL_law_2376 2377 rfl ?_
          refine s_lcmp C dL_law_2377 2378 rfl ?_
          refine s_if_eq C dL_law_2378 2383 2381 (by decide) rfl ?_ ?_
          · refine s_goto C dL_law_2383 2720 (by decide) ?_
            refine s_iinc C dL_law_2720 (s6 + 4) rfl 6 rfl (by decide) 2723 rfl [(4, .int (s6 + 4)), (6, .int x249), (5, .int x246), (0, .ref b), (1, .ref x1), (2, .ref x3), (3, .ref x5)] rfl ?_
            refine s_goto C dL_law_2723 23 (by decide) ?_
            refine s_r ?_
            refine s_lv [3, 4, 5, 6, 0] rfl ?_
            exact hk7 (s6 + 4)
          · refine s_iconst (v := 0) C dL_law_2381 (by decide) 2382 rfl ?_
            refine s_r ?_
            rw [hx8]
            exact s_iret C rfl rfl dL_law_2382
        · refine s_goto C dL_law_2383 2720 (by decide) ?_
          refine s_iinc C dL_law_2720 (s6 + 4) rfl 6 rfl (by decide) 2723 rfl [(4, .int (s6 + 4)), (6, .int x249), (5, .int x246), (0, .ref b), (1, .ref x1), (2, .ref x3), (3, .ref x5)] rfl ?_
          refine s_goto C dL_law_2723 23 (by decide) ?_
          refine s_r ?_
          refine s_lv [3, 4, 5, 6, 0] rfl ?_
          exact hk7 (s6 + 4)
      · refine s_iconst (v := 0) C dL_law_2364 (by decide) 2365 rfl ?_
        refine s_r ?_
        rw [hx8]
        exact s_iret C rfl rfl dL_law_2365
    refine s_tab C dL_law_39 46 (2347) 2386 (by decide) (by decide) rfl (by decide) ?_ (fun hc336 => ?_)
    · refine s_aload_n C dL_law_2386 2387 rfl 1 rfl ?_
      refine s_call_i (rn_V (As := []) C (ct_at hR hA (ct_on (ct_X1_stepsUntilOverload g TA x1))) (rv_on C hR (q := vw_0) rfl) (lw_V q721 q722 q723 q101 q724) ⟨rfl, nv_X1_stepsUntilOverload⟩ ⟨by decide, by decide⟩ rfl (bl rfl) dL_law_2387) 2390 rfl (fun x252 => ?_)
      refine s_aload_n C dL_law_2390 2391 rfl 2 rfl ?_
      refine s_call_i (rn_V (As := []) C (ct_at hR hA (ct_on (ct_X4_stepsUntilOverload g TA x3))) (rv_on C hR (q := vw_12) rfl) (lw_V q2278 q2279 q2280 q112 q2281) ⟨rfl, nv_X4_stepsUntilOverload⟩ ⟨by decide, by decide⟩ rfl (bl rfl) dL_law_2391) 2394 rfl (fun x253 => ?_)
      refine s_icmp_eq C dL_law_2394 2720 2397 (by decide) rfl ?_ ?_
      · refine s_iinc C dL_law_2720 (s6 + 4) rfl 4 rfl (by decide) 2723 rfl [(4, .int (s6 + 4)), (0, .ref b), (1, .ref x1), (2, .ref x3), (3, .ref x5)] rfl ?_
        refine s_goto C dL_law_2723 23 (by decide) ?_
        refine s_r ?_
        refine s_lv [1, 2, 3, 4, 0] rfl ?_
        exact hk7 (s6 + 4)
      · refine s_iconst (v := 0) C dL_law_2397 (by decide) 2398 rfl ?_
        refine s_r ?_
        rw [hx8]
        exact s_iret C rfl rfl dL_law_2398
    refine s_tab C dL_law_39 47 (2360) 2399 (by decide) (by decide) rfl (by decide) ?_ (fun hc337 => ?_)
    · refine s_aload_n C dL_law_2399 2400 rfl 1 rfl ?_
      refine s_aload_n C dL_law_2400 2401 rfl 0 rfl ?_
      refine s_iload C dL_law_2401 2403 rfl 4 rfl ?_
      refine s_iconst (v := 1) C dL_law_2403 (by decide) 2404 rfl ?_
      refine s_iadd C dL_law_2404 2405 rfl ?_
      refine s_sld C hX dL_law_2405 2406 rfl (fun x254 => ?_)
      refine s_aload_n C dL_law_2406 2407 rfl 0 rfl ?_
      refine s_iload C dL_law_2407 2409 rfl 4 rfl ?_
      refine s_iconst (v := 2) C dL_law_2409 (by decide) 2410 rfl ?_
      refine s_iadd C dL_law_2410 2411 rfl ?_
      refine s_sld C hX dL_law_2411 2412 rfl (fun x255 => ?_)
      refine s_aload_n C dL_law_2412 2413 rfl 0 rfl ?_
      refine s_iload C dL_law_2413 2415 rfl 4 rfl ?_
      refine s_iconst (v := 3) C dL_law_2415 (by decide) 2416 rfl ?_
      refine s_iadd C dL_law_2416 2417 rfl ?_
      refine s_sld C hX dL_law_2417 2418 rfl (fun x256 => ?_)
      refine s_aload_n C dL_law_2418 2419 rfl 3 rfl ?_
      refine s_call_i (rn_SH (As := [.ref x1, .int x254, .int x255, .int x256, .ref x5]) C (ch_at hR hA (ct_X0_bestFactor htr g TA x1 x254 x255 x256 x5)) (lw_SW q1725 q1726 q100 q1727) nv_X0_bestFactor ⟨by decide, by decide⟩ rfl (bl rfl) dL_law_2419) 2422 rfl (fun x257 => ?_)
      refine s_istore C dL_law_2422 (by decide) 2424 rfl [(5, .int x257), (0, .ref b), (1, .ref x1), (2, .ref x3), (3, .ref x5), (4, .int s6)] rfl ?_
      refine s_aload_n C dL_law_2424 2425 rfl 3 rfl ?_
      refine s_aload_n C dL_law_2425 2426 rfl 1 rfl ?_
      refine s_iload C dL_law_2426 2428 rfl 5 rfl ?_
      refine s_iconst (v := 1) C dL_law_2428 (by decide) 2429 rfl ?_
      refine s_iadd C dL_law_2429 2430 rfl ?_
      refine s_sld C hX dL_law_2430 2431 rfl (fun x258 => ?_)
      refine s_aload_n C dL_law_2431 2432 rfl 1 rfl ?_
      refine s_iload C dL_law_2432 2434 rfl 5 rfl ?_
      refine s_iconst (v := 2) C dL_law_2434 (by decide) 2435 rfl ?_
      refine s_iadd C dL_law_2435 2436 rfl ?_
      refine s_sld C hX dL_law_2436 2437 rfl (fun x259 => ?_)
      refine s_aload_n C dL_law_2437 2438 rfl 1 rfl ?_
      refine s_iload C dL_law_2438 2440 rfl 5 rfl ?_
      refine s_iconst (v := 3) C dL_law_2440 (by decide) 2441 rfl ?_
      refine s_iadd C dL_law_2441 2442 rfl ?_
      refine s_sld C hX dL_law_2442 2443 rfl (fun x260 => ?_)
      refine s_call_i (rn_V (As := [.int x258, .int x259, .int x260]) C (ct_at hR hA (ct_on (ct_X4_bestFactor g TA x3 x258 x259 x260))) (rv_on C hR (q := vw_12) rfl) (lw_V q2286 q2287 q2288 q112 q2289) ⟨rfl, nv_X4_bestFactor⟩ ⟨by decide, by decide⟩ rfl (bl rfl) dL_law_2443) 2446 rfl (fun x261 => ?_)
      refine s_istore C dL_law_2446 (by decide) 2448 rfl [(6, .int x261), (5, .int x257), (0, .ref b), (1, .ref x1), (2, .ref x3), (3, .ref x5), (4, .int s6)] rfl ?_
      refine s_aload_n C dL_law_2448 2449 rfl 4 rfl ?_
      refine s_call_i (rn_V (As := []) C (ct_at hR hA (ct_on (ct_X4_thrown g TA x3))) (rv_on C hR (q := vw_12) rfl) (lw_V q1869 q1870 q1871 q112 q1872) ⟨rfl, nv_X4_thrown⟩ ⟨by decide, by decide⟩ rfl (bl rfl) dL_law_2449) 2452 rfl (fun x262 => ?_)
      refine s_iload C dL_law_2452 2454 rfl 1 rfl ?_
      refine s_icmp_eq C dL_law_2454 2459 2457 (by decide) rfl ?_ ?_
      · refine s_iload C dL_law_2459 2461 rfl 1 rfl ?_
        refine s_if_ne C dL_law_2461 2476 2464 (by decide) rfl ?_ ?_
        · refine s_aload_n C dL_law_2464 2465 rfl 5 rfl ?_
          refine s_iconst (v := 0) C dL_law_2465 (by decide) 2466 rfl ?_
          refine s_lald C hR dL_law_2466 2467 rfl (fun x263 => ?_)
          refine s_iload C dL_law_2467 2469 rfl 0 rfl ?_
          refine s_i2l C dL_law_2469 2470 rfl ?_
          refine s_lcmp C dL_law_2470 2471 rfl ?_
          refine s_if_eq C dL_law_2471 2476 2474 (by decide) rfl ?_ ?_
          · refine s_goto C dL_law_2476 2720 (by decide) ?_
            refine s_iinc C dL_law_2720 (s6 + 4) rfl 6 rfl (by decide) 2723 rfl [(4, .int (s6 + 4)), (6, .int x261), (5, .int x257), (0, .ref b), (1, .ref x1), (2, .ref x3), (3, .ref x5)] rfl ?_
            refine s_goto C dL_law_2723 23 (by decide) ?_
            refine s_r ?_
            refine s_lv [3, 4, 5, 6, 0] rfl ?_
            exact hk7 (s6 + 4)
          · refine s_iconst (v := 0) C dL_law_2474 (by decide) 2475 rfl ?_
            refine s_r ?_
            rw [hx8]
            exact s_iret C rfl rfl dL_law_2475
        · refine s_goto C dL_law_2476 2720 (by decide) ?_
          refine s_iinc C dL_law_2720 (s6 + 4) rfl 6 rfl (by decide) 2723 rfl [(4, .int (s6 + 4)), (6, .int x261), (5, .int x257), (0, .ref b), (1, .ref x1), (2, .ref x3), (3, .ref x5)] rfl ?_
          refine s_goto C dL_law_2723 23 (by decide) ?_
          refine s_r ?_
          refine s_lv [3, 4, 5, 6, 0] rfl ?_
          exact hk7 (s6 + 4)
      · refine s_iconst (v := 0) C dL_law_2457 (by decide) 2458 rfl ?_
        refine s_r ?_
        rw [hx8]
        exact s_iret C rfl rfl dL_law_2458
    refine s_tab C dL_law_39 48 (2440) 2479 (by decide) (by decide) rfl (by decide) ?_ (fun hc338 => ?_)
    · refine s_aload_n C dL_law_2479 2480 rfl 1 rfl ?_
      refine s_call_i (rn_V (As := []) C (ct_at hR hA (ct_on (ct_X1_keep g TA x1))) (rv_on C hR (q := vw_0) rfl) (lw_V q286 q287 q288 q101 q289) ⟨rfl, nv_X1_keep⟩ ⟨by decide, by decide⟩ rfl (bl rfl) dL_law_2480) 2483 rfl (fun x264 => ?_)
      refine s_aload_n C dL_law_2483 2484 rfl 2 rfl ?_
      refine s_call_i (rn_V (As := []) C (ct_at hR hA (ct_on (ct_X4_keep g TA x3))) (rv_on C hR (q := vw_12) rfl) (lw_V q2294 q2295 q2296 q112 q2297) ⟨rfl, nv_X4_keep⟩ ⟨by decide, by decide⟩ rfl (bl rfl) dL_law_2484) 2487 rfl (fun x265 => ?_)
      refine s_icmp_eq C dL_law_2487 2720 2490 (by decide) rfl ?_ ?_
      · refine s_iinc C dL_law_2720 (s6 + 4) rfl 4 rfl (by decide) 2723 rfl [(4, .int (s6 + 4)), (0, .ref b), (1, .ref x1), (2, .ref x3), (3, .ref x5)] rfl ?_
        refine s_goto C dL_law_2723 23 (by decide) ?_
        refine s_r ?_
        refine s_lv [1, 2, 3, 4, 0] rfl ?_
        exact hk7 (s6 + 4)
      · refine s_iconst (v := 0) C dL_law_2490 (by decide) 2491 rfl ?_
        refine s_r ?_
        rw [hx8]
        exact s_iret C rfl rfl dL_law_2491
    refine s_tab C dL_law_39 49 (2453) 2492 (by decide) (by decide) rfl (by decide) ?_ (fun hc339 => ?_)
    · refine s_aload_n C dL_law_2492 2493 rfl 1 rfl ?_
      refine s_aload_n C dL_law_2493 2494 rfl 3 rfl ?_
      refine s_call_i (rn_SH (As := [.ref x1, .ref x5]) C (ch_at hR hA (ct_X0_goBack htr g TA x1 x5)) (lw_SW q1739 q1740 q100 q1741) nv_X0_goBack ⟨by decide, by decide⟩ rfl (bl rfl) dL_law_2494) 2497 rfl (fun x266 => ?_)
      refine s_istore C dL_law_2497 (by decide) 2499 rfl [(5, .int x266), (0, .ref b), (1, .ref x1), (2, .ref x3), (3, .ref x5), (4, .int s6)] rfl ?_
      refine s_aload_n C dL_law_2499 2500 rfl 3 rfl ?_
      refine s_call_i (rn_V (As := []) C (ct_at hR hA (ct_on (ct_X4_goBack g TA x3))) (rv_on C hR (q := vw_12) rfl) (lw_V q2298 q2299 q2300 q112 q2301) ⟨rfl, nv_X4_goBack⟩ ⟨by decide, by decide⟩ rfl (bl rfl) dL_law_2500) 2503 rfl (fun x267 => ?_)
      refine s_istore C dL_law_2503 (by decide) 2505 rfl [(6, .int x267), (5, .int x266), (0, .ref b), (1, .ref x1), (2, .ref x3), (3, .ref x5), (4, .int s6)] rfl ?_
      refine s_aload_n C dL_law_2505 2506 rfl 4 rfl ?_
      refine s_call_i (rn_V (As := []) C (ct_at hR hA (ct_on (ct_X4_thrown g TA x3))) (rv_on C hR (q := vw_12) rfl) (lw_V q1869 q1870 q1871 q112 q1872) ⟨rfl, nv_X4_thrown⟩ ⟨by decide, by decide⟩ rfl (bl rfl) dL_law_2506) 2509 rfl (fun x268 => ?_)
      refine s_iload C dL_law_2509 2511 rfl 1 rfl ?_
      refine s_icmp_eq C dL_law_2511 2516 2514 (by decide) rfl ?_ ?_
      · refine s_iload C dL_law_2516 2518 rfl 1 rfl ?_
        refine s_if_ne C dL_law_2518 2533 2521 (by decide) rfl ?_ ?_
        · refine s_aload_n C dL_law_2521 2522 rfl 5 rfl ?_
          refine s_iconst (v := 0) C dL_law_2522 (by decide) 2523 rfl ?_
          refine s_lald C hR dL_law_2523 2524 rfl (fun x269 => ?_)
          refine s_iload C dL_law_2524 2526 rfl 0 rfl ?_
          refine s_i2l C dL_law_2526 2527 rfl ?_
          refine s_lcmp C dL_law_2527 2528 rfl ?_
          refine s_if_eq C dL_law_2528 2533 2531 (by decide) rfl ?_ ?_
          · refine s_goto C dL_law_2533 2720 (by decide) ?_
            refine s_iinc C dL_law_2720 (s6 + 4) rfl 6 rfl (by decide) 2723 rfl [(4, .int (s6 + 4)), (6, .int x267), (5, .int x266), (0, .ref b), (1, .ref x1), (2, .ref x3), (3, .ref x5)] rfl ?_
            refine s_goto C dL_law_2723 23 (by decide) ?_
            refine s_r ?_
            refine s_lv [3, 4, 5, 6, 0] rfl ?_
            exact hk7 (s6 + 4)
          · refine s_iconst (v := 0) C dL_law_2531 (by decide) 2532 rfl ?_
            refine s_r ?_
            rw [hx8]
            exact s_iret C rfl rfl dL_law_2532
        · refine s_goto C dL_law_2533 2720 (by decide) ?_
          refine s_iinc C dL_law_2720 (s6 + 4) rfl 6 rfl (by decide) 2723 rfl [(4, .int (s6 + 4)), (6, .int x267), (5, .int x266), (0, .ref b), (1, .ref x1), (2, .ref x3), (3, .ref x5)] rfl ?_
          refine s_goto C dL_law_2723 23 (by decide) ?_
          refine s_r ?_
          refine s_lv [3, 4, 5, 6, 0] rfl ?_
          exact hk7 (s6 + 4)
      · refine s_iconst (v := 0) C dL_law_2514 (by decide) 2515 rfl ?_
        refine s_r ?_
        rw [hx8]
        exact s_iret C rfl rfl dL_law_2515
    refine s_tab C dL_law_39 50 (2497) 2536 (by decide) (by decide) rfl (by decide) ?_ (fun hc340 => ?_)
    · refine s_aload_n C dL_law_2536 2537 rfl 1 rfl ?_
      refine s_aload_n C dL_law_2537 2538 rfl 0 rfl ?_
      refine s_iload C dL_law_2538 2540 rfl 4 rfl ?_
      refine s_iconst (v := 1) C dL_law_2540 (by decide) 2541 rfl ?_
      refine s_iadd C dL_law_2541 2542 rfl ?_
      refine s_sld C hX dL_law_2542 2543 rfl (fun x270 => ?_)
      refine s_aload_n C dL_law_2543 2544 rfl 3 rfl ?_
      refine s_call_i (rn_SH (As := [.ref x1, .int x270, .ref x5]) C (ch_at hR hA (ct_X0_append htr g TA x1 x270 x5)) (lw_SW q1746 q1747 q100 q1748) nv_X0_append ⟨by decide, by decide⟩ rfl (bl rfl) dL_law_2544) 2547 rfl (fun x271 => ?_)
      refine s_istore C dL_law_2547 (by decide) 2549 rfl [(5, .int x271), (0, .ref b), (1, .ref x1), (2, .ref x3), (3, .ref x5), (4, .int s6)] rfl ?_
      refine s_aload_n C dL_law_2549 2550 rfl 3 rfl ?_
      refine s_aload_n C dL_law_2550 2551 rfl 1 rfl ?_
      refine s_iload C dL_law_2551 2553 rfl 5 rfl ?_
      refine s_iconst (v := 1) C dL_law_2553 (by decide) 2554 rfl ?_
      refine s_iadd C dL_law_2554 2555 rfl ?_
      refine s_sld C hX dL_law_2555 2556 rfl (fun x272 => ?_)
      refine s_call_i (rn_V (As := [.int x272]) C (ct_at hR hA (ct_on (ct_X4_append g TA x3 x272))) (rv_on C hR (q := vw_12) rfl) (lw_V q2302 q2303 q2304 q112 q2305) ⟨rfl, nv_X4_append⟩ ⟨by decide, by decide⟩ rfl (bl rfl) dL_law_2556) 2559 rfl (fun x273 => ?_)
      refine s_istore C dL_law_2559 (by decide) 2561 rfl [(6, .int x273), (5, .int x271), (0, .ref b), (1, .ref x1), (2, .ref x3), (3, .ref x5), (4, .int s6)] rfl ?_
      refine s_aload_n C dL_law_2561 2562 rfl 4 rfl ?_
      refine s_call_i (rn_V (As := []) C (ct_at hR hA (ct_on (ct_X4_thrown g TA x3))) (rv_on C hR (q := vw_12) rfl) (lw_V q1869 q1870 q1871 q112 q1872) ⟨rfl, nv_X4_thrown⟩ ⟨by decide, by decide⟩ rfl (bl rfl) dL_law_2562) 2565 rfl (fun x274 => ?_)
      refine s_iload C dL_law_2565 2567 rfl 1 rfl ?_
      refine s_icmp_eq C dL_law_2567 2572 2570 (by decide) rfl ?_ ?_
      · refine s_iload C dL_law_2572 2574 rfl 1 rfl ?_
        refine s_if_ne C dL_law_2574 2589 2577 (by decide) rfl ?_ ?_
        · refine s_aload_n C dL_law_2577 2578 rfl 5 rfl ?_
          refine s_iconst (v := 0) C dL_law_2578 (by decide) 2579 rfl ?_
          refine s_lald C hR dL_law_2579 2580 rfl (fun x275 => ?_)
          refine s_iload C dL_law_2580 2582 rfl 0 rfl ?_
          refine s_i2l C dL_law_2582 2583 rfl ?_
          refine s_lcmp C dL_law_2583 2584 rfl ?_
          refine s_if_eq C dL_law_2584 2589 2587 (by decide) rfl ?_ ?_
          · refine s_goto C dL_law_2589 2720 (by decide) ?_
            refine s_iinc C dL_law_2720 (s6 + 4) rfl 6 rfl (by decide) 2723 rfl [(4, .int (s6 + 4)), (6, .int x273), (5, .int x271), (0, .ref b), (1, .ref x1), (2, .ref x3), (3, .ref x5)] rfl ?_
            refine s_goto C dL_law_2723 23 (by decide) ?_
            refine s_r ?_
            refine s_lv [3, 4, 5, 6, 0] rfl ?_
            exact hk7 (s6 + 4)
          · refine s_iconst (v := 0) C dL_law_2587 (by decide) 2588 rfl ?_
            refine s_r ?_
            rw [hx8]
            exact s_iret C rfl rfl dL_law_2588
        · refine s_goto C dL_law_2589 2720 (by decide) ?_
          refine s_iinc C dL_law_2720 (s6 + 4) rfl 6 rfl (by decide) 2723 rfl [(4, .int (s6 + 4)), (6, .int x273), (5, .int x271), (0, .ref b), (1, .ref x1), (2, .ref x3), (3, .ref x5)] rfl ?_
          refine s_goto C dL_law_2723 23 (by decide) ?_
          refine s_r ?_
          refine s_lv [3, 4, 5, 6, 0] rfl ?_
          exact hk7 (s6 + 4)
      · refine s_iconst (v := 0) C dL_law_2570 (by decide) 2571 rfl ?_
        refine s_r ?_
        rw [hx8]
        exact s_iret C rfl rfl dL_law_2571
    refine s_tab C dL_law_39 51 (2553) 2592 (by decide) (by decide) rfl (by decide) ?_ (fun hc341 => ?_)
    · refine s_aload_n C dL_law_2592 2593 rfl 1 rfl ?_
      refine s_call_i (rn_V (As := []) C (ct_at hR hA (ct_on (ct_X1_clearText g TA x1))) (rv_on C hR (q := vw_0) rfl) (lw_V q782 q783 q784 q101 q785) ⟨rfl, nv_X1_clearText⟩ ⟨by decide, by decide⟩ rfl (bl rfl) dL_law_2593) 2596 rfl (fun x276 => ?_)
      refine s_aload_n C dL_law_2596 2597 rfl 2 rfl ?_
      refine s_call_i (rn_V (As := []) C (ct_at hR hA (ct_on (ct_X4_clearText g TA x3))) (rv_on C hR (q := vw_12) rfl) (lw_V q2306 q2307 q2308 q112 q2309) ⟨rfl, nv_X4_clearText⟩ ⟨by decide, by decide⟩ rfl (bl rfl) dL_law_2597) 2600 rfl (fun x277 => ?_)
      refine s_icmp_eq C dL_law_2600 2720 2603 (by decide) rfl ?_ ?_
      · refine s_iinc C dL_law_2720 (s6 + 4) rfl 4 rfl (by decide) 2723 rfl [(4, .int (s6 + 4)), (0, .ref b), (1, .ref x1), (2, .ref x3), (3, .ref x5)] rfl ?_
        refine s_goto C dL_law_2723 23 (by decide) ?_
        refine s_r ?_
        refine s_lv [1, 2, 3, 4, 0] rfl ?_
        exact hk7 (s6 + 4)
      · refine s_iconst (v := 0) C dL_law_2603 (by decide) 2604 rfl ?_
        refine s_r ?_
        rw [hx8]
        exact s_iret C rfl rfl dL_law_2604
    refine s_tab C dL_law_39 52 (2566) 2605 (by decide) (by decide) rfl (by decide) ?_ (fun hc342 => ?_)
    · refine s_aload_n C dL_law_2605 2606 rfl 1 rfl ?_
      refine s_call_i (rn_V (As := []) C (ct_at hR hA (ct_on (ct_X1_firstError g TA x1))) (rv_on C hR (q := vw_0) rfl) (lw_V q1117 q1118 q1119 q101 q1120) ⟨rfl, nv_X1_firstError⟩ ⟨by decide, by decide⟩ rfl (bl rfl) dL_law_2606) 2609 rfl (fun x278 => ?_)
      refine s_aload_n C dL_law_2609 2610 rfl 2 rfl ?_
      refine s_call_i (rn_V (As := []) C (ct_at hR hA (ct_on (ct_X4_firstError g TA x3))) (rv_on C hR (q := vw_12) rfl) (lw_V q2310 q2311 q2312 q112 q2313) ⟨rfl, nv_X4_firstError⟩ ⟨by decide, by decide⟩ rfl (bl rfl) dL_law_2610) 2613 rfl (fun x279 => ?_)
      refine s_icmp_eq C dL_law_2613 2720 2616 (by decide) rfl ?_ ?_
      · refine s_iinc C dL_law_2720 (s6 + 4) rfl 4 rfl (by decide) 2723 rfl [(4, .int (s6 + 4)), (0, .ref b), (1, .ref x1), (2, .ref x3), (3, .ref x5)] rfl ?_
        refine s_goto C dL_law_2723 23 (by decide) ?_
        refine s_r ?_
        refine s_lv [1, 2, 3, 4, 0] rfl ?_
        exact hk7 (s6 + 4)
      · refine s_iconst (v := 0) C dL_law_2616 (by decide) 2617 rfl ?_
        refine s_r ?_
        rw [hx8]
        exact s_iret C rfl rfl dL_law_2617
    refine s_tab C dL_law_39 53 (2579) 2618 (by decide) (by decide) rfl (by decide) ?_ (fun hc343 => ?_)
    · refine s_aload_n C dL_law_2618 2619 rfl 1 rfl ?_
      refine s_aload_n C dL_law_2619 2620 rfl 3 rfl ?_
      refine s_call_i (rn_SH (As := [.ref x1, .ref x5]) C (ch_at hR hA (ct_X0_patch htr g TA x1 x5)) (lw_SW q1770 q1771 q100 q1772) nv_X0_patch ⟨by decide, by decide⟩ rfl (bl rfl) dL_law_2620) 2623 rfl (fun x280 => ?_)
      refine s_istore C dL_law_2623 (by decide) 2625 rfl [(5, .int x280), (0, .ref b), (1, .ref x1), (2, .ref x3), (3, .ref x5), (4, .int s6)] rfl ?_
      refine s_aload_n C dL_law_2625 2626 rfl 3 rfl ?_
      refine s_call_i (rn_V (As := []) C (ct_at hR hA (ct_on (ct_X4_patch g TA x3))) (rv_on C hR (q := vw_12) rfl) (lw_V q2346 q2347 q2348 q112 q2349) ⟨rfl, nv_X4_patch⟩ ⟨by decide, by decide⟩ rfl (bl rfl) dL_law_2626) 2629 rfl (fun x281 => ?_)
      refine s_istore C dL_law_2629 (by decide) 2631 rfl [(6, .int x281), (5, .int x280), (0, .ref b), (1, .ref x1), (2, .ref x3), (3, .ref x5), (4, .int s6)] rfl ?_
      refine s_aload_n C dL_law_2631 2632 rfl 4 rfl ?_
      refine s_call_i (rn_V (As := []) C (ct_at hR hA (ct_on (ct_X4_thrown g TA x3))) (rv_on C hR (q := vw_12) rfl) (lw_V q1869 q1870 q1871 q112 q1872) ⟨rfl, nv_X4_thrown⟩ ⟨by decide, by decide⟩ rfl (bl rfl) dL_law_2632) 2635 rfl (fun x282 => ?_)
      refine s_iload C dL_law_2635 2637 rfl 1 rfl ?_
      refine s_icmp_eq C dL_law_2637 2642 2640 (by decide) rfl ?_ ?_
      · refine s_iload C dL_law_2642 2644 rfl 1 rfl ?_
        refine s_if_ne C dL_law_2644 2659 2647 (by decide) rfl ?_ ?_
        · refine s_aload_n C dL_law_2647 2648 rfl 5 rfl ?_
          refine s_iconst (v := 0) C dL_law_2648 (by decide) 2649 rfl ?_
          refine s_lald C hR dL_law_2649 2650 rfl (fun x283 => ?_)
          refine s_iload C dL_law_2650 2652 rfl 0 rfl ?_
          refine s_i2l C dL_law_2652 2653 rfl ?_
          refine s_lcmp C dL_law_2653 2654 rfl ?_
          refine s_if_eq C dL_law_2654 2659 2657 (by decide) rfl ?_ ?_
          · refine s_goto C dL_law_2659 2720 (by decide) ?_
            refine s_iinc C dL_law_2720 (s6 + 4) rfl 6 rfl (by decide) 2723 rfl [(4, .int (s6 + 4)), (6, .int x281), (5, .int x280), (0, .ref b), (1, .ref x1), (2, .ref x3), (3, .ref x5)] rfl ?_
            refine s_goto C dL_law_2723 23 (by decide) ?_
            refine s_r ?_
            refine s_lv [3, 4, 5, 6, 0] rfl ?_
            exact hk7 (s6 + 4)
          · refine s_iconst (v := 0) C dL_law_2657 (by decide) 2658 rfl ?_
            refine s_r ?_
            rw [hx8]
            exact s_iret C rfl rfl dL_law_2658
        · refine s_goto C dL_law_2659 2720 (by decide) ?_
          refine s_iinc C dL_law_2720 (s6 + 4) rfl 6 rfl (by decide) 2723 rfl [(4, .int (s6 + 4)), (6, .int x281), (5, .int x280), (0, .ref b), (1, .ref x1), (2, .ref x3), (3, .ref x5)] rfl ?_
          refine s_goto C dL_law_2723 23 (by decide) ?_
          refine s_r ?_
          refine s_lv [3, 4, 5, 6, 0] rfl ?_
          exact hk7 (s6 + 4)
      · refine s_iconst (v := 0) C dL_law_2640 (by decide) 2641 rfl ?_
        refine s_r ?_
        rw [hx8]
        exact s_iret C rfl rfl dL_law_2641
    refine s_tab C dL_law_39 54 (2623) 2662 (by decide) (by decide) rfl (by decide) ?_ (fun hc344 => ?_)
    · refine s_aload_n C dL_law_2662 2663 rfl 1 rfl ?_
      refine s_aload_n C dL_law_2663 2664 rfl 3 rfl ?_
      refine s_call_i (rn_SH (As := [.ref x1, .ref x5]) C (ch_at hR hA (ct_X0_undo htr g TA x1 x5)) (lw_SW q1791 q1792 q100 q1793) nv_X0_undo ⟨by decide, by decide⟩ rfl (bl rfl) dL_law_2664) 2667 rfl (fun x284 => ?_)
      refine s_istore C dL_law_2667 (by decide) 2669 rfl [(5, .int x284), (0, .ref b), (1, .ref x1), (2, .ref x3), (3, .ref x5), (4, .int s6)] rfl ?_
      refine s_aload_n C dL_law_2669 2670 rfl 3 rfl ?_
      refine s_call_i (rn_V (As := []) C (ct_at hR hA (ct_on (ct_X4_undo g TA x3))) (rv_on C hR (q := vw_12) rfl) (lw_V q2358 q2359 q2360 q112 q2361) ⟨rfl, nv_X4_undo⟩ ⟨by decide, by decide⟩ rfl (bl rfl) dL_law_2670) 2673 rfl (fun x285 => ?_)
      refine s_istore C dL_law_2673 (by decide) 2675 rfl [(6, .int x285), (5, .int x284), (0, .ref b), (1, .ref x1), (2, .ref x3), (3, .ref x5), (4, .int s6)] rfl ?_
      refine s_aload_n C dL_law_2675 2676 rfl 4 rfl ?_
      refine s_call_i (rn_V (As := []) C (ct_at hR hA (ct_on (ct_X4_thrown g TA x3))) (rv_on C hR (q := vw_12) rfl) (lw_V q1869 q1870 q1871 q112 q1872) ⟨rfl, nv_X4_thrown⟩ ⟨by decide, by decide⟩ rfl (bl rfl) dL_law_2676) 2679 rfl (fun x286 => ?_)
      refine s_iload C dL_law_2679 2681 rfl 1 rfl ?_
      refine s_icmp_eq C dL_law_2681 2686 2684 (by decide) rfl ?_ ?_
      · refine s_iload C dL_law_2686 2688 rfl 1 rfl ?_
        refine s_if_ne C dL_law_2688 2703 2691 (by decide) rfl ?_ ?_
        · refine s_aload_n C dL_law_2691 2692 rfl 5 rfl ?_
          refine s_iconst (v := 0) C dL_law_2692 (by decide) 2693 rfl ?_
          refine s_lald C hR dL_law_2693 2694 rfl (fun x287 => ?_)
          refine s_iload C dL_law_2694 2696 rfl 0 rfl ?_
          refine s_i2l C dL_law_2696 2697 rfl ?_
          refine s_lcmp C dL_law_2697 2698 rfl ?_
          refine s_if_eq C dL_law_2698 2703 2701 (by decide) rfl ?_ ?_
          · refine s_goto C dL_law_2703 2720 (by decide) ?_
            refine s_iinc C dL_law_2720 (s6 + 4) rfl 6 rfl (by decide) 2723 rfl [(4, .int (s6 + 4)), (6, .int x285), (5, .int x284), (0, .ref b), (1, .ref x1), (2, .ref x3), (3, .ref x5)] rfl ?_
            refine s_goto C dL_law_2723 23 (by decide) ?_
            refine s_r ?_
            refine s_lv [3, 4, 5, 6, 0] rfl ?_
            exact hk7 (s6 + 4)
          · refine s_iconst (v := 0) C dL_law_2701 (by decide) 2702 rfl ?_
            refine s_r ?_
            rw [hx8]
            exact s_iret C rfl rfl dL_law_2702
        · refine s_goto C dL_law_2703 2720 (by decide) ?_
          refine s_iinc C dL_law_2720 (s6 + 4) rfl 6 rfl (by decide) 2723 rfl [(4, .int (s6 + 4)), (6, .int x285), (5, .int x284), (0, .ref b), (1, .ref x1), (2, .ref x3), (3, .ref x5)] rfl ?_
          refine s_goto C dL_law_2723 23 (by decide) ?_
          refine s_r ?_
          refine s_lv [3, 4, 5, 6, 0] rfl ?_
          exact hk7 (s6 + 4)
      · refine s_iconst (v := 0) C dL_law_2684 (by decide) 2685 rfl ?_
        refine s_r ?_
        rw [hx8]
        exact s_iret C rfl rfl dL_law_2685
    refine s_tab C dL_law_39 55 (2667) 2706 (by decide) (by decide) rfl (by decide) ?_ (fun hc345 => ?_)
    · refine s_aload_n C dL_law_2706 2707 rfl 1 rfl ?_
      refine s_call_l (rn_V (As := []) C (ct_at hR hA (ct_on (ct_X1_digest g TA x1))) (rv_on C hR (q := vw_0) rfl) (lw_V q1219 q1220 q1221 q101 q1222) ⟨rfl, nv_X1_digest⟩ ⟨by decide, by decide⟩ rfl (bl rfl) dL_law_2707) 2710 rfl (fun x288 => ?_)
      refine s_aload_n C dL_law_2710 2711 rfl 2 rfl ?_
      refine s_call_l (rn_V (As := []) C (ct_at hR hA (ct_on (ct_X4_digest g TA x3))) (rv_on C hR (q := vw_12) rfl) (lw_V q2362 q2363 q2364 q112 q2365) ⟨rfl, nv_X4_digest⟩ ⟨by decide, by decide⟩ rfl (bl rfl) dL_law_2711) 2714 rfl (fun x289 => ?_)
      refine s_lcmp C dL_law_2714 2715 rfl ?_
      refine s_if_eq C dL_law_2715 2720 2718 (by decide) rfl ?_ ?_
      · refine s_iinc C dL_law_2720 (s6 + 4) rfl 4 rfl (by decide) 2723 rfl [(4, .int (s6 + 4)), (0, .ref b), (1, .ref x1), (2, .ref x3), (3, .ref x5)] rfl ?_
        refine s_goto C dL_law_2723 23 (by decide) ?_
        refine s_r ?_
        refine s_lv [1, 2, 3, 4, 0] rfl ?_
        exact hk7 (s6 + 4)
      · refine s_iconst (v := 0) C dL_law_2718 (by decide) 2719 rfl ?_
        refine s_r ?_
        rw [hx8]
        exact s_iret C rfl rfl dL_law_2719
    refine s_tabD C dL_law_39 2720 (sw_out 56 (fun k hk => by
        match k, hk with
        | 0, _ => exact hc290
        | 1, _ => exact hc291
        | 2, _ => exact hc292
        | 3, _ => exact hc293
        | 4, _ => exact hc294
        | 5, _ => exact hc295
        | 6, _ => exact hc296
        | 7, _ => exact hc297
        | 8, _ => exact hc298
        | 9, _ => exact hc299
        | 10, _ => exact hc300
        | 11, _ => exact hc301
        | 12, _ => exact hc302
        | 13, _ => exact hc303
        | 14, _ => exact hc304
        | 15, _ => exact hc305
        | 16, _ => exact hc306
        | 17, _ => exact hc307
        | 18, _ => exact hc308
        | 19, _ => exact hc309
        | 20, _ => exact hc310
        | 21, _ => exact hc311
        | 22, _ => exact hc312
        | 23, _ => exact hc313
        | 24, _ => exact hc314
        | 25, _ => exact hc315
        | 26, _ => exact hc316
        | 27, _ => exact hc317
        | 28, _ => exact hc318
        | 29, _ => exact hc319
        | 30, _ => exact hc320
        | 31, _ => exact hc321
        | 32, _ => exact hc322
        | 33, _ => exact hc323
        | 34, _ => exact hc324
        | 35, _ => exact hc325
        | 36, _ => exact hc326
        | 37, _ => exact hc327
        | 38, _ => exact hc328
        | 39, _ => exact hc329
        | 40, _ => exact hc330
        | 41, _ => exact hc331
        | 42, _ => exact hc332
        | 43, _ => exact hc333
        | 44, _ => exact hc334
        | 45, _ => exact hc335
        | 46, _ => exact hc336
        | 47, _ => exact hc337
        | 48, _ => exact hc338
        | 49, _ => exact hc339
        | 50, _ => exact hc340
        | 51, _ => exact hc341
        | 52, _ => exact hc342
        | 53, _ => exact hc343
        | 54, _ => exact hc344
        | 55, _ => exact hc345
        | k + 56, h => exact absurd h (by omega))) (by decide) ?_
    refine s_iinc C dL_law_2720 (s6 + 4) rfl 4 rfl (by decide) 2723 rfl [(4, .int (s6 + 4)), (0, .ref b), (1, .ref x1), (2, .ref x3), (3, .ref x5)] rfl ?_
    refine s_goto C dL_law_2723 23 (by decide) ?_
    refine s_r ?_
    refine s_lv [1, 2, 3, 4, 0] rfl ?_
    exact hk7 (s6 + 4)
