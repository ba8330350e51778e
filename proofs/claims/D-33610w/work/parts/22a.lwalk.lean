/-! THE LAW's WALKS -/
theorem nv_X0_put : yX0_put.cls ≠ "java/lang/invoke/MethodHandle" ∧ yX0_put.cls ≠ "java/lang/invoke/VarHandle" ∧ (parseMethodDescriptor yX0_put.desc).map (fun d => d.parameters.length) = some 3 := by decide +kernel
theorem ct_X0_put {l : Launch} (htr : l.stackTraces = false) (g : sm_G) (TA : Nat → Prop) (p0 : Nat) (p1 : Int32) (p2 : Nat) : sm_CH l g (so_R g TA) (so_A g TA) yX0_put cX0_put 4 (some .int) [(0, 9, 12, 13), (0, 9, 15, 15)] 10 223 [.ref p0, .int p1, .ref p2] em_i (f_X0_put g p0 p1 p2) := by
  refine sm_ofH (own := "PatchCordsLaw") rfl rfl (bl rfl) (fun Y C hR hA hl hm ht => ?_)
  subst hl
  refine s_lv (L' := [(0, .ref p0), (1, .int p1), (2, .ref p2)]) [0, 1, 2] rfl ?_
  refine s_top ?_
  unfold f_X0_put
  refine s_aload_n C dX0_put_0 1 rfl 2 rfl ?_
  refine s_iconst (v := 0) C dX0_put_1 (by decide) 2 rfl ?_
  refine s_aload_n C dX0_put_2 3 rfl 0 rfl ?_
  refine s_iload_n C dX0_put_3 4 rfl 1 rfl ?_
  refine s_callH_i (rx_V (As := [.int p1]) C (cx_at hR hA (cx_on (ct_X1_put htr g TA p0 p1))) (rv_on C hR (q := vw_0) rfl) (lw_V q1331 q1332 q1333 q101 q1334) ⟨rfl, nv_X1_put⟩ ⟨by decide, by decide⟩ rfl (bl rfl) dX0_put_4) 7 rfl (fun E => ?_) (fun x1 => ?_)
  · refine sx_if ?_ ?_
    · refine sx_catch C ht [] ⟨0, 9, 12, 13⟩ [⟨0, 9, 15, 15⟩] rfl (fun z hz => by cases hz) (by decide) (by decide) q1329 q971 12 rfl (fun q => ?_)
      refine s_astore_n C dX0_put_12 rfl (by decide) 13 rfl [(3, .ref q), (0, .ref p0), (1, .int p1), (2, .ref p2)] rfl ?_
      refine s_iconst (v := 1) C dX0_put_13 (by decide) 14 rfl ?_
      exact s_iret C rfl rfl dX0_put_14
    refine sx_if ?_ ?_
    · refine sx_catch C ht [⟨0, 9, 12, 13⟩] ⟨0, 9, 15, 15⟩ [] rfl (fun z hz => by
            simp only [List.mem_cons, List.not_mem_nil, or_false] at hz
            subst hz
            exact Or.inr ⟨by decide, "java/lang/IllegalArgumentException", q1329, by decide +kernel⟩) (by decide) (by decide) q1330 q1355 15 rfl (fun q => ?_)
      refine s_astore_n C dX0_put_15 rfl (by decide) 16 rfl [(3, .ref q), (0, .ref p0), (1, .int p1), (2, .ref p2)] rfl ?_
      refine s_iconst (v := 2) C dX0_put_16 (by decide) 17 rfl ?_
      exact s_iret C rfl rfl dX0_put_17
    exact sx_n
  refine s_i2l C dX0_put_7 8 rfl ?_
  refine s_last C hR hA dX0_put_8 9 rfl ?_
  refine s_goto C dX0_put_9 18 (by decide) ?_
  refine s_iconst (v := 0) C dX0_put_18 (by decide) 19 rfl ?_
  exact s_iret C rfl rfl dX0_put_19
theorem nv_X0_turnWeight : yX0_turnWeight.cls ≠ "java/lang/invoke/MethodHandle" ∧ yX0_turnWeight.cls ≠ "java/lang/invoke/VarHandle" ∧ (parseMethodDescriptor yX0_turnWeight.desc).map (fun d => d.parameters.length) = some 4 := by decide +kernel
theorem ct_X0_turnWeight {l : Launch} (htr : l.stackTraces = false) (g : sm_G) (TA : Nat → Prop) (p0 : Nat) (p1 : Int32) (p2 : Int32) (p3 : Nat) : sm_CH l g (so_R g TA) (so_A g TA) yX0_turnWeight cX0_turnWeight 5 (some .int) [(0, 10, 13, 21), (0, 10, 17, 13)] 11 225 [.ref p0, .int p1, .int p2, .ref p3] em_i (f_X0_turnWeight g p0 p1 p2 p3) := by
  refine sm_ofH (own := "PatchCordsLaw") rfl rfl (bl rfl) (fun Y C hR hA hl hm ht => ?_)
  subst hl
  refine s_lv (L' := [(0, .ref p0), (1, .int p1), (2, .int p2), (3, .ref p3)]) [0, 1, 2, 3] rfl ?_
  refine s_top ?_
  unfold f_X0_turnWeight
  refine s_aload_n C dX0_turnWeight_0 1 rfl 3 rfl ?_
  refine s_iconst (v := 0) C dX0_turnWeight_1 (by decide) 2 rfl ?_
  refine s_aload_n C dX0_turnWeight_2 3 rfl 0 rfl ?_
  refine s_iload_n C dX0_turnWeight_3 4 rfl 1 rfl ?_
  refine s_iload_n C dX0_turnWeight_4 5 rfl 2 rfl ?_
  refine s_callH_i (rx_V (As := [.int p1, .int p2]) C (cx_at hR hA (cx_on (ct_X1_turnWeight htr g TA p0 p1 p2))) (rv_on C hR (q := vw_0) rfl) (lw_V q1397 q1398 q1399 q101 q1400) ⟨rfl, nv_X1_turnWeight⟩ ⟨by decide, by decide⟩ rfl (bl rfl) dX0_turnWeight_5) 8 rfl (fun E => ?_) (fun x1 => ?_)
  · refine sx_if ?_ ?_
    · refine sx_catch C ht [] ⟨0, 10, 13, 21⟩ [⟨0, 10, 17, 13⟩] rfl (fun z hz => by cases hz) (by decide) (by decide) q1394 q1418 13 rfl (fun q => ?_)
      refine s_astore C dX0_turnWeight_13 (by decide) 15 rfl [(4, .ref q), (0, .ref p0), (1, .int p1), (2, .int p2), (3, .ref p3)] rfl ?_
      refine s_iconst (v := 1) C dX0_turnWeight_15 (by decide) 16 rfl ?_
      exact s_iret C rfl rfl dX0_turnWeight_16
    refine sx_if ?_ ?_
    · refine sx_catch C ht [⟨0, 10, 13, 21⟩] ⟨0, 10, 17, 13⟩ [] rfl (fun z hz => by
            simp only [List.mem_cons, List.not_mem_nil, or_false] at hz
            subst hz
            exact Or.inr ⟨by decide, "java/lang/IndexOutOfBoundsException", q1394, by decide +kernel⟩) (by decide) (by decide) q1329 q971 17 rfl (fun q => ?_)
      refine s_astore C dX0_turnWeight_17 (by decide) 19 rfl [(4, .ref q), (0, .ref p0), (1, .int p1), (2, .int p2), (3, .ref p3)] rfl ?_
      refine s_iconst (v := 2) C dX0_turnWeight_19 (by decide) 20 rfl ?_
      exact s_iret C rfl rfl dX0_turnWeight_20
    exact sx_n
  refine s_i2l C dX0_turnWeight_8 9 rfl ?_
  refine s_last C hR hA dX0_turnWeight_9 10 rfl ?_
  refine s_goto C dX0_turnWeight_10 21 (by decide) ?_
  refine s_iconst (v := 0) C dX0_turnWeight_21 (by decide) 22 rfl ?_
  exact s_iret C rfl rfl dX0_turnWeight_22
theorem nv_X0_setVoltage : yX0_setVoltage.cls ≠ "java/lang/invoke/MethodHandle" ∧ yX0_setVoltage.cls ≠ "java/lang/invoke/VarHandle" ∧ (parseMethodDescriptor yX0_setVoltage.desc).map (fun d => d.parameters.length) = some 4 := by decide +kernel
theorem ct_X0_setVoltage {l : Launch} (htr : l.stackTraces = false) (g : sm_G) (TA : Nat → Prop) (p0 : Nat) (p1 : Int32) (p2 : Int32) (p3 : Nat) : sm_CH l g (so_R g TA) (so_A g TA) yX0_setVoltage cX0_setVoltage 5 (some .int) [(0, 10, 13, 21), (0, 10, 17, 13)] 10 226 [.ref p0, .int p1, .int p2, .ref p3] em_i (f_X0_setVoltage g p0 p1 p2 p3) := by
  refine sm_ofH (own := "PatchCordsLaw") rfl rfl (bl rfl) (fun Y C hR hA hl hm ht => ?_)
  subst hl
  refine s_lv (L' := [(0, .ref p0), (1, .int p1), (2, .int p2), (3, .ref p3)]) [0, 1, 2, 3] rfl ?_
  refine s_top ?_
  unfold f_X0_setVoltage
  refine s_aload_n C dX0_setVoltage_0 1 rfl 3 rfl ?_
  refine s_iconst (v := 0) C dX0_setVoltage_1 (by decide) 2 rfl ?_
  refine s_aload_n C dX0_setVoltage_2 3 rfl 0 rfl ?_
  refine s_iload_n C dX0_setVoltage_3 4 rfl 1 rfl ?_
  refine s_iload_n C dX0_setVoltage_4 5 rfl 2 rfl ?_
  refine s_callH_i (rx_V (As := [.int p1, .int p2]) C (cx_at hR hA (cx_on (ct_X1_setVoltage htr g TA p0 p1 p2))) (rv_on C hR (q := vw_0) rfl) (lw_V q1443 q1444 q1445 q101 q1446) ⟨rfl, nv_X1_setVoltage⟩ ⟨by decide, by decide⟩ rfl (bl rfl) dX0_setVoltage_5) 8 rfl (fun E => ?_) (fun x1 => ?_)
  · refine sx_if ?_ ?_
    · refine sx_catch C ht [] ⟨0, 10, 13, 21⟩ [⟨0, 10, 17, 13⟩] rfl (fun z hz => by cases hz) (by decide) (by decide) q1394 q1418 13 rfl (fun q => ?_)
      refine s_astore C dX0_setVoltage_13 (by decide) 15 rfl [(4, .ref q), (0, .ref p0), (1, .int p1), (2, .int p2), (3, .ref p3)] rfl ?_
      refine s_iconst (v := 1) C dX0_setVoltage_15 (by decide) 16 rfl ?_
      exact s_iret C rfl rfl dX0_setVoltage_16
    refine sx_if ?_ ?_
    · refine sx_catch C ht [⟨0, 10, 13, 21⟩] ⟨0, 10, 17, 13⟩ [] rfl (fun z hz => by
            simp only [List.mem_cons, List.not_mem_nil, or_false] at hz
            subst hz
            exact Or.inr ⟨by decide, "java/lang/IndexOutOfBoundsException", q1394, by decide +kernel⟩) (by decide) (by decide) q1329 q971 17 rfl (fun q => ?_)
      refine s_astore C dX0_setVoltage_17 (by decide) 19 rfl [(4, .ref q), (0, .ref p0), (1, .int p1), (2, .int p2), (3, .ref p3)] rfl ?_
      refine s_iconst (v := 2) C dX0_setVoltage_19 (by decide) 20 rfl ?_
      exact s_iret C rfl rfl dX0_setVoltage_20
    exact sx_n
  refine s_i2l C dX0_setVoltage_8 9 rfl ?_
  refine s_last C hR hA dX0_setVoltage_9 10 rfl ?_
  refine s_goto C dX0_setVoltage_10 21 (by decide) ?_
  refine s_iconst (v := 0) C dX0_setVoltage_21 (by decide) 22 rfl ?_
  exact s_iret C rfl rfl dX0_setVoltage_22
theorem nv_X0_setFactor : yX0_setFactor.cls ≠ "java/lang/invoke/MethodHandle" ∧ yX0_setFactor.cls ≠ "java/lang/invoke/VarHandle" ∧ (parseMethodDescriptor yX0_setFactor.desc).map (fun d => d.parameters.length) = some 4 := by decide +kernel
theorem ct_X0_setFactor {l : Launch} (htr : l.stackTraces = false) (g : sm_G) (TA : Nat → Prop) (p0 : Nat) (p1 : Int32) (p2 : Int32) (p3 : Nat) : sm_CH l g (so_R g TA) (so_A g TA) yX0_setFactor cX0_setFactor 5 (some .int) [(0, 10, 13, 21), (0, 10, 17, 13)] 10 226 [.ref p0, .int p1, .int p2, .ref p3] em_i (f_X0_setFactor g p0 p1 p2 p3) := by
  refine sm_ofH (own := "PatchCordsLaw") rfl rfl (bl rfl) (fun Y C hR hA hl hm ht => ?_)
  subst hl
  refine s_lv (L' := [(0, .ref p0), (1, .int p1), (2, .int p2), (3, .ref p3)]) [0, 1, 2, 3] rfl ?_
  refine s_top ?_
  unfold f_X0_setFactor
  refine s_aload_n C dX0_setFactor_0 1 rfl 3 rfl ?_
  refine s_iconst (v := 0) C dX0_setFactor_1 (by decide) 2 rfl ?_
  refine s_aload_n C dX0_setFactor_2 3 rfl 0 rfl ?_
  refine s_iload_n C dX0_setFactor_3 4 rfl 1 rfl ?_
  refine s_iload_n C dX0_setFactor_4 5 rfl 2 rfl ?_
  refine s_callH_i (rx_V (As := [.int p1, .int p2]) C (cx_at hR hA (cx_on (ct_X1_setFactor htr g TA p0 p1 p2))) (rv_on C hR (q := vw_0) rfl) (lw_V q1462 q1463 q1464 q101 q1465) ⟨rfl, nv_X1_setFactor⟩ ⟨by decide, by decide⟩ rfl (bl rfl) dX0_setFactor_5) 8 rfl (fun E => ?_) (fun x1 => ?_)
  · refine sx_if ?_ ?_
    · refine sx_catch C ht [] ⟨0, 10, 13, 21⟩ [⟨0, 10, 17, 13⟩] rfl (fun z hz => by cases hz) (by decide) (by decide) q1394 q1418 13 rfl (fun q => ?_)
      refine s_astore C dX0_setFactor_13 (by decide) 15 rfl [(4, .ref q), (0, .ref p0), (1, .int p1), (2, .int p2), (3, .ref p3)] rfl ?_
      refine s_iconst (v := 1) C dX0_setFactor_15 (by decide) 16 rfl ?_
      exact s_iret C rfl rfl dX0_setFactor_16
    refine sx_if ?_ ?_
    · refine sx_catch C ht [⟨0, 10, 13, 21⟩] ⟨0, 10, 17, 13⟩ [] rfl (fun z hz => by
            simp only [List.mem_cons, List.not_mem_nil, or_false] at hz
            subst hz
            exact Or.inr ⟨by decide, "java/lang/IndexOutOfBoundsException", q1394, by decide +kernel⟩) (by decide) (by decide) q1329 q971 17 rfl (fun q => ?_)
      refine s_astore C dX0_setFactor_17 (by decide) 19 rfl [(4, .ref q), (0, .ref p0), (1, .int p1), (2, .int p2), (3, .ref p3)] rfl ?_
      refine s_iconst (v := 2) C dX0_setFactor_19 (by decide) 20 rfl ?_
      exact s_iret C rfl rfl dX0_setFactor_20
    exact sx_n
  refine s_i2l C dX0_setFactor_8 9 rfl ?_
  refine s_last C hR hA dX0_setFactor_9 10 rfl ?_
  refine s_goto C dX0_setFactor_10 21 (by decide) ?_
  refine s_iconst (v := 0) C dX0_setFactor_21 (by decide) 22 rfl ?_
  exact s_iret C rfl rfl dX0_setFactor_22
theorem nv_X0_setSpeed : yX0_setSpeed.cls ≠ "java/lang/invoke/MethodHandle" ∧ yX0_setSpeed.cls ≠ "java/lang/invoke/VarHandle" ∧ (parseMethodDescriptor yX0_setSpeed.desc).map (fun d => d.parameters.length) = some 4 := by decide +kernel
theorem ct_X0_setSpeed {l : Launch} (htr : l.stackTraces = false) (g : sm_G) (TA : Nat → Prop) (p0 : Nat) (p1 : Int32) (p2 : Int32) (p3 : Nat) : sm_CH l g (so_R g TA) (so_A g TA) yX0_setSpeed cX0_setSpeed 5 (some .int) [(0, 10, 13, 21), (0, 10, 17, 13)] 10 226 [.ref p0, .int p1, .int p2, .ref p3] em_i (f_X0_setSpeed g p0 p1 p2 p3) := by
  refine sm_ofH (own := "PatchCordsLaw") rfl rfl (bl rfl) (fun Y C hR hA hl hm ht => ?_)
  subst hl
  refine s_lv (L' := [(0, .ref p0), (1, .int p1), (2, .int p2), (3, .ref p3)]) [0, 1, 2, 3] rfl ?_
  refine s_top ?_
  unfold f_X0_setSpeed
  refine s_aload_n C dX0_setSpeed_0 1 rfl 3 rfl ?_
  refine s_iconst (v := 0) C dX0_setSpeed_1 (by decide) 2 rfl ?_
  refine s_aload_n C dX0_setSpeed_2 3 rfl 0 rfl ?_
  refine s_iload_n C dX0_setSpeed_3 4 rfl 1 rfl ?_
  refine s_iload_n C dX0_setSpeed_4 5 rfl 2 rfl ?_
  refine s_callH_i (rx_V (As := [.int p1, .int p2]) C (cx_at hR hA (cx_on (ct_X1_setSpeed htr g TA p0 p1 p2))) (rv_on C hR (q := vw_0) rfl) (lw_V q1473 q1474 q1475 q101 q1476) ⟨rfl, nv_X1_setSpeed⟩ ⟨by decide, by decide⟩ rfl (bl rfl) dX0_setSpeed_5) 8 rfl (fun E => ?_) (fun x1 => ?_)
  · refine sx_if ?_ ?_
    · refine sx_catch C ht [] ⟨0, 10, 13, 21⟩ [⟨0, 10, 17, 13⟩] rfl (fun z hz => by cases hz) (by decide) (by decide) q1394 q1418 13 rfl (fun q => ?_)
      refine s_astore C dX0_setSpeed_13 (by decide) 15 rfl [(4, .ref q), (0, .ref p0), (1, .int p1), (2, .int p2), (3, .ref p3)] rfl ?_
      refine s_iconst (v := 1) C dX0_setSpeed_15 (by decide) 16 rfl ?_
      exact s_iret C rfl rfl dX0_setSpeed_16
    refine sx_if ?_ ?_
    · refine sx_catch C ht [⟨0, 10, 13, 21⟩] ⟨0, 10, 17, 13⟩ [] rfl (fun z hz => by
            simp only [List.mem_cons, List.not_mem_nil, or_false] at hz
            subst hz
            exact Or.inr ⟨by decide, "java/lang/IndexOutOfBoundsException", q1394, by decide +kernel⟩) (by decide) (by decide) q1329 q971 17 rfl (fun q => ?_)
      refine s_astore C dX0_setSpeed_17 (by decide) 19 rfl [(4, .ref q), (0, .ref p0), (1, .int p1), (2, .int p2), (3, .ref p3)] rfl ?_
      refine s_iconst (v := 2) C dX0_setSpeed_19 (by decide) 20 rfl ?_
      exact s_iret C rfl rfl dX0_setSpeed_20
    exact sx_n
  refine s_i2l C dX0_setSpeed_8 9 rfl ?_
  refine s_last C hR hA dX0_setSpeed_9 10 rfl ?_
  refine s_goto C dX0_setSpeed_10 21 (by decide) ?_
  refine s_iconst (v := 0) C dX0_setSpeed_21 (by decide) 22 rfl ?_
  exact s_iret C rfl rfl dX0_setSpeed_22
theorem nv_X0_join : yX0_join.cls ≠ "java/lang/invoke/MethodHandle" ∧ yX0_join.cls ≠ "java/lang/invoke/VarHandle" ∧ (parseMethodDescriptor yX0_join.desc).map (fun d => d.parameters.length) = some 5 := by decide +kernel
theorem ct_X0_join {l : Launch} (htr : l.stackTraces = false) (g : sm_G) (TA : Nat → Prop) (p0 : Nat) (p1 : Int32) (p2 : Int32) (p3 : Int32) (p4 : Nat) : sm_CH l g (so_R g TA) (so_A g TA) yX0_join cX0_join 6 (some .int) [(0, 12, 15, 21), (0, 12, 19, 15)] 10 225 [.ref p0, .int p1, .int p2, .int p3, .ref p4] em_i (f_X0_join g p0 p1 p2 p3 p4) := by
  refine sm_ofH (own := "PatchCordsLaw") rfl rfl (bl rfl) (fun Y C hR hA hl hm ht => ?_)
  subst hl
  refine s_lv (L' := [(0, .ref p0), (1, .int p1), (2, .int p2), (3, .int p3), (4, .ref p4)]) [0, 1, 2, 3, 4] rfl ?_
  refine s_top ?_
  unfold f_X0_join
  refine s_aload C dX0_join_0 2 rfl 4 rfl ?_
  refine s_iconst (v := 0) C dX0_join_2 (by decide) 3 rfl ?_
  refine s_aload_n C dX0_join_3 4 rfl 0 rfl ?_
  refine s_iload_n C dX0_join_4 5 rfl 1 rfl ?_
  refine s_iload_n C dX0_join_5 6 rfl 2 rfl ?_
  refine s_iload_n C dX0_join_6 7 rfl 3 rfl ?_
  refine s_callH_i (rx_V (As := [.int p1, .int p2, .int p3]) C (cx_at hR hA (cx_on (ct_X1_join htr g TA p0 p1 p2 p3))) (rv_on C hR (q := vw_0) rfl) (lw_V q1484 q1485 q1486 q101 q1487) ⟨rfl, nv_X1_join⟩ ⟨by decide, by decide⟩ rfl (bl rfl) dX0_join_7) 10 rfl (fun E => ?_) (fun x1 => ?_)
  · refine sx_if ?_ ?_
    · refine sx_catch C ht [] ⟨0, 12, 15, 21⟩ [⟨0, 12, 19, 15⟩] rfl (fun z hz => by cases hz) (by decide) (by decide) q1394 q1418 15 rfl (fun q => ?_)
      refine s_astore C dX0_join_15 (by decide) 17 rfl [(5, .ref q), (0, .ref p0), (1, .int p1), (2, .int p2), (3, .int p3), (4, .ref p4)] rfl ?_
      refine s_iconst (v := 1) C dX0_join_17 (by decide) 18 rfl ?_
      exact s_iret C rfl rfl dX0_join_18
    refine sx_if ?_ ?_
    · refine sx_catch C ht [⟨0, 12, 15, 21⟩] ⟨0, 12, 19, 15⟩ [] rfl (fun z hz => by
            simp only [List.mem_cons, List.not_mem_nil, or_false] at hz
            subst hz
            exact Or.inr ⟨by decide, "java/lang/IndexOutOfBoundsException", q1394, by decide +kernel⟩) (by decide) (by decide) q1330 q1355 19 rfl (fun q => ?_)
      refine s_astore C dX0_join_19 (by decide) 21 rfl [(5, .ref q), (0, .ref p0), (1, .int p1), (2, .int p2), (3, .int p3), (4, .ref p4)] rfl ?_
      refine s_iconst (v := 2) C dX0_join_21 (by decide) 22 rfl ?_
      exact s_iret C rfl rfl dX0_join_22
    exact sx_n
  refine s_i2l C dX0_join_10 11 rfl ?_
  refine s_last C hR hA dX0_join_11 12 rfl ?_
  refine s_goto C dX0_join_12 23 (by decide) ?_
  refine s_iconst (v := 0) C dX0_join_23 (by decide) 24 rfl ?_
  exact s_iret C rfl rfl dX0_join_24
theorem nv_X0_takeOut : yX0_takeOut.cls ≠ "java/lang/invoke/MethodHandle" ∧ yX0_takeOut.cls ≠ "java/lang/invoke/VarHandle" ∧ (parseMethodDescriptor yX0_takeOut.desc).map (fun d => d.parameters.length) = some 4 := by decide +kernel
theorem ct_X0_takeOut {l : Launch} (htr : l.stackTraces = false) (g : sm_G) (TA : Nat → Prop) (p0 : Nat) (p1 : Int32) (p2 : Int32) (p3 : Nat) : sm_CH l g (so_R g TA) (so_A g TA) yX0_takeOut cX0_takeOut 5 (some .int) [(0, 10, 13, 21), (0, 10, 17, 15)] 10 225 [.ref p0, .int p1, .int p2, .ref p3] em_i (f_X0_takeOut g p0 p1 p2 p3) := by
  refine sm_ofH (own := "PatchCordsLaw") rfl rfl (bl rfl) (fun Y C hR hA hl hm ht => ?_)
  subst hl
  refine s_lv (L' := [(0, .ref p0), (1, .int p1), (2, .int p2), (3, .ref p3)]) [0, 1, 2, 3] rfl ?_
  refine s_top ?_
  unfold f_X0_takeOut
  refine s_aload_n C dX0_takeOut_0 1 rfl 3 rfl ?_
  refine s_iconst (v := 0) C dX0_takeOut_1 (by decide) 2 rfl ?_
  refine s_aload_n C dX0_takeOut_2 3 rfl 0 rfl ?_
  refine s_iload_n C dX0_takeOut_3 4 rfl 1 rfl ?_
  refine s_iload_n C dX0_takeOut_4 5 rfl 2 rfl ?_
  refine s_callH_i (rx_V (As := [.int p1, .int p2]) C (cx_at hR hA (cx_on (ct_X1_takeOut htr g TA p0 p1 p2))) (rv_on C hR (q := vw_0) rfl) (lw_V q1503 q1504 q1505 q101 q1506) ⟨rfl, nv_X1_takeOut⟩ ⟨by decide, by decide⟩ rfl (bl rfl) dX0_takeOut_5) 8 rfl (fun E => ?_) (fun x1 => ?_)
  · refine sx_if ?_ ?_
    · refine sx_catch C ht [] ⟨0, 10, 13, 21⟩ [⟨0, 10, 17, 15⟩] rfl (fun z hz => by cases hz) (by decide) (by decide) q1394 q1418 13 rfl (fun q => ?_)
      refine s_astore C dX0_takeOut_13 (by decide) 15 rfl [(4, .ref q), (0, .ref p0), (1, .int p1), (2, .int p2), (3, .ref p3)] rfl ?_
      refine s_iconst (v := 1) C dX0_takeOut_15 (by decide) 16 rfl ?_
      exact s_iret C rfl rfl dX0_takeOut_16
    refine sx_if ?_ ?_
    · refine sx_catch C ht [⟨0, 10, 13, 21⟩] ⟨0, 10, 17, 15⟩ [] rfl (fun z hz => by
            simp only [List.mem_cons, List.not_mem_nil, or_false] at hz
            subst hz
            exact Or.inr ⟨by decide, "java/lang/IndexOutOfBoundsException", q1394, by decide +kernel⟩) (by decide) (by decide) q1330 q1355 17 rfl (fun q => ?_)
      refine s_astore C dX0_takeOut_17 (by decide) 19 rfl [(4, .ref q), (0, .ref p0), (1, .int p1), (2, .int p2), (3, .ref p3)] rfl ?_
      refine s_iconst (v := 2) C dX0_takeOut_19 (by decide) 20 rfl ?_
      exact s_iret C rfl rfl dX0_takeOut_20
    exact sx_n
  refine s_i2l C dX0_takeOut_8 9 rfl ?_
  refine s_last C hR hA dX0_takeOut_9 10 rfl ?_
  refine s_goto C dX0_takeOut_10 21 (by decide) ?_
  refine s_iconst (v := 0) C dX0_takeOut_21 (by decide) 22 rfl ?_
  exact s_iret C rfl rfl dX0_takeOut_22
theorem nv_X0_setMode : yX0_setMode.cls ≠ "java/lang/invoke/MethodHandle" ∧ yX0_setMode.cls ≠ "java/lang/invoke/VarHandle" ∧ (parseMethodDescriptor yX0_setMode.desc).map (fun d => d.parameters.length) = some 3 := by decide +kernel
theorem ct_X0_setMode {l : Launch} (htr : l.stackTraces = false) (g : sm_G) (TA : Nat → Prop) (p0 : Nat) (p1 : Int32) (p2 : Nat) : sm_CH l g (so_R g TA) (so_A g TA) yX0_setMode cX0_setMode 4 (some .int) [(0, 9, 12, 13)] 10 224 [.ref p0, .int p1, .ref p2] em_i (f_X0_setMode g p0 p1 p2) := by
  refine sm_ofH (own := "PatchCordsLaw") rfl rfl (bl rfl) (fun Y C hR hA hl hm ht => ?_)
  subst hl
  refine s_lv (L' := [(0, .ref p0), (1, .int p1), (2, .ref p2)]) [0, 1, 2] rfl ?_
  refine s_top ?_
  unfold f_X0_setMode
  refine s_aload_n C dX0_setMode_0 1 rfl 2 rfl ?_
  refine s_iconst (v := 0) C dX0_setMode_1 (by decide) 2 rfl ?_
  refine s_aload_n C dX0_setMode_2 3 rfl 0 rfl ?_
  refine s_iload_n C dX0_setMode_3 4 rfl 1 rfl ?_
  refine s_callH_i (rx_V (As := [.int p1]) C (cx_at hR hA (cx_on (ct_X1_setMode htr g TA p0 p1))) (rv_on C hR (q := vw_0) rfl) (lw_V q1514 q1515 q1516 q101 q1517) ⟨rfl, nv_X1_setMode⟩ ⟨by decide, by decide⟩ rfl (bl rfl) dX0_setMode_4) 7 rfl (fun E => ?_) (fun x1 => ?_)
  · refine sx_if ?_ ?_
    · refine sx_catch C ht [] ⟨0, 9, 12, 13⟩ [] rfl (fun z hz => by cases hz) (by decide) (by decide) q1329 q971 12 rfl (fun q => ?_)
      refine s_astore_n C dX0_setMode_12 rfl (by decide) 13 rfl [(3, .ref q), (0, .ref p0), (1, .int p1), (2, .ref p2)] rfl ?_
      refine s_iconst (v := 1) C dX0_setMode_13 (by decide) 14 rfl ?_
      exact s_iret C rfl rfl dX0_setMode_14
    exact sx_n
  refine s_i2l C dX0_setMode_7 8 rfl ?_
  refine s_last C hR hA dX0_setMode_8 9 rfl ?_
  refine s_goto C dX0_setMode_9 15 (by decide) ?_
  refine s_iconst (v := 0) C dX0_setMode_15 (by decide) 16 rfl ?_
  exact s_iret C rfl rfl dX0_setMode_16
theorem nv_X0_setWay : yX0_setWay.cls ≠ "java/lang/invoke/MethodHandle" ∧ yX0_setWay.cls ≠ "java/lang/invoke/VarHandle" ∧ (parseMethodDescriptor yX0_setWay.desc).map (fun d => d.parameters.length) = some 3 := by decide +kernel
theorem ct_X0_setWay {l : Launch} (htr : l.stackTraces = false) (g : sm_G) (TA : Nat → Prop) (p0 : Nat) (p1 : Int32) (p2 : Nat) : sm_CH l g (so_R g TA) (so_A g TA) yX0_setWay cX0_setWay 4 (some .int) [(0, 9, 12, 13)] 10 224 [.ref p0, .int p1, .ref p2] em_i (f_X0_setWay g p0 p1 p2) := by
  refine sm_ofH (own := "PatchCordsLaw") rfl rfl (bl rfl) (fun Y C hR hA hl hm ht => ?_)
  subst hl
  refine s_lv (L' := [(0, .ref p0), (1, .int p1), (2, .ref p2)]) [0, 1, 2] rfl ?_
  refine s_top ?_
  unfold f_X0_setWay
  refine s_aload_n C dX0_setWay_0 1 rfl 2 rfl ?_
  refine s_iconst (v := 0) C dX0_setWay_1 (by decide) 2 rfl ?_
  refine s_aload_n C dX0_setWay_2 3 rfl 0 rfl ?_
  refine s_iload_n C dX0_setWay_3 4 rfl 1 rfl ?_
  refine s_callH_i (rx_V (As := [.int p1]) C (cx_at hR hA (cx_on (ct_X1_setWay htr g TA p0 p1))) (rv_on C hR (q := vw_0) rfl) (lw_V q1525 q1526 q1527 q101 q1528) ⟨rfl, nv_X1_setWay⟩ ⟨by decide, by decide⟩ rfl (bl rfl) dX0_setWay_4) 7 rfl (fun E => ?_) (fun x1 => ?_)
  · refine sx_if ?_ ?_
    · refine sx_catch C ht [] ⟨0, 9, 12, 13⟩ [] rfl (fun z hz => by cases hz) (by decide) (by decide) q1329 q971 12 rfl (fun q => ?_)
      refine s_astore_n C dX0_setWay_12 rfl (by decide) 13 rfl [(3, .ref q), (0, .ref p0), (1, .int p1), (2, .ref p2)] rfl ?_
      refine s_iconst (v := 1) C dX0_setWay_13 (by decide) 14 rfl ?_
      exact s_iret C rfl rfl dX0_setWay_14
    exact sx_n
  refine s_i2l C dX0_setWay_7 8 rfl ?_
  refine s_last C hR hA dX0_setWay_8 9 rfl ?_
  refine s_goto C dX0_setWay_9 15 (by decide) ?_
  refine s_iconst (v := 0) C dX0_setWay_15 (by decide) 16 rfl ?_
  exact s_iret C rfl rfl dX0_setWay_16
theorem nv_X0_record : yX0_record.cls ≠ "java/lang/invoke/MethodHandle" ∧ yX0_record.cls ≠ "java/lang/invoke/VarHandle" ∧ (parseMethodDescriptor yX0_record.desc).map (fun d => d.parameters.length) = some 3 := by decide +kernel
theorem ct_X0_record {l : Launch} (htr : l.stackTraces = false) (g : sm_G) (TA : Nat → Prop) (p0 : Nat) (p1 : Int32) (p2 : Nat) : sm_CH l g (so_R g TA) (so_A g TA) yX0_record cX0_record 4 (some .int) [(0, 9, 12, 21)] 10 224 [.ref p0, .int p1, .ref p2] em_i (f_X0_record g p0 p1 p2) := by
  refine sm_ofH (own := "PatchCordsLaw") rfl rfl (bl rfl) (fun Y C hR hA hl hm ht => ?_)
  subst hl
  refine s_lv (L' := [(0, .ref p0), (1, .int p1), (2, .ref p2)]) [0, 1, 2] rfl ?_
  refine s_top ?_
  unfold f_X0_record
  refine s_aload_n C dX0_record_0 1 rfl 2 rfl ?_
  refine s_iconst (v := 0) C dX0_record_1 (by decide) 2 rfl ?_
  refine s_aload_n C dX0_record_2 3 rfl 0 rfl ?_
  refine s_iload_n C dX0_record_3 4 rfl 1 rfl ?_
  refine s_callH_i (rx_V (As := [.int p1]) C (cx_at hR hA (cx_on (ct_X1_record htr g TA p0 p1))) (rv_on C hR (q := vw_0) rfl) (lw_V q1543 q1544 q1545 q101 q1546) ⟨rfl, nv_X1_record⟩ ⟨by decide, by decide⟩ rfl (bl rfl) dX0_record_4) 7 rfl (fun E => ?_) (fun x1 => ?_)
  · refine sx_if ?_ ?_
    · refine sx_catch C ht [] ⟨0, 9, 12, 21⟩ [] rfl (fun z hz => by cases hz) (by decide) (by decide) q1394 q1418 12 rfl (fun q => ?_)
      refine s_astore_n C dX0_record_12 rfl (by decide) 13 rfl [(3, .ref q), (0, .ref p0), (1, .int p1), (2, .ref p2)] rfl ?_
      refine s_iconst (v := 1) C dX0_record_13 (by decide) 14 rfl ?_
      exact s_iret C rfl rfl dX0_record_14
    exact sx_n
  refine s_i2l C dX0_record_7 8 rfl ?_
  refine s_last C hR hA dX0_record_8 9 rfl ?_
  refine s_goto C dX0_record_9 15 (by decide) ?_
  refine s_iconst (v := 0) C dX0_record_15 (by decide) 16 rfl ?_
  exact s_iret C rfl rfl dX0_record_16
theorem nv_X0_pass : yX0_pass.cls ≠ "java/lang/invoke/MethodHandle" ∧ yX0_pass.cls ≠ "java/lang/invoke/VarHandle" ∧ (parseMethodDescriptor yX0_pass.desc).map (fun d => d.parameters.length) = some 3 := by decide +kernel
theorem ct_X0_pass {l : Launch} (htr : l.stackTraces = false) (g : sm_G) (TA : Nat → Prop) (p0 : Nat) (p1 : Int32) (p2 : Nat) : sm_CH l g (so_R g TA) (so_A g TA) yX0_pass cX0_pass 4 (some .int) [(0, 9, 12, 13), (0, 9, 15, 15)] 10 223 [.ref p0, .int p1, .ref p2] em_i (f_X0_pass g p0 p1 p2) := by
  refine sm_ofH (own := "PatchCordsLaw") rfl rfl (bl rfl) (fun Y C hR hA hl hm ht => ?_)
  subst hl
  refine s_lv (L' := [(0, .ref p0), (1, .int p1), (2, .ref p2)]) [0, 1, 2] rfl ?_
  refine s_top ?_
  unfold f_X0_pass
  refine s_aload_n C dX0_pass_0 1 rfl 2 rfl ?_
  refine s_iconst (v := 0) C dX0_pass_1 (by decide) 2 rfl ?_
  refine s_aload_n C dX0_pass_2 3 rfl 0 rfl ?_
  refine s_iload_n C dX0_pass_3 4 rfl 1 rfl ?_
  refine s_callH_i (rx_V (As := [.int p1]) C (cx_at hR hA (cx_on (ct_X1_pass htr g TA p0 p1))) (rv_on C hR (q := vw_0) rfl) (lw_V q1554 q1555 q1556 q101 q1557) ⟨rfl, nv_X1_pass⟩ ⟨by decide, by decide⟩ rfl (bl rfl) dX0_pass_4) 7 rfl (fun E => ?_) (fun x1 => ?_)
  · refine sx_if ?_ ?_
    · refine sx_catch C ht [] ⟨0, 9, 12, 13⟩ [⟨0, 9, 15, 15⟩] rfl (fun z hz => by cases hz) (by decide) (by decide) q1329 q971 12 rfl (fun q => ?_)
      refine s_astore_n C dX0_pass_12 rfl (by decide) 13 rfl [(3, .ref q), (0, .ref p0), (1, .int p1), (2, .ref p2)] rfl ?_
      refine s_iconst (v := 1) C dX0_pass_13 (by decide) 14 rfl ?_
      exact s_iret C rfl rfl dX0_pass_14
    refine sx_if ?_ ?_
    · refine sx_catch C ht [⟨0, 9, 12, 13⟩] ⟨0, 9, 15, 15⟩ [] rfl (fun z hz => by
            simp only [List.mem_cons, List.not_mem_nil, or_false] at hz
            subst hz
            exact Or.inr ⟨by decide, "java/lang/IllegalArgumentException", q1329, by decide +kernel⟩) (by decide) (by decide) q1330 q1355 15 rfl (fun q => ?_)
      refine s_astore_n C dX0_pass_15 rfl (by decide) 16 rfl [(3, .ref q), (0, .ref p0), (1, .int p1), (2, .ref p2)] rfl ?_
      refine s_iconst (v := 2) C dX0_pass_16 (by decide) 17 rfl ?_
      exact s_iret C rfl rfl dX0_pass_17
    exact sx_n
  refine s_i2l C dX0_pass_7 8 rfl ?_
  refine s_last C hR hA dX0_pass_8 9 rfl ?_
  refine s_goto C dX0_pass_9 18 (by decide) ?_
  refine s_iconst (v := 0) C dX0_pass_18 (by decide) 19 rfl ?_
  exact s_iret C rfl rfl dX0_pass_19
theorem nv_X0_kindOf : yX0_kindOf.cls ≠ "java/lang/invoke/MethodHandle" ∧ yX0_kindOf.cls ≠ "java/lang/invoke/VarHandle" ∧ (parseMethodDescriptor yX0_kindOf.desc).map (fun d => d.parameters.length) = some 3 := by decide +kernel
theorem ct_X0_kindOf {l : Launch} (htr : l.stackTraces = false) (g : sm_G) (TA : Nat → Prop) (p0 : Nat) (p1 : Int32) (p2 : Nat) : sm_CH l g (so_R g TA) (so_A g TA) yX0_kindOf cX0_kindOf 4 (some .int) [(0, 9, 12, 21)] 9 144 [.ref p0, .int p1, .ref p2] em_i (f_X0_kindOf g p0 p1 p2) := by
  refine sm_ofH (own := "PatchCordsLaw") rfl rfl (bl rfl) (fun Y C hR hA hl hm ht => ?_)
  subst hl
  refine s_lv (L' := [(0, .ref p0), (1, .int p1), (2, .ref p2)]) [0, 1, 2] rfl ?_
  refine s_top ?_
  unfold f_X0_kindOf
  refine s_aload_n C dX0_kindOf_0 1 rfl 2 rfl ?_
  refine s_iconst (v := 0) C dX0_kindOf_1 (by decide) 2 rfl ?_
  refine s_aload_n C dX0_kindOf_2 3 rfl 0 rfl ?_
  refine s_iload_n C dX0_kindOf_3 4 rfl 1 rfl ?_
  refine s_callH_i (rx_V (As := [.int p1]) C (cx_at hR hA (cx_on (ct_X1_kindOf htr g TA p0 p1))) (rv_on C hR (q := vw_0) rfl) (lw_V q1566 q1567 q1568 q101 q1569) ⟨rfl, nv_X1_kindOf⟩ ⟨by decide, by decide⟩ rfl (bl rfl) dX0_kindOf_4) 7 rfl (fun E => ?_) (fun x1 => ?_)
  · refine sx_if ?_ ?_
    · refine sx_catch C ht [] ⟨0, 9, 12, 21⟩ [] rfl (fun z hz => by cases hz) (by decide) (by decide) q1394 q1418 12 rfl (fun q => ?_)
      refine s_astore_n C dX0_kindOf_12 rfl (by decide) 13 rfl [(3, .ref q), (0, .ref p0), (1, .int p1), (2, .ref p2)] rfl ?_
      refine s_iconst (v := 1) C dX0_kindOf_13 (by decide) 14 rfl ?_
      exact s_iret C rfl rfl dX0_kindOf_14
    exact sx_n
  refine s_i2l C dX0_kindOf_7 8 rfl ?_
  refine s_last C hR hA dX0_kindOf_8 9 rfl ?_
  refine s_goto C dX0_kindOf_9 15 (by decide) ?_
  refine s_iconst (v := 0) C dX0_kindOf_15 (by decide) 16 rfl ?_
  exact s_iret C rfl rfl dX0_kindOf_16
theorem nv_X0_inputsOf : yX0_inputsOf.cls ≠ "java/lang/invoke/MethodHandle" ∧ yX0_inputsOf.cls ≠ "java/lang/invoke/VarHandle" ∧ (parseMethodDescriptor yX0_inputsOf.desc).map (fun d => d.parameters.length) = some 3 := by decide +kernel
theorem ct_X0_inputsOf {l : Launch} (htr : l.stackTraces = false) (g : sm_G) (TA : Nat → Prop) (p0 : Nat) (p1 : Int32) (p2 : Nat) : sm_CH l g (so_R g TA) (so_A g TA) yX0_inputsOf cX0_inputsOf 4 (some .int) [(0, 9, 12, 21)] 9 144 [.ref p0, .int p1, .ref p2] em_i (f_X0_inputsOf g p0 p1 p2) := by
  refine sm_ofH (own := "PatchCordsLaw") rfl rfl (bl rfl) (fun Y C hR hA hl hm ht => ?_)
  subst hl
  refine s_lv (L' := [(0, .ref p0), (1, .int p1), (2, .ref p2)]) [0, 1, 2] rfl ?_
  refine s_top ?_
  unfold f_X0_inputsOf
  refine s_aload_n C dX0_inputsOf_0 1 rfl 2 rfl ?_
  refine s_iconst (v := 0) C dX0_inputsOf_1 (by decide) 2 rfl ?_
  refine s_aload_n C dX0_inputsOf_2 3 rfl 0 rfl ?_
  refine s_iload_n C dX0_inputsOf_3 4 rfl 1 rfl ?_
  refine s_callH_i (rx_V (As := [.int p1]) C (cx_at hR hA (cx_on (ct_X1_inputsOf htr g TA p0 p1))) (rv_on C hR (q := vw_0) rfl) (lw_V q1573 q1574 q1575 q101 q1576) ⟨rfl, nv_X1_inputsOf⟩ ⟨by decide, by decide⟩ rfl (bl rfl) dX0_inputsOf_4) 7 rfl (fun E => ?_) (fun x1 => ?_)
  · refine sx_if ?_ ?_
    · refine sx_catch C ht [] ⟨0, 9, 12, 21⟩ [] rfl (fun z hz => by cases hz) (by decide) (by decide) q1394 q1418 12 rfl (fun q => ?_)
      refine s_astore_n C dX0_inputsOf_12 rfl (by decide) 13 rfl [(3, .ref q), (0, .ref p0), (1, .int p1), (2, .ref p2)] rfl ?_
      refine s_iconst (v := 1) C dX0_inputsOf_13 (by decide) 14 rfl ?_
      exact s_iret C rfl rfl dX0_inputsOf_14
    exact sx_n
  refine s_i2l C dX0_inputsOf_7 8 rfl ?_
  refine s_last C hR hA dX0_inputsOf_8 9 rfl ?_
  refine s_goto C dX0_inputsOf_9 15 (by decide) ?_
  refine s_iconst (v := 0) C dX0_inputsOf_15 (by decide) 16 rfl ?_
  exact s_iret C rfl rfl dX0_inputsOf_16
theorem nv_X0_cordIn : yX0_cordIn.cls ≠ "java/lang/invoke/MethodHandle" ∧ yX0_cordIn.cls ≠ "java/lang/invoke/VarHandle" ∧ (parseMethodDescriptor yX0_cordIn.desc).map (fun d => d.parameters.length) = some 4 := by decide +kernel
theorem ct_X0_cordIn {l : Launch} (htr : l.stackTraces = false) (g : sm_G) (TA : Nat → Prop) (p0 : Nat) (p1 : Int32) (p2 : Int32) (p3 : Nat) : sm_CH l g (so_R g TA) (so_A g TA) yX0_cordIn cX0_cordIn 5 (some .int) [(0, 10, 13, 21)] 10 168 [.ref p0, .int p1, .int p2, .ref p3] em_i (f_X0_cordIn g p0 p1 p2 p3) := by
  refine sm_ofH (own := "PatchCordsLaw") rfl rfl (bl rfl) (fun Y C hR hA hl hm ht => ?_)
  subst hl
  refine s_lv (L' := [(0, .ref p0), (1, .int p1), (2, .int p2), (3, .ref p3)]) [0, 1, 2, 3] rfl ?_
  refine s_top ?_
  unfold f_X0_cordIn
  refine s_aload_n C dX0_cordIn_0 1 rfl 3 rfl ?_
  refine s_iconst (v := 0) C dX0_cordIn_1 (by decide) 2 rfl ?_
  refine s_aload_n C dX0_cordIn_2 3 rfl 0 rfl ?_
  refine s_iload_n C dX0_cordIn_3 4 rfl 1 rfl ?_
  refine s_iload_n C dX0_cordIn_4 5 rfl 2 rfl ?_
  refine s_callH_i (rx_V (As := [.int p1, .int p2]) C (cx_at hR hA (cx_on (ct_X1_cordIn htr g TA p0 p1 p2))) (rv_on C hR (q := vw_0) rfl) (lw_V q1580 q1581 q1582 q101 q1583) ⟨rfl, nv_X1_cordIn⟩ ⟨by decide, by decide⟩ rfl (bl rfl) dX0_cordIn_5) 8 rfl (fun E => ?_) (fun x1 => ?_)
  · refine sx_if ?_ ?_
    · refine sx_catch C ht [] ⟨0, 10, 13, 21⟩ [] rfl (fun z hz => by cases hz) (by decide) (by decide) q1394 q1418 13 rfl (fun q => ?_)
      refine s_astore C dX0_cordIn_13 (by decide) 15 rfl [(4, .ref q), (0, .ref p0), (1, .int p1), (2, .int p2), (3, .ref p3)] rfl ?_
      refine s_iconst (v := 1) C dX0_cordIn_15 (by decide) 16 rfl ?_
      exact s_iret C rfl rfl dX0_cordIn_16
    exact sx_n
  refine s_i2l C dX0_cordIn_8 9 rfl ?_
  refine s_last C hR hA dX0_cordIn_9 10 rfl ?_
  refine s_goto C dX0_cordIn_10 17 (by decide) ?_
  refine s_iconst (v := 0) C dX0_cordIn_17 (by decide) 18 rfl ?_
  exact s_iret C rfl rfl dX0_cordIn_18
theorem nv_X0_weightOf : yX0_weightOf.cls ≠ "java/lang/invoke/MethodHandle" ∧ yX0_weightOf.cls ≠ "java/lang/invoke/VarHandle" ∧ (parseMethodDescriptor yX0_weightOf.desc).map (fun d => d.parameters.length) = some 4 := by decide +kernel
theorem ct_X0_weightOf {l : Launch} (htr : l.stackTraces = false) (g : sm_G) (TA : Nat → Prop) (p0 : Nat) (p1 : Int32) (p2 : Int32) (p3 : Nat) : sm_CH l g (so_R g TA) (so_A g TA) yX0_weightOf cX0_weightOf 5 (some .int) [(0, 10, 13, 21), (0, 10, 17, 13)] 11 191 [.ref p0, .int p1, .int p2, .ref p3] em_i (f_X0_weightOf g p0 p1 p2 p3) := by
  refine sm_ofH (own := "PatchCordsLaw") rfl rfl (bl rfl) (fun Y C hR hA hl hm ht => ?_)
  subst hl
  refine s_lv (L' := [(0, .ref p0), (1, .int p1), (2, .int p2), (3, .ref p3)]) [0, 1, 2, 3] rfl ?_
  refine s_top ?_
  unfold f_X0_weightOf
  refine s_aload_n C dX0_weightOf_0 1 rfl 3 rfl ?_
  refine s_iconst (v := 0) C dX0_weightOf_1 (by decide) 2 rfl ?_
  refine s_aload_n C dX0_weightOf_2 3 rfl 0 rfl ?_
  refine s_iload_n C dX0_weightOf_3 4 rfl 1 rfl ?_
  refine s_iload_n C dX0_weightOf_4 5 rfl 2 rfl ?_
  refine s_callH_i (rx_V (As := [.int p1, .int p2]) C (cx_at hR hA (cx_on (ct_X1_weightOf htr g TA p0 p1 p2))) (rv_on C hR (q := vw_0) rfl) (lw_V q1587 q1588 q1589 q101 q1590) ⟨rfl, nv_X1_weightOf⟩ ⟨by decide, by decide⟩ rfl (bl rfl) dX0_weightOf_5) 8 rfl (fun E => ?_) (fun x1 => ?_)
  · refine sx_if ?_ ?_
    · refine sx_catch C ht [] ⟨0, 10, 13, 21⟩ [⟨0, 10, 17, 13⟩] rfl (fun z hz => by cases hz) (by decide) (by decide) q1394 q1418 13 rfl (fun q => ?_)
      refine s_astore C dX0_weightOf_13 (by decide) 15 rfl [(4, .ref q), (0, .ref p0), (1, .int p1), (2, .int p2), (3, .ref p3)] rfl ?_
      refine s_iconst (v := 1) C dX0_weightOf_15 (by decide) 16 rfl ?_
      exact s_iret C rfl rfl dX0_weightOf_16
    refine sx_if ?_ ?_
    · refine sx_catch C ht [⟨0, 10, 13, 21⟩] ⟨0, 10, 17, 13⟩ [] rfl (fun z hz => by
            simp only [List.mem_cons, List.not_mem_nil, or_false] at hz
            subst hz
            exact Or.inr ⟨by decide, "java/lang/IndexOutOfBoundsException", q1394, by decide +kernel⟩) (by decide) (by decide) q1329 q971 17 rfl (fun q => ?_)
      refine s_astore C dX0_weightOf_17 (by decide) 19 rfl [(4, .ref q), (0, .ref p0), (1, .int p1), (2, .int p2), (3, .ref p3)] rfl ?_
      refine s_iconst (v := 2) C dX0_weightOf_19 (by decide) 20 rfl ?_
      exact s_iret C rfl rfl dX0_weightOf_20
    exact sx_n
  refine s_i2l C dX0_weightOf_8 9 rfl ?_
  refine s_last C hR hA dX0_weightOf_9 10 rfl ?_
  refine s_goto C dX0_weightOf_10 21 (by decide) ?_
  refine s_iconst (v := 0) C dX0_weightOf_21 (by decide) 22 rfl ?_
  exact s_iret C rfl rfl dX0_weightOf_22
theorem nv_X0_settingOf : yX0_settingOf.cls ≠ "java/lang/invoke/MethodHandle" ∧ yX0_settingOf.cls ≠ "java/lang/invoke/VarHandle" ∧ (parseMethodDescriptor yX0_settingOf.desc).map (fun d => d.parameters.length) = some 3 := by decide +kernel
theorem ct_X0_settingOf {l : Launch} (htr : l.stackTraces = false) (g : sm_G) (TA : Nat → Prop) (p0 : Nat) (p1 : Int32) (p2 : Nat) : sm_CH l g (so_R g TA) (so_A g TA) yX0_settingOf cX0_settingOf 4 (some .int) [(0, 9, 12, 21)] 9 144 [.ref p0, .int p1, .ref p2] em_i (f_X0_settingOf g p0 p1 p2) := by
  refine sm_ofH (own := "PatchCordsLaw") rfl rfl (bl rfl) (fun Y C hR hA hl hm ht => ?_)
  subst hl
  refine s_lv (L' := [(0, .ref p0), (1, .int p1), (2, .ref p2)]) [0, 1, 2] rfl ?_
  refine s_top ?_
  unfold f_X0_settingOf
  refine s_aload_n C dX0_settingOf_0 1 rfl 2 rfl ?_
  refine s_iconst (v := 0) C dX0_settingOf_1 (by decide) 2 rfl ?_
  refine s_aload_n C dX0_settingOf_2 3 rfl 0 rfl ?_
  refine s_iload_n C dX0_settingOf_3 4 rfl 1 rfl ?_
  refine s_callH_i (rx_V (As := [.int p1]) C (cx_at hR hA (cx_on (ct_X1_settingOf htr g TA p0 p1))) (rv_on C hR (q := vw_0) rfl) (lw_V q1594 q1595 q1596 q101 q1597) ⟨rfl, nv_X1_settingOf⟩ ⟨by decide, by decide⟩ rfl (bl rfl) dX0_settingOf_4) 7 rfl (fun E => ?_) (fun x1 => ?_)
  · refine sx_if ?_ ?_
    · refine sx_catch C ht [] ⟨0, 9, 12, 21⟩ [] rfl (fun z hz => by cases hz) (by decide) (by decide) q1394 q1418 12 rfl (fun q => ?_)
      refine s_astore_n C dX0_settingOf_12 rfl (by decide) 13 rfl [(3, .ref q), (0, .ref p0), (1, .int p1), (2, .ref p2)] rfl ?_
      refine s_iconst (v := 1) C dX0_settingOf_13 (by decide) 14 rfl ?_
      exact s_iret C rfl rfl dX0_settingOf_14
    exact sx_n
  refine s_i2l C dX0_settingOf_7 8 rfl ?_
  refine s_last C hR hA dX0_settingOf_8 9 rfl ?_
  refine s_goto C dX0_settingOf_9 15 (by decide) ?_
  refine s_iconst (v := 0) C dX0_settingOf_15 (by decide) 16 rfl ?_
  exact s_iret C rfl rfl dX0_settingOf_16
theorem nv_X0_speedOf : yX0_speedOf.cls ≠ "java/lang/invoke/MethodHandle" ∧ yX0_speedOf.cls ≠ "java/lang/invoke/VarHandle" ∧ (parseMethodDescriptor yX0_speedOf.desc).map (fun d => d.parameters.length) = some 3 := by decide +kernel
theorem ct_X0_speedOf {l : Launch} (htr : l.stackTraces = false) (g : sm_G) (TA : Nat → Prop) (p0 : Nat) (p1 : Int32) (p2 : Nat) : sm_CH l g (so_R g TA) (so_A g TA) yX0_speedOf cX0_speedOf 4 (some .int) [(0, 9, 12, 21), (0, 9, 15, 13)] 10 166 [.ref p0, .int p1, .ref p2] em_i (f_X0_speedOf g p0 p1 p2) := by
  refine sm_ofH (own := "PatchCordsLaw") rfl rfl (bl rfl) (fun Y C hR hA hl hm ht => ?_)
  subst hl
  refine s_lv (L' := [(0, .ref p0), (1, .int p1), (2, .ref p2)]) [0, 1, 2] rfl ?_
  refine s_top ?_
  unfold f_X0_speedOf
  refine s_aload_n C dX0_speedOf_0 1 rfl 2 rfl ?_
  refine s_iconst (v := 0) C dX0_speedOf_1 (by decide) 2 rfl ?_
  refine s_aload_n C dX0_speedOf_2 3 rfl 0 rfl ?_
  refine s_iload_n C dX0_speedOf_3 4 rfl 1 rfl ?_
  refine s_callH_i (rx_V (As := [.int p1]) C (cx_at hR hA (cx_on (ct_X1_speedOf htr g TA p0 p1))) (rv_on C hR (q := vw_0) rfl) (lw_V q1601 q1602 q1603 q101 q1604) ⟨rfl, nv_X1_speedOf⟩ ⟨by decide, by decide⟩ rfl (bl rfl) dX0_speedOf_4) 7 rfl (fun E => ?_) (fun x1 => ?_)
  · refine sx_if ?_ ?_
    · refine sx_catch C ht [] ⟨0, 9, 12, 21⟩ [⟨0, 9, 15, 13⟩] rfl (fun z hz => by cases hz) (by decide) (by decide) q1394 q1418 12 rfl (fun q => ?_)
      refine s_astore_n C dX0_speedOf_12 rfl (by decide) 13 rfl [(3, .ref q), (0, .ref p0), (1, .int p1), (2, .ref p2)] rfl ?_
      refine s_iconst (v := 1) C dX0_speedOf_13 (by decide) 14 rfl ?_
      exact s_iret C rfl rfl dX0_speedOf_14
    refine sx_if ?_ ?_
    · refine sx_catch C ht [⟨0, 9, 12, 21⟩] ⟨0, 9, 15, 13⟩ [] rfl (fun z hz => by
            simp only [List.mem_cons, List.not_mem_nil, or_false] at hz
            subst hz
            exact Or.inr ⟨by decide, "java/lang/IndexOutOfBoundsException", q1394, by decide +kernel⟩) (by decide) (by decide) q1329 q971 15 rfl (fun q => ?_)
      refine s_astore_n C dX0_speedOf_15 rfl (by decide) 16 rfl [(3, .ref q), (0, .ref p0), (1, .int p1), (2, .ref p2)] rfl ?_
      refine s_iconst (v := 2) C dX0_speedOf_16 (by decide) 17 rfl ?_
      exact s_iret C rfl rfl dX0_speedOf_17
    exact sx_n
  refine s_i2l C dX0_speedOf_7 8 rfl ?_
  refine s_last C hR hA dX0_speedOf_8 9 rfl ?_
  refine s_goto C dX0_speedOf_9 18 (by decide) ?_
  refine s_iconst (v := 0) C dX0_speedOf_18 (by decide) 19 rfl ?_
  exact s_iret C rfl rfl dX0_speedOf_19
theorem nv_X0_outputOf : yX0_outputOf.cls ≠ "java/lang/invoke/MethodHandle" ∧ yX0_outputOf.cls ≠ "java/lang/invoke/VarHandle" ∧ (parseMethodDescriptor yX0_outputOf.desc).map (fun d => d.parameters.length) = some 3 := by decide +kernel
theorem ct_X0_outputOf {l : Launch} (htr : l.stackTraces = false) (g : sm_G) (TA : Nat → Prop) (p0 : Nat) (p1 : Int32) (p2 : Nat) : sm_CH l g (so_R g TA) (so_A g TA) yX0_outputOf cX0_outputOf 4 (some .int) [(0, 9, 12, 21)] 9 150 [.ref p0, .int p1, .ref p2] em_i (f_X0_outputOf g p0 p1 p2) := by
  refine sm_ofH (own := "PatchCordsLaw") rfl rfl (bl rfl) (fun Y C hR hA hl hm ht => ?_)
  subst hl
  refine s_lv (L' := [(0, .ref p0), (1, .int p1), (2, .ref p2)]) [0, 1, 2] rfl ?_
  refine s_top ?_
  unfold f_X0_outputOf
  refine s_aload_n C dX0_outputOf_0 1 rfl 2 rfl ?_
  refine s_iconst (v := 0) C dX0_outputOf_1 (by decide) 2 rfl ?_
  refine s_aload_n C dX0_outputOf_2 3 rfl 0 rfl ?_
  refine s_iload_n C dX0_outputOf_3 4 rfl 1 rfl ?_
  refine s_callH_i (rx_V (As := [.int p1]) C (cx_at hR hA (cx_on (ct_X1_outputOf htr g TA p0 p1))) (rv_on C hR (q := vw_0) rfl) (lw_V q1608 q1609 q1610 q101 q1611) ⟨rfl, nv_X1_outputOf⟩ ⟨by decide, by decide⟩ rfl (bl rfl) dX0_outputOf_4) 7 rfl (fun E => ?_) (fun x1 => ?_)
  · refine sx_if ?_ ?_
    · refine sx_catch C ht [] ⟨0, 9, 12, 21⟩ [] rfl (fun z hz => by cases hz) (by decide) (by decide) q1394 q1418 12 rfl (fun q => ?_)
      refine s_astore_n C dX0_outputOf_12 rfl (by decide) 13 rfl [(3, .ref q), (0, .ref p0), (1, .int p1), (2, .ref p2)] rfl ?_
      refine s_iconst (v := 1) C dX0_outputOf_13 (by decide) 14 rfl ?_
      exact s_iret C rfl rfl dX0_outputOf_14
    exact sx_n
  refine s_i2l C dX0_outputOf_7 8 rfl ?_
  refine s_last C hR hA dX0_outputOf_8 9 rfl ?_
  refine s_goto C dX0_outputOf_9 15 (by decide) ?_
  refine s_iconst (v := 0) C dX0_outputOf_15 (by decide) 16 rfl ?_
  exact s_iret C rfl rfl dX0_outputOf_16
theorem nv_X0_outputByAsking : yX0_outputByAsking.cls ≠ "java/lang/invoke/MethodHandle" ∧ yX0_outputByAsking.cls ≠ "java/lang/invoke/VarHandle" ∧ (parseMethodDescriptor yX0_outputByAsking.desc).map (fun d => d.parameters.length) = some 3 := by decide +kernel
theorem ct_X0_outputByAsking {l : Launch} (htr : l.stackTraces = false) (g : sm_G) (TA : Nat → Prop) (p0 : Nat) (p1 : Int32) (p2 : Nat) : sm_CH l g (so_R g TA) (so_A g TA) yX0_outputByAsking cX0_outputByAsking 4 (some .int) [(0, 9, 12, 21)] 71 1530 [.ref p0, .int p1, .ref p2] em_i (f_X0_outputByAsking g p0 p1 p2) := by
  refine sm_ofH (own := "PatchCordsLaw") rfl rfl (bl rfl) (fun Y C hR hA hl hm ht => ?_)
  subst hl
  refine s_lv (L' := [(0, .ref p0), (1, .int p1), (2, .ref p2)]) [0, 1, 2] rfl ?_
  refine s_top ?_
  unfold f_X0_outputByAsking
  refine s_aload_n C dX0_outputByAsking_0 1 rfl 2 rfl ?_
  refine s_iconst (v := 0) C dX0_outputByAsking_1 (by decide) 2 rfl ?_
  refine s_aload_n C dX0_outputByAsking_2 3 rfl 0 rfl ?_
  refine s_iload_n C dX0_outputByAsking_3 4 rfl 1 rfl ?_
  refine s_callH_i (rx_V (As := [.int p1]) C (cx_at hR hA (cx_on (ct_X1_outputByAsking htr g TA p0 p1))) (rv_on C hR (q := vw_0) rfl) (lw_V q1619 q1620 q1621 q101 q1622) ⟨rfl, nv_X1_outputByAsking⟩ ⟨by decide, by decide⟩ rfl (bl rfl) dX0_outputByAsking_4) 7 rfl (fun E => ?_) (fun x1 => ?_)
  · refine sx_if ?_ ?_
    · refine sx_catch C ht [] ⟨0, 9, 12, 21⟩ [] rfl (fun z hz => by cases hz) (by decide) (by decide) q1394 q1418 12 rfl (fun q => ?_)
      refine s_astore_n C dX0_outputByAsking_12 rfl (by decide) 13 rfl [(3, .ref q), (0, .ref p0), (1, .int p1), (2, .ref p2)] rfl ?_
      refine s_iconst (v := 1) C dX0_outputByAsking_13 (by decide) 14 rfl ?_
      exact s_iret C rfl rfl dX0_outputByAsking_14
    exact sx_n
  refine s_i2l C dX0_outputByAsking_7 8 rfl ?_
  refine s_last C hR hA dX0_outputByAsking_8 9 rfl ?_
  refine s_goto C dX0_outputByAsking_9 15 (by decide) ?_
  refine s_iconst (v := 0) C dX0_outputByAsking_15 (by decide) 16 rfl ?_
  exact s_iret C rfl rfl dX0_outputByAsking_16
theorem nv_X0_inputOf : yX0_inputOf.cls ≠ "java/lang/invoke/MethodHandle" ∧ yX0_inputOf.cls ≠ "java/lang/invoke/VarHandle" ∧ (parseMethodDescriptor yX0_inputOf.desc).map (fun d => d.parameters.length) = some 4 := by decide +kernel
theorem ct_X0_inputOf {l : Launch} (htr : l.stackTraces = false) (g : sm_G) (TA : Nat → Prop) (p0 : Nat) (p1 : Int32) (p2 : Int32) (p3 : Nat) : sm_CH l g (so_R g TA) (so_A g TA) yX0_inputOf cX0_inputOf 5 (some .int) [(0, 10, 13, 21)] 10 168 [.ref p0, .int p1, .int p2, .ref p3] em_i (f_X0_inputOf g p0 p1 p2 p3) := by
  refine sm_ofH (own := "PatchCordsLaw") rfl rfl (bl rfl) (fun Y C hR hA hl hm ht => ?_)
  subst hl
  refine s_lv (L' := [(0, .ref p0), (1, .int p1), (2, .int p2), (3, .ref p3)]) [0, 1, 2, 3] rfl ?_
  refine s_top ?_
  unfold f_X0_inputOf
  refine s_aload_n C dX0_inputOf_0 1 rfl 3 rfl ?_
  refine s_iconst (v := 0) C dX0_inputOf_1 (by decide) 2 rfl ?_
  refine s_aload_n C dX0_inputOf_2 3 rfl 0 rfl ?_
  refine s_iload_n C dX0_inputOf_3 4 rfl 1 rfl ?_
  refine s_iload_n C dX0_inputOf_4 5 rfl 2 rfl ?_
  refine s_callH_i (rx_V (As := [.int p1, .int p2]) C (cx_at hR hA (cx_on (ct_X1_inputOf htr g TA p0 p1 p2))) (rv_on C hR (q := vw_0) rfl) (lw_V q1635 q1636 q1637 q101 q1638) ⟨rfl, nv_X1_inputOf⟩ ⟨by decide, by decide⟩ rfl (bl rfl) dX0_inputOf_5) 8 rfl (fun E => ?_) (fun x1 => ?_)
  · refine sx_if ?_ ?_
    · refine sx_catch C ht [] ⟨0, 10, 13, 21⟩ [] rfl (fun z hz => by cases hz) (by decide) (by decide) q1394 q1418 13 rfl (fun q => ?_)
      refine s_astore C dX0_inputOf_13 (by decide) 15 rfl [(4, .ref q), (0, .ref p0), (1, .int p1), (2, .int p2), (3, .ref p3)] rfl ?_
      refine s_iconst (v := 1) C dX0_inputOf_15 (by decide) 16 rfl ?_
      exact s_iret C rfl rfl dX0_inputOf_16
    exact sx_n
  refine s_i2l C dX0_inputOf_8 9 rfl ?_
  refine s_last C hR hA dX0_inputOf_9 10 rfl ?_
  refine s_goto C dX0_inputOf_10 17 (by decide) ?_
  refine s_iconst (v := 0) C dX0_inputOf_17 (by decide) 18 rfl ?_
  exact s_iret C rfl rfl dX0_inputOf_18
theorem nv_X0_chargeOf : yX0_chargeOf.cls ≠ "java/lang/invoke/MethodHandle" ∧ yX0_chargeOf.cls ≠ "java/lang/invoke/VarHandle" ∧ (parseMethodDescriptor yX0_chargeOf.desc).map (fun d => d.parameters.length) = some 3 := by decide +kernel
theorem ct_X0_chargeOf {l : Launch} (htr : l.stackTraces = false) (g : sm_G) (TA : Nat → Prop) (p0 : Nat) (p1 : Int32) (p2 : Nat) : sm_CH l g (so_R g TA) (so_A g TA) yX0_chargeOf cX0_chargeOf 4 (some .int) [(0, 9, 12, 21), (0, 9, 15, 13)] 10 166 [.ref p0, .int p1, .ref p2] em_i (f_X0_chargeOf g p0 p1 p2) := by
  refine sm_ofH (own := "PatchCordsLaw") rfl rfl (bl rfl) (fun Y C hR hA hl hm ht => ?_)
  subst hl
  refine s_lv (L' := [(0, .ref p0), (1, .int p1), (2, .ref p2)]) [0, 1, 2] rfl ?_
  refine s_top ?_
  unfold f_X0_chargeOf
  refine s_aload_n C dX0_chargeOf_0 1 rfl 2 rfl ?_
  refine s_iconst (v := 0) C dX0_chargeOf_1 (by decide) 2 rfl ?_
  refine s_aload_n C dX0_chargeOf_2 3 rfl 0 rfl ?_
  refine s_iload_n C dX0_chargeOf_3 4 rfl 1 rfl ?_
  refine s_callH_i (rx_V (As := [.int p1]) C (cx_at hR hA (cx_on (ct_X1_chargeOf htr g TA p0 p1))) (rv_on C hR (q := vw_0) rfl) (lw_V q1646 q1647 q1648 q101 q1649) ⟨rfl, nv_X1_chargeOf⟩ ⟨by decide, by decide⟩ rfl (bl rfl) dX0_chargeOf_4) 7 rfl (fun E => ?_) (fun x1 => ?_)
  · refine sx_if ?_ ?_
    · refine sx_catch C ht [] ⟨0, 9, 12, 21⟩ [⟨0, 9, 15, 13⟩] rfl (fun z hz => by cases hz) (by decide) (by decide) q1394 q1418 12 rfl (fun q => ?_)
      refine s_astore_n C dX0_chargeOf_12 rfl (by decide) 13 rfl [(3, .ref q), (0, .ref p0), (1, .int p1), (2, .ref p2)] rfl ?_
      refine s_iconst (v := 1) C dX0_chargeOf_13 (by decide) 14 rfl ?_
      exact s_iret C rfl rfl dX0_chargeOf_14
    refine sx_if ?_ ?_
    · refine sx_catch C ht [⟨0, 9, 12, 21⟩] ⟨0, 9, 15, 13⟩ [] rfl (fun z hz => by
            simp only [List.mem_cons, List.not_mem_nil, or_false] at hz
            subst hz
            exact Or.inr ⟨by decide, "java/lang/IndexOutOfBoundsException", q1394, by decide +kernel⟩) (by decide) (by decide) q1329 q971 15 rfl (fun q => ?_)
      refine s_astore_n C dX0_chargeOf_15 rfl (by decide) 16 rfl [(3, .ref q), (0, .ref p0), (1, .int p1), (2, .ref p2)] rfl ?_
      refine s_iconst (v := 2) C dX0_chargeOf_16 (by decide) 17 rfl ?_
      exact s_iret C rfl rfl dX0_chargeOf_17
    exact sx_n
  refine s_i2l C dX0_chargeOf_7 8 rfl ?_
  refine s_last C hR hA dX0_chargeOf_8 9 rfl ?_
  refine s_goto C dX0_chargeOf_9 18 (by decide) ?_
  refine s_iconst (v := 0) C dX0_chargeOf_18 (by decide) 19 rfl ?_
  exact s_iret C rfl rfl dX0_chargeOf_19
theorem nv_X0_rateOf : yX0_rateOf.cls ≠ "java/lang/invoke/MethodHandle" ∧ yX0_rateOf.cls ≠ "java/lang/invoke/VarHandle" ∧ (parseMethodDescriptor yX0_rateOf.desc).map (fun d => d.parameters.length) = some 3 := by decide +kernel
theorem ct_X0_rateOf {l : Launch} (htr : l.stackTraces = false) (g : sm_G) (TA : Nat → Prop) (p0 : Nat) (p1 : Int32) (p2 : Nat) : sm_CH l g (so_R g TA) (so_A g TA) yX0_rateOf cX0_rateOf 4 (some .int) [(0, 9, 12, 21), (0, 9, 15, 13)] 10 166 [.ref p0, .int p1, .ref p2] em_i (f_X0_rateOf g p0 p1 p2) := by
  refine sm_ofH (own := "PatchCordsLaw") rfl rfl (bl rfl) (fun Y C hR hA hl hm ht => ?_)
  subst hl
  refine s_lv (L' := [(0, .ref p0), (1, .int p1), (2, .ref p2)]) [0, 1, 2] rfl ?_
  refine s_top ?_
  unfold f_X0_rateOf
  refine s_aload_n C dX0_rateOf_0 1 rfl 2 rfl ?_
  refine s_iconst (v := 0) C dX0_rateOf_1 (by decide) 2 rfl ?_
  refine s_aload_n C dX0_rateOf_2 3 rfl 0 rfl ?_
  refine s_iload_n C dX0_rateOf_3 4 rfl 1 rfl ?_
  refine s_callH_i (rx_V (As := [.int p1]) C (cx_at hR hA (cx_on (ct_X1_rateOf htr g TA p0 p1))) (rv_on C hR (q := vw_0) rfl) (lw_V q1653 q1654 q1655 q101 q1656) ⟨rfl, nv_X1_rateOf⟩ ⟨by decide, by decide⟩ rfl (bl rfl) dX0_rateOf_4) 7 rfl (fun E => ?_) (fun x1 => ?_)
  · refine sx_if ?_ ?_
    · refine sx_catch C ht [] ⟨0, 9, 12, 21⟩ [⟨0, 9, 15, 13⟩] rfl (fun z hz => by cases hz) (by decide) (by decide) q1394 q1418 12 rfl (fun q => ?_)
      refine s_astore_n C dX0_rateOf_12 rfl (by decide) 13 rfl [(3, .ref q), (0, .ref p0), (1, .int p1), (2, .ref p2)] rfl ?_
      refine s_iconst (v := 1) C dX0_rateOf_13 (by decide) 14 rfl ?_
      exact s_iret C rfl rfl dX0_rateOf_14
    refine sx_if ?_ ?_
    · refine sx_catch C ht [⟨0, 9, 12, 21⟩] ⟨0, 9, 15, 13⟩ [] rfl (fun z hz => by
            simp only [List.mem_cons, List.not_mem_nil, or_false] at hz
            subst hz
            exact Or.inr ⟨by decide, "java/lang/IndexOutOfBoundsException", q1394, by decide +kernel⟩) (by decide) (by decide) q1329 q971 15 rfl (fun q => ?_)
      refine s_astore_n C dX0_rateOf_15 rfl (by decide) 16 rfl [(3, .ref q), (0, .ref p0), (1, .int p1), (2, .ref p2)] rfl ?_
      refine s_iconst (v := 2) C dX0_rateOf_16 (by decide) 17 rfl ?_
      exact s_iret C rfl rfl dX0_rateOf_17
    exact sx_n
  refine s_i2l C dX0_rateOf_7 8 rfl ?_
  refine s_last C hR hA dX0_rateOf_8 9 rfl ?_
  refine s_goto C dX0_rateOf_9 18 (by decide) ?_
  refine s_iconst (v := 0) C dX0_rateOf_18 (by decide) 19 rfl ?_
  exact s_iret C rfl rfl dX0_rateOf_19
theorem nv_X0_peakOf : yX0_peakOf.cls ≠ "java/lang/invoke/MethodHandle" ∧ yX0_peakOf.cls ≠ "java/lang/invoke/VarHandle" ∧ (parseMethodDescriptor yX0_peakOf.desc).map (fun d => d.parameters.length) = some 3 := by decide +kernel
theorem ct_X0_peakOf {l : Launch} (htr : l.stackTraces = false) (g : sm_G) (TA : Nat → Prop) (p0 : Nat) (p1 : Int32) (p2 : Nat) : sm_CH l g (so_R g TA) (so_A g TA) yX0_peakOf cX0_peakOf 4 (some .int) [(0, 9, 12, 21)] 9 144 [.ref p0, .int p1, .ref p2] em_i (f_X0_peakOf g p0 p1 p2) := by
  refine sm_ofH (own := "PatchCordsLaw") rfl rfl (bl rfl) (fun Y C hR hA hl hm ht => ?_)
  subst hl
  refine s_lv (L' := [(0, .ref p0), (1, .int p1), (2, .ref p2)]) [0, 1, 2] rfl ?_
  refine s_top ?_
  unfold f_X0_peakOf
  refine s_aload_n C dX0_peakOf_0 1 rfl 2 rfl ?_
  refine s_iconst (v := 0) C dX0_peakOf_1 (by decide) 2 rfl ?_
  refine s_aload_n C dX0_peakOf_2 3 rfl 0 rfl ?_
  refine s_iload_n C dX0_peakOf_3 4 rfl 1 rfl ?_
  refine s_callH_i (rx_V (As := [.int p1]) C (cx_at hR hA (cx_on (ct_X1_peakOf htr g TA p0 p1))) (rv_on C hR (q := vw_0) rfl) (lw_V q1660 q1661 q1662 q101 q1663) ⟨rfl, nv_X1_peakOf⟩ ⟨by decide, by decide⟩ rfl (bl rfl) dX0_peakOf_4) 7 rfl (fun E => ?_) (fun x1 => ?_)
  · refine sx_if ?_ ?_
    · refine sx_catch C ht [] ⟨0, 9, 12, 21⟩ [] rfl (fun z hz => by cases hz) (by decide) (by decide) q1394 q1418 12 rfl (fun q => ?_)
      refine s_astore_n C dX0_peakOf_12 rfl (by decide) 13 rfl [(3, .ref q), (0, .ref p0), (1, .int p1), (2, .ref p2)] rfl ?_
      refine s_iconst (v := 1) C dX0_peakOf_13 (by decide) 14 rfl ?_
      exact s_iret C rfl rfl dX0_peakOf_14
    exact sx_n
  refine s_i2l C dX0_peakOf_7 8 rfl ?_
  refine s_last C hR hA dX0_peakOf_8 9 rfl ?_
  refine s_goto C dX0_peakOf_9 15 (by decide) ?_
  refine s_iconst (v := 0) C dX0_peakOf_15 (by decide) 16 rfl ?_
  exact s_iret C rfl rfl dX0_peakOf_16
theorem nv_X0_scaleOf : yX0_scaleOf.cls ≠ "java/lang/invoke/MethodHandle" ∧ yX0_scaleOf.cls ≠ "java/lang/invoke/VarHandle" ∧ (parseMethodDescriptor yX0_scaleOf.desc).map (fun d => d.parameters.length) = some 3 := by decide +kernel
theorem ct_X0_scaleOf {l : Launch} (htr : l.stackTraces = false) (g : sm_G) (TA : Nat → Prop) (p0 : Nat) (p1 : Int32) (p2 : Nat) : sm_CH l g (so_R g TA) (so_A g TA) yX0_scaleOf cX0_scaleOf 4 (some .int) [(0, 9, 12, 21)] 9 144 [.ref p0, .int p1, .ref p2] em_i (f_X0_scaleOf g p0 p1 p2) := by
  refine sm_ofH (own := "PatchCordsLaw") rfl rfl (bl rfl) (fun Y C hR hA hl hm ht => ?_)
  subst hl
  refine s_lv (L' := [(0, .ref p0), (1, .int p1), (2, .ref p2)]) [0, 1, 2] rfl ?_
  refine s_top ?_
  unfold f_X0_scaleOf
  refine s_aload_n C dX0_scaleOf_0 1 rfl 2 rfl ?_
  refine s_iconst (v := 0) C dX0_scaleOf_1 (by decide) 2 rfl ?_
  refine s_aload_n C dX0_scaleOf_2 3 rfl 0 rfl ?_
  refine s_iload_n C dX0_scaleOf_3 4 rfl 1 rfl ?_
  refine s_callH_i (rx_V (As := [.int p1]) C (cx_at hR hA (cx_on (ct_X1_scaleOf htr g TA p0 p1))) (rv_on C hR (q := vw_0) rfl) (lw_V q1667 q1668 q1669 q101 q1670) ⟨rfl, nv_X1_scaleOf⟩ ⟨by decide, by decide⟩ rfl (bl rfl) dX0_scaleOf_4) 7 rfl (fun E => ?_) (fun x1 => ?_)
  · refine sx_if ?_ ?_
    · refine sx_catch C ht [] ⟨0, 9, 12, 21⟩ [] rfl (fun z hz => by cases hz) (by decide) (by decide) q1394 q1418 12 rfl (fun q => ?_)
      refine s_astore_n C dX0_scaleOf_12 rfl (by decide) 13 rfl [(3, .ref q), (0, .ref p0), (1, .int p1), (2, .ref p2)] rfl ?_
      refine s_iconst (v := 1) C dX0_scaleOf_13 (by decide) 14 rfl ?_
      exact s_iret C rfl rfl dX0_scaleOf_14
    exact sx_n
  refine s_i2l C dX0_scaleOf_7 8 rfl ?_
  refine s_last C hR hA dX0_scaleOf_8 9 rfl ?_
  refine s_goto C dX0_scaleOf_9 15 (by decide) ?_
  refine s_iconst (v := 0) C dX0_scaleOf_15 (by decide) 16 rfl ?_
  exact s_iret C rfl rfl dX0_scaleOf_16
theorem nv_X0_levelOf : yX0_levelOf.cls ≠ "java/lang/invoke/MethodHandle" ∧ yX0_levelOf.cls ≠ "java/lang/invoke/VarHandle" ∧ (parseMethodDescriptor yX0_levelOf.desc).map (fun d => d.parameters.length) = some 3 := by decide +kernel
theorem ct_X0_levelOf {l : Launch} (htr : l.stackTraces = false) (g : sm_G) (TA : Nat → Prop) (p0 : Nat) (p1 : Int32) (p2 : Nat) : sm_CH l g (so_R g TA) (so_A g TA) yX0_levelOf cX0_levelOf 4 (some .int) [(0, 9, 12, 21)] 9 144 [.ref p0, .int p1, .ref p2] em_i (f_X0_levelOf g p0 p1 p2) := by
  refine sm_ofH (own := "PatchCordsLaw") rfl rfl (bl rfl) (fun Y C hR hA hl hm ht => ?_)
  subst hl
  refine s_lv (L' := [(0, .ref p0), (1, .int p1), (2, .ref p2)]) [0, 1, 2] rfl ?_
  refine s_top ?_
  unfold f_X0_levelOf
  refine s_aload_n C dX0_levelOf_0 1 rfl 2 rfl ?_
  refine s_iconst (v := 0) C dX0_levelOf_1 (by decide) 2 rfl ?_
  refine s_aload_n C dX0_levelOf_2 3 rfl 0 rfl ?_
  refine s_iload_n C dX0_levelOf_3 4 rfl 1 rfl ?_
  refine s_callH_i (rx_V (As := [.int p1]) C (cx_at hR hA (cx_on (ct_X1_levelOf htr g TA p0 p1))) (rv_on C hR (q := vw_0) rfl) (lw_V q1674 q1675 q1676 q101 q1677) ⟨rfl, nv_X1_levelOf⟩ ⟨by decide, by decide⟩ rfl (bl rfl) dX0_levelOf_4) 7 rfl (fun E => ?_) (fun x1 => ?_)
  · refine sx_if ?_ ?_
    · refine sx_catch C ht [] ⟨0, 9, 12, 21⟩ [] rfl (fun z hz => by cases hz) (by decide) (by decide) q1394 q1418 12 rfl (fun q => ?_)
      refine s_astore_n C dX0_levelOf_12 rfl (by decide) 13 rfl [(3, .ref q), (0, .ref p0), (1, .int p1), (2, .ref p2)] rfl ?_
      refine s_iconst (v := 1) C dX0_levelOf_13 (by decide) 14 rfl ?_
      exact s_iret C rfl rfl dX0_levelOf_14
    exact sx_n
  refine s_i2l C dX0_levelOf_7 8 rfl ?_
  refine s_last C hR hA dX0_levelOf_8 9 rfl ?_
  refine s_goto C dX0_levelOf_9 15 (by decide) ?_
  refine s_iconst (v := 0) C dX0_levelOf_15 (by decide) 16 rfl ?_
  exact s_iret C rfl rfl dX0_levelOf_16
theorem nv_X0_feeders : yX0_feeders.cls ≠ "java/lang/invoke/MethodHandle" ∧ yX0_feeders.cls ≠ "java/lang/invoke/VarHandle" ∧ (parseMethodDescriptor yX0_feeders.desc).map (fun d => d.parameters.length) = some 3 := by decide +kernel
theorem ct_X0_feeders {l : Launch} (htr : l.stackTraces = false) (g : sm_G) (TA : Nat → Prop) (p0 : Nat) (p1 : Int32) (p2 : Nat) : sm_CH l g (so_R g TA) (so_A g TA) yX0_feeders cX0_feeders 4 (some .int) [(0, 9, 12, 21)] 9 144 [.ref p0, .int p1, .ref p2] em_i (f_X0_feeders g p0 p1 p2) := by
  refine sm_ofH (own := "PatchCordsLaw") rfl rfl (bl rfl) (fun Y C hR hA hl hm ht => ?_)
  subst hl
  refine s_lv (L' := [(0, .ref p0), (1, .int p1), (2, .ref p2)]) [0, 1, 2] rfl ?_
  refine s_top ?_
  unfold f_X0_feeders
  refine s_aload_n C dX0_feeders_0 1 rfl 2 rfl ?_
  refine s_iconst (v := 0) C dX0_feeders_1 (by decide) 2 rfl ?_
  refine s_aload_n C dX0_feeders_2 3 rfl 0 rfl ?_
  refine s_iload_n C dX0_feeders_3 4 rfl 1 rfl ?_
  refine s_callH_i (rx_V (As := [.int p1]) C (cx_at hR hA (cx_on (ct_X1_feeders htr g TA p0 p1))) (rv_on C hR (q := vw_0) rfl) (lw_V q1681 q1682 q1683 q101 q1684) ⟨rfl, nv_X1_feeders⟩ ⟨by decide, by decide⟩ rfl (bl rfl) dX0_feeders_4) 7 rfl (fun E => ?_) (fun x1 => ?_)
  · refine sx_if ?_ ?_
    · refine sx_catch C ht [] ⟨0, 9, 12, 21⟩ [] rfl (fun z hz => by cases hz) (by decide) (by decide) q1394 q1418 12 rfl (fun q => ?_)
      refine s_astore_n C dX0_feeders_12 rfl (by decide) 13 rfl [(3, .ref q), (0, .ref p0), (1, .int p1), (2, .ref p2)] rfl ?_
      refine s_iconst (v := 1) C dX0_feeders_13 (by decide) 14 rfl ?_
      exact s_iret C rfl rfl dX0_feeders_14
    exact sx_n
  refine s_i2l C dX0_feeders_7 8 rfl ?_
  refine s_last C hR hA dX0_feeders_8 9 rfl ?_
  refine s_goto C dX0_feeders_9 15 (by decide) ?_
  refine s_iconst (v := 0) C dX0_feeders_15 (by decide) 16 rfl ?_
  exact s_iret C rfl rfl dX0_feeders_16
theorem nv_X0_dependsOn : yX0_dependsOn.cls ≠ "java/lang/invoke/MethodHandle" ∧ yX0_dependsOn.cls ≠ "java/lang/invoke/VarHandle" ∧ (parseMethodDescriptor yX0_dependsOn.desc).map (fun d => d.parameters.length) = some 3 := by decide +kernel
theorem ct_X0_dependsOn {l : Launch} (htr : l.stackTraces = false) (g : sm_G) (TA : Nat → Prop) (p0 : Nat) (p1 : Int32) (p2 : Nat) : sm_CH l g (so_R g TA) (so_A g TA) yX0_dependsOn cX0_dependsOn 4 (some .int) [(0, 9, 12, 21)] 9 144 [.ref p0, .int p1, .ref p2] em_i (f_X0_dependsOn g p0 p1 p2) := by
  refine sm_ofH (own := "PatchCordsLaw") rfl rfl (bl rfl) (fun Y C hR hA hl hm ht => ?_)
  subst hl
  refine s_lv (L' := [(0, .ref p0), (1, .int p1), (2, .ref p2)]) [0, 1, 2] rfl ?_
  refine s_top ?_
  unfold f_X0_dependsOn
  refine s_aload_n C dX0_dependsOn_0 1 rfl 2 rfl ?_
  refine s_iconst (v := 0) C dX0_dependsOn_1 (by decide) 2 rfl ?_
  refine s_aload_n C dX0_dependsOn_2 3 rfl 0 rfl ?_
  refine s_iload_n C dX0_dependsOn_3 4 rfl 1 rfl ?_
  refine s_callH_i (rx_V (As := [.int p1]) C (cx_at hR hA (cx_on (ct_X1_dependsOn htr g TA p0 p1))) (rv_on C hR (q := vw_0) rfl) (lw_V q1689 q1690 q1691 q101 q1692) ⟨rfl, nv_X1_dependsOn⟩ ⟨by decide, by decide⟩ rfl (bl rfl) dX0_dependsOn_4) 7 rfl (fun E => ?_) (fun x1 => ?_)
  · refine sx_if ?_ ?_
    · refine sx_catch C ht [] ⟨0, 9, 12, 21⟩ [] rfl (fun z hz => by cases hz) (by decide) (by decide) q1394 q1418 12 rfl (fun q => ?_)
      refine s_astore_n C dX0_dependsOn_12 rfl (by decide) 13 rfl [(3, .ref q), (0, .ref p0), (1, .int p1), (2, .ref p2)] rfl ?_
      refine s_iconst (v := 1) C dX0_dependsOn_13 (by decide) 14 rfl ?_
      exact s_iret C rfl rfl dX0_dependsOn_14
    exact sx_n
  refine s_i2l C dX0_dependsOn_7 8 rfl ?_
  refine s_last C hR hA dX0_dependsOn_8 9 rfl ?_
  refine s_goto C dX0_dependsOn_9 15 (by decide) ?_
  refine s_iconst (v := 0) C dX0_dependsOn_15 (by decide) 16 rfl ?_
  exact s_iret C rfl rfl dX0_dependsOn_16
theorem nv_X0_dependsByTable : yX0_dependsByTable.cls ≠ "java/lang/invoke/MethodHandle" ∧ yX0_dependsByTable.cls ≠ "java/lang/invoke/VarHandle" ∧ (parseMethodDescriptor yX0_dependsByTable.desc).map (fun d => d.parameters.length) = some 3 := by decide +kernel
theorem ct_X0_dependsByTable {l : Launch} (htr : l.stackTraces = false) (g : sm_G) (TA : Nat → Prop) (p0 : Nat) (p1 : Int32) (p2 : Nat) : sm_CH l g (so_R g TA) (so_A g TA) yX0_dependsByTable cX0_dependsByTable 4 (some .int) [(0, 9, 12, 21)] 9 144 [.ref p0, .int p1, .ref p2] em_i (f_X0_dependsByTable g p0 p1 p2) := by
  refine sm_ofH (own := "PatchCordsLaw") rfl rfl (bl rfl) (fun Y C hR hA hl hm ht => ?_)
  subst hl
  refine s_lv (L' := [(0, .ref p0), (1, .int p1), (2, .ref p2)]) [0, 1, 2] rfl ?_
  refine s_top ?_
  unfold f_X0_dependsByTable
  refine s_aload_n C dX0_dependsByTable_0 1 rfl 2 rfl ?_
  refine s_iconst (v := 0) C dX0_dependsByTable_1 (by decide) 2 rfl ?_
  refine s_aload_n C dX0_dependsByTable_2 3 rfl 0 rfl ?_
  refine s_iload_n C dX0_dependsByTable_3 4 rfl 1 rfl ?_
  refine s_callH_i (rx_V (As := [.int p1]) C (cx_at hR hA (cx_on (ct_X1_dependsByTable htr g TA p0 p1))) (rv_on C hR (q := vw_0) rfl) (lw_V q1696 q1697 q1698 q101 q1699) ⟨rfl, nv_X1_dependsByTable⟩ ⟨by decide, by decide⟩ rfl (bl rfl) dX0_dependsByTable_4) 7 rfl (fun E => ?_) (fun x1 => ?_)
  · refine sx_if ?_ ?_
    · refine sx_catch C ht [] ⟨0, 9, 12, 21⟩ [] rfl (fun z hz => by cases hz) (by decide) (by decide) q1394 q1418 12 rfl (fun q => ?_)
      refine s_astore_n C dX0_dependsByTable_12 rfl (by decide) 13 rfl [(3, .ref q), (0, .ref p0), (1, .int p1), (2, .ref p2)] rfl ?_
      refine s_iconst (v := 1) C dX0_dependsByTable_13 (by decide) 14 rfl ?_
      exact s_iret C rfl rfl dX0_dependsByTable_14
    exact sx_n
  refine s_i2l C dX0_dependsByTable_7 8 rfl ?_
  refine s_last C hR hA dX0_dependsByTable_8 9 rfl ?_
  refine s_goto C dX0_dependsByTable_9 15 (by decide) ?_
  refine s_iconst (v := 0) C dX0_dependsByTable_15 (by decide) 16 rfl ?_
  exact s_iret C rfl rfl dX0_dependsByTable_16
theorem nv_X0_recordAt : yX0_recordAt.cls ≠ "java/lang/invoke/MethodHandle" ∧ yX0_recordAt.cls ≠ "java/lang/invoke/VarHandle" ∧ (parseMethodDescriptor yX0_recordAt.desc).map (fun d => d.parameters.length) = some 3 := by decide +kernel
theorem ct_X0_recordAt {l : Launch} (htr : l.stackTraces = false) (g : sm_G) (TA : Nat → Prop) (p0 : Nat) (p1 : Int32) (p2 : Nat) : sm_CH l g (so_R g TA) (so_A g TA) yX0_recordAt cX0_recordAt 4 (some .int) [(0, 9, 12, 21)] 8 123 [.ref p0, .int p1, .ref p2] em_i (f_X0_recordAt g p0 p1 p2) := by
  refine sm_ofH (own := "PatchCordsLaw") rfl rfl (bl rfl) (fun Y C hR hA hl hm ht => ?_)
  subst hl
  refine s_lv (L' := [(0, .ref p0), (1, .int p1), (2, .ref p2)]) [0, 1, 2] rfl ?_
  refine s_top ?_
  unfold f_X0_recordAt
  refine s_aload_n C dX0_recordAt_0 1 rfl 2 rfl ?_
  refine s_iconst (v := 0) C dX0_recordAt_1 (by decide) 2 rfl ?_
  refine s_aload_n C dX0_recordAt_2 3 rfl 0 rfl ?_
  refine s_iload_n C dX0_recordAt_3 4 rfl 1 rfl ?_
  refine s_callH_i (rx_V (As := [.int p1]) C (cx_at hR hA (cx_on (ct_X1_recordAt htr g TA p0 p1))) (rv_on C hR (q := vw_0) rfl) (lw_V q1707 q1708 q1709 q101 q1710) ⟨rfl, nv_X1_recordAt⟩ ⟨by decide, by decide⟩ rfl (bl rfl) dX0_recordAt_4) 7 rfl (fun E => ?_) (fun x1 => ?_)
  · refine sx_if ?_ ?_
    · refine sx_catch C ht [] ⟨0, 9, 12, 21⟩ [] rfl (fun z hz => by cases hz) (by decide) (by decide) q1394 q1418 12 rfl (fun q => ?_)
      refine s_astore_n C dX0_recordAt_12 rfl (by decide) 13 rfl [(3, .ref q), (0, .ref p0), (1, .int p1), (2, .ref p2)] rfl ?_
      refine s_iconst (v := 1) C dX0_recordAt_13 (by decide) 14 rfl ?_
      exact s_iret C rfl rfl dX0_recordAt_14
    exact sx_n
  refine s_i2l C dX0_recordAt_7 8 rfl ?_
  refine s_last C hR hA dX0_recordAt_8 9 rfl ?_
  refine s_goto C dX0_recordAt_9 15 (by decide) ?_
  refine s_iconst (v := 0) C dX0_recordAt_15 (by decide) 16 rfl ?_
  exact s_iret C rfl rfl dX0_recordAt_16
theorem nv_X0_wouldCircle : yX0_wouldCircle.cls ≠ "java/lang/invoke/MethodHandle" ∧ yX0_wouldCircle.cls ≠ "java/lang/invoke/VarHandle" ∧ (parseMethodDescriptor yX0_wouldCircle.desc).map (fun d => d.parameters.length) = some 4 := by decide +kernel
theorem ct_X0_wouldCircle {l : Launch} (htr : l.stackTraces = false) (g : sm_G) (TA : Nat → Prop) (p0 : Nat) (p1 : Int32) (p2 : Int32) (p3 : Nat) : sm_CH l g (so_R g TA) (so_A g TA) yX0_wouldCircle cX0_wouldCircle 5 (some .int) [(0, 17, 20, 21)] 9 154 [.ref p0, .int p1, .int p2, .ref p3] em_i (f_X0_wouldCircle g p0 p1 p2 p3) := by
  refine sm_ofH (own := "PatchCordsLaw") rfl rfl (bl rfl) (fun Y C hR hA hl hm ht => ?_)
  subst hl
  refine s_lv (L' := [(0, .ref p0), (1, .int p1), (2, .int p2), (3, .ref p3)]) [0, 1, 2, 3] rfl ?_
  refine s_top ?_
  unfold f_X0_wouldCircle
  refine s_aload_n C dX0_wouldCircle_0 1 rfl 3 rfl ?_
  refine s_iconst (v := 0) C dX0_wouldCircle_1 (by decide) 2 rfl ?_
  refine s_aload_n C dX0_wouldCircle_2 3 rfl 0 rfl ?_
  refine s_iload_n C dX0_wouldCircle_3 4 rfl 1 rfl ?_
  refine s_iload_n C dX0_wouldCircle_4 5 rfl 2 rfl ?_
  refine s_callH_i (rx_V (As := [.int p1, .int p2]) C (cx_at hR hA (cx_on (ct_X1_wouldCircle htr g TA p0 p1 p2))) (rv_on C hR (q := vw_0) rfl) (lw_V q1714 q1715 q1716 q101 q1717) ⟨rfl, nv_X1_wouldCircle⟩ ⟨by decide, by decide⟩ rfl (bl rfl) dX0_wouldCircle_5) 8 rfl (fun E => ?_) (fun x1 => ?_)
  · refine sx_if ?_ ?_
    · refine sx_catch C ht [] ⟨0, 17, 20, 21⟩ [] rfl (fun z hz => by cases hz) (by decide) (by decide) q1394 q1418 20 rfl (fun q => ?_)
      refine s_astore C dX0_wouldCircle_20 (by decide) 22 rfl [(4, .ref q), (0, .ref p0), (1, .int p1), (2, .int p2), (3, .ref p3)] rfl ?_
      refine s_iconst (v := 1) C dX0_wouldCircle_22 (by decide) 23 rfl ?_
      exact s_iret C rfl rfl dX0_wouldCircle_23
    exact sx_n
  refine s_cut (J := 16) (LJ := (fun (v2 : Int64) => [])) (SJ := (fun (v2 : Int64) => [.long v2, .int 0, .ref p3])) (fun v2 => ?_) (fun _ _ hK3 => ?_)
  · refine s_last C hR hA dX0_wouldCircle_16 17 rfl ?_
    refine s_goto C dX0_wouldCircle_17 24 (by decide) ?_
    refine s_iconst (v := 0) C dX0_wouldCircle_24 (by decide) 25 rfl ?_
    exact s_iret C rfl rfl dX0_wouldCircle_25
  · refine s_if_eq C dX0_wouldCircle_8 15 11 (by decide) rfl ?_ ?_
    · refine s_lconst (v := 0) C dX0_wouldCircle_15 (by decide) 16 rfl ?_
      refine s_r ?_
      refine s_lv [] rfl ?_
      exact hK3 0
    · refine s_lconst (v := 1) C dX0_wouldCircle_11 (by decide) 12 rfl ?_
      refine s_goto C dX0_wouldCircle_12 16 (by decide) ?_
      refine s_r ?_
      refine s_lv [] rfl ?_
      exact hK3 1
theorem nv_X0_outputIn : yX0_outputIn.cls ≠ "java/lang/invoke/MethodHandle" ∧ yX0_outputIn.cls ≠ "java/lang/invoke/VarHandle" ∧ (parseMethodDescriptor yX0_outputIn.desc).map (fun d => d.parameters.length) = some 4 := by decide +kernel
theorem ct_X0_outputIn {l : Launch} (htr : l.stackTraces = false) (g : sm_G) (TA : Nat → Prop) (p0 : Nat) (p1 : Int32) (p2 : Int32) (p3 : Nat) : sm_CH l g (so_R g TA) (so_A g TA) yX0_outputIn cX0_outputIn 5 (some .int) [(0, 10, 13, 21), (0, 10, 17, 13)] 10 226 [.ref p0, .int p1, .int p2, .ref p3] em_i (f_X0_outputIn g p0 p1 p2 p3) := by
  refine sm_ofH (own := "PatchCordsLaw") rfl rfl (bl rfl) (fun Y C hR hA hl hm ht => ?_)
  subst hl
  refine s_lv (L' := [(0, .ref p0), (1, .int p1), (2, .int p2), (3, .ref p3)]) [0, 1, 2, 3] rfl ?_
  refine s_top ?_
  unfold f_X0_outputIn
  refine s_aload_n C dX0_outputIn_0 1 rfl 3 rfl ?_
  refine s_iconst (v := 0) C dX0_outputIn_1 (by decide) 2 rfl ?_
  refine s_aload_n C dX0_outputIn_2 3 rfl 0 rfl ?_
  refine s_iload_n C dX0_outputIn_3 4 rfl 1 rfl ?_
  refine s_iload_n C dX0_outputIn_4 5 rfl 2 rfl ?_
  refine s_callH_i (rx_V (As := [.int p1, .int p2]) C (cx_at hR hA (cx_on (ct_X1_outputIn htr g TA p0 p1 p2))) (rv_on C hR (q := vw_0) rfl) (lw_V q1721 q1722 q1723 q101 q1724) ⟨rfl, nv_X1_outputIn⟩ ⟨by decide, by decide⟩ rfl (bl rfl) dX0_outputIn_5) 8 rfl (fun E => ?_) (fun x1 => ?_)
  · refine sx_if ?_ ?_
    · refine sx_catch C ht [] ⟨0, 10, 13, 21⟩ [⟨0, 10, 17, 13⟩] rfl (fun z hz => by cases hz) (by decide) (by decide) q1394 q1418 13 rfl (fun q => ?_)
      refine s_astore C dX0_outputIn_13 (by decide) 15 rfl [(4, .ref q), (0, .ref p0), (1, .int p1), (2, .int p2), (3, .ref p3)] rfl ?_
      refine s_iconst (v := 1) C dX0_outputIn_15 (by decide) 16 rfl ?_
      exact s_iret C rfl rfl dX0_outputIn_16
    refine sx_if ?_ ?_
    · refine sx_catch C ht [⟨0, 10, 13, 21⟩] ⟨0, 10, 17, 13⟩ [] rfl (fun z hz => by
            simp only [List.mem_cons, List.not_mem_nil, or_false] at hz
            subst hz
            exact Or.inr ⟨by decide, "java/lang/IndexOutOfBoundsException", q1394, by decide +kernel⟩) (by decide) (by decide) q1329 q971 17 rfl (fun q => ?_)
      refine s_astore C dX0_outputIn_17 (by decide) 19 rfl [(4, .ref q), (0, .ref p0), (1, .int p1), (2, .int p2), (3, .ref p3)] rfl ?_
      refine s_iconst (v := 2) C dX0_outputIn_19 (by decide) 20 rfl ?_
      exact s_iret C rfl rfl dX0_outputIn_20
    exact sx_n
  refine s_i2l C dX0_outputIn_8 9 rfl ?_
  refine s_last C hR hA dX0_outputIn_9 10 rfl ?_
  refine s_goto C dX0_outputIn_10 21 (by decide) ?_
  refine s_iconst (v := 0) C dX0_outputIn_21 (by decide) 22 rfl ?_
  exact s_iret C rfl rfl dX0_outputIn_22
theorem nv_X0_bestFactor : yX0_bestFactor.cls ≠ "java/lang/invoke/MethodHandle" ∧ yX0_bestFactor.cls ≠ "java/lang/invoke/VarHandle" ∧ (parseMethodDescriptor yX0_bestFactor.desc).map (fun d => d.parameters.length) = some 5 := by decide +kernel
theorem ct_X0_bestFactor {l : Launch} (htr : l.stackTraces = false) (g : sm_G) (TA : Nat → Prop) (p0 : Nat) (p1 : Int32) (p2 : Int32) (p3 : Int32) (p4 : Nat) : sm_CH l g (so_R g TA) (so_A g TA) yX0_bestFactor cX0_bestFactor 6 (some .int) [(0, 12, 15, 21), (0, 12, 19, 13)] 11 254 [.ref p0, .int p1, .int p2, .int p3, .ref p4] em_i (f_X0_bestFactor g p0 p1 p2 p3 p4) := by
  refine sm_ofH (own := "PatchCordsLaw") rfl rfl (bl rfl) (fun Y C hR hA hl hm ht => ?_)
  subst hl
  refine s_lv (L' := [(0, .ref p0), (1, .int p1), (2, .int p2), (3, .int p3), (4, .ref p4)]) [0, 1, 2, 3, 4] rfl ?_
  refine s_top ?_
  unfold f_X0_bestFactor
  refine s_aload C dX0_bestFactor_0 2 rfl 4 rfl ?_
  refine s_iconst (v := 0) C dX0_bestFactor_2 (by decide) 3 rfl ?_
  refine s_aload_n C dX0_bestFactor_3 4 rfl 0 rfl ?_
  refine s_iload_n C dX0_bestFactor_4 5 rfl 1 rfl ?_
  refine s_iload_n C dX0_bestFactor_5 6 rfl 2 rfl ?_
  refine s_iload_n C dX0_bestFactor_6 7 rfl 3 rfl ?_
  refine s_callH_i (rx_V (As := [.int p1, .int p2, .int p3]) C (cx_at hR hA (cx_on (ct_X1_bestFactor htr g TA p0 p1 p2 p3))) (rv_on C hR (q := vw_0) rfl) (lw_V q1728 q1729 q1730 q101 q1731) ⟨rfl, nv_X1_bestFactor⟩ ⟨by decide, by decide⟩ rfl (bl rfl) dX0_bestFactor_7) 10 rfl (fun E => ?_) (fun x1 => ?_)
  · refine sx_if ?_ ?_
    · refine sx_catch C ht [] ⟨0, 12, 15, 21⟩ [⟨0, 12, 19, 13⟩] rfl (fun z hz => by cases hz) (by decide) (by decide) q1394 q1418 15 rfl (fun q => ?_)
      refine s_astore C dX0_bestFactor_15 (by decide) 17 rfl [(5, .ref q), (0, .ref p0), (1, .int p1), (2, .int p2), (3, .int p3), (4, .ref p4)] rfl ?_
      refine s_iconst (v := 1) C dX0_bestFactor_17 (by decide) 18 rfl ?_
      exact s_iret C rfl rfl dX0_bestFactor_18
    refine sx_if ?_ ?_
    · refine sx_catch C ht [⟨0, 12, 15, 21⟩] ⟨0, 12, 19, 13⟩ [] rfl (fun z hz => by
            simp only [List.mem_cons, List.not_mem_nil, or_false] at hz
            subst hz
            exact Or.inr ⟨by decide, "java/lang/IndexOutOfBoundsException", q1394, by decide +kernel⟩) (by decide) (by decide) q1329 q971 19 rfl (fun q => ?_)
      refine s_astore C dX0_bestFactor_19 (by decide) 21 rfl [(5, .ref q), (0, .ref p0), (1, .int p1), (2, .int p2), (3, .int p3), (4, .ref p4)] rfl ?_
      refine s_iconst (v := 2) C dX0_bestFactor_21 (by decide) 22 rfl ?_
      exact s_iret C rfl rfl dX0_bestFactor_22
    exact sx_n
  refine s_i2l C dX0_bestFactor_10 11 rfl ?_
  refine s_last C hR hA dX0_bestFactor_11 12 rfl ?_
  refine s_goto C dX0_bestFactor_12 23 (by decide) ?_
  refine s_iconst (v := 0) C dX0_bestFactor_23 (by decide) 24 rfl ?_
  exact s_iret C rfl rfl dX0_bestFactor_24
theorem nv_X0_goBack : yX0_goBack.cls ≠ "java/lang/invoke/MethodHandle" ∧ yX0_goBack.cls ≠ "java/lang/invoke/VarHandle" ∧ (parseMethodDescriptor yX0_goBack.desc).map (fun d => d.parameters.length) = some 2 := by decide +kernel
theorem ct_X0_goBack {l : Launch} (htr : l.stackTraces = false) (g : sm_G) (TA : Nat → Prop) (p0 : Nat) (p1 : Nat) : sm_CH l g (so_R g TA) (so_A g TA) yX0_goBack cX0_goBack 3 (some .int) [(0, 8, 11, 15)] 9 202 [.ref p0, .ref p1] em_i (f_X0_goBack g p0 p1) := by
  refine sm_ofH (own := "PatchCordsLaw") rfl rfl (bl rfl) (fun Y C hR hA hl hm ht => ?_)
  subst hl
  refine s_lv (L' := [(0, .ref p0), (1, .ref p1)]) [0, 1] rfl ?_
  refine s_top ?_
  unfold f_X0_goBack
  refine s_aload_n C dX0_goBack_0 1 rfl 1 rfl ?_
  refine s_iconst (v := 0) C dX0_goBack_1 (by decide) 2 rfl ?_
  refine s_aload_n C dX0_goBack_2 3 rfl 0 rfl ?_
  refine s_callH_i (rx_V (As := []) C (cx_at hR hA (cx_on (ct_X1_goBack htr g TA p0))) (rv_on C hR (q := vw_0) rfl) (lw_V q1742 q1743 q1744 q101 q1745) ⟨rfl, nv_X1_goBack⟩ ⟨by decide, by decide⟩ rfl (bl rfl) dX0_goBack_3) 6 rfl (fun E => ?_) (fun x1 => ?_)
  · refine sx_if ?_ ?_
    · refine sx_catch C ht [] ⟨0, 8, 11, 15⟩ [] rfl (fun z hz => by cases hz) (by decide) (by decide) q1330 q1355 11 rfl (fun q => ?_)
      refine s_astore_n C dX0_goBack_11 rfl (by decide) 12 rfl [(2, .ref q), (0, .ref p0), (1, .ref p1)] rfl ?_
      refine s_iconst (v := 1) C dX0_goBack_12 (by decide) 13 rfl ?_
      exact s_iret C rfl rfl dX0_goBack_13
    exact sx_n
  refine s_i2l C dX0_goBack_6 7 rfl ?_
  refine s_last C hR hA dX0_goBack_7 8 rfl ?_
  refine s_goto C dX0_goBack_8 14 (by decide) ?_
  refine s_iconst (v := 0) C dX0_goBack_14 (by decide) 15 rfl ?_
  exact s_iret C rfl rfl dX0_goBack_15
theorem nv_X0_append : yX0_append.cls ≠ "java/lang/invoke/MethodHandle" ∧ yX0_append.cls ≠ "java/lang/invoke/VarHandle" ∧ (parseMethodDescriptor yX0_append.desc).map (fun d => d.parameters.length) = some 3 := by decide +kernel
theorem ct_X0_append {l : Launch} (htr : l.stackTraces = false) (g : sm_G) (TA : Nat → Prop) (p0 : Nat) (p1 : Int32) (p2 : Nat) : sm_CH l g (so_R g TA) (so_A g TA) yX0_append cX0_append 4 (some .int) [(0, 9, 12, 13), (0, 9, 15, 15)] 8 124 [.ref p0, .int p1, .ref p2] em_i (f_X0_append g p0 p1 p2) := by
  refine sm_ofH (own := "PatchCordsLaw") rfl rfl (bl rfl) (fun Y C hR hA hl hm ht => ?_)
  subst hl
  refine s_lv (L' := [(0, .ref p0), (1, .int p1), (2, .ref p2)]) [0, 1, 2] rfl ?_
  refine s_top ?_
  unfold f_X0_append
  refine s_aload_n C dX0_append_0 1 rfl 2 rfl ?_
  refine s_iconst (v := 0) C dX0_append_1 (by decide) 2 rfl ?_
  refine s_aload_n C dX0_append_2 3 rfl 0 rfl ?_
  refine s_iload_n C dX0_append_3 4 rfl 1 rfl ?_
  refine s_callH_i (rx_V (As := [.int p1]) C (cx_at hR hA (cx_on (ct_X1_append htr g TA p0 p1))) (rv_on C hR (q := vw_0) rfl) (lw_V q1749 q1750 q1751 q101 q1752) ⟨rfl, nv_X1_append⟩ ⟨by decide, by decide⟩ rfl (bl rfl) dX0_append_4) 7 rfl (fun E => ?_) (fun x1 => ?_)
  · refine sx_if ?_ ?_
    · refine sx_catch C ht [] ⟨0, 9, 12, 13⟩ [⟨0, 9, 15, 15⟩] rfl (fun z hz => by cases hz) (by decide) (by decide) q1329 q971 12 rfl (fun q => ?_)
      refine s_astore_n C dX0_append_12 rfl (by decide) 13 rfl [(3, .ref q), (0, .ref p0), (1, .int p1), (2, .ref p2)] rfl ?_
      refine s_iconst (v := 1) C dX0_append_13 (by decide) 14 rfl ?_
      exact s_iret C rfl rfl dX0_append_14
    refine sx_if ?_ ?_
    · refine sx_catch C ht [⟨0, 9, 12, 13⟩] ⟨0, 9, 15, 15⟩ [] rfl (fun z hz => by
            simp only [List.mem_cons, List.not_mem_nil, or_false] at hz
            subst hz
            exact Or.inr ⟨by decide, "java/lang/IllegalArgumentException", q1329, by decide +kernel⟩) (by decide) (by decide) q1330 q1355 15 rfl (fun q => ?_)
      refine s_astore_n C dX0_append_15 rfl (by decide) 16 rfl [(3, .ref q), (0, .ref p0), (1, .int p1), (2, .ref p2)] rfl ?_
      refine s_iconst (v := 2) C dX0_append_16 (by decide) 17 rfl ?_
      exact s_iret C rfl rfl dX0_append_17
    exact sx_n
  refine s_i2l C dX0_append_7 8 rfl ?_
  refine s_last C hR hA dX0_append_8 9 rfl ?_
  refine s_goto C dX0_append_9 18 (by decide) ?_
  refine s_iconst (v := 0) C dX0_append_18 (by decide) 19 rfl ?_
  exact s_iret C rfl rfl dX0_append_19
theorem nv_X0_patch : yX0_patch.cls ≠ "java/lang/invoke/MethodHandle" ∧ yX0_patch.cls ≠ "java/lang/invoke/VarHandle" ∧ (parseMethodDescriptor yX0_patch.desc).map (fun d => d.parameters.length) = some 2 := by decide +kernel
theorem ct_X0_patch {l : Launch} (htr : l.stackTraces = false) (g : sm_G) (TA : Nat → Prop) (p0 : Nat) (p1 : Nat) : sm_CH l g (so_R g TA) (so_A g TA) yX0_patch cX0_patch 3 (some .int) [(0, 8, 11, 15)] 11 242 [.ref p0, .ref p1] em_i (f_X0_patch g p0 p1) := by
  refine sm_ofH (own := "PatchCordsLaw") rfl rfl (bl rfl) (fun Y C hR hA hl hm ht => ?_)
  subst hl
  refine s_lv (L' := [(0, .ref p0), (1, .ref p1)]) [0, 1] rfl ?_
  refine s_top ?_
  unfold f_X0_patch
  refine s_aload_n C dX0_patch_0 1 rfl 1 rfl ?_
  refine s_iconst (v := 0) C dX0_patch_1 (by decide) 2 rfl ?_
  refine s_aload_n C dX0_patch_2 3 rfl 0 rfl ?_
  refine s_callH_i (rx_V (As := []) C (cx_at hR hA (cx_on (ct_X1_patch htr g TA p0))) (rv_on C hR (q := vw_0) rfl) (lw_V q1773 q1774 q1775 q101 q1776) ⟨rfl, nv_X1_patch⟩ ⟨by decide, by decide⟩ rfl (bl rfl) dX0_patch_3) 6 rfl (fun E => ?_) (fun x1 => ?_)
  · refine sx_if ?_ ?_
    · refine sx_catch C ht [] ⟨0, 8, 11, 15⟩ [] rfl (fun z hz => by cases hz) (by decide) (by decide) q1330 q1355 11 rfl (fun q => ?_)
      refine s_astore_n C dX0_patch_11 rfl (by decide) 12 rfl [(2, .ref q), (0, .ref p0), (1, .ref p1)] rfl ?_
      refine s_iconst (v := 1) C dX0_patch_12 (by decide) 13 rfl ?_
      exact s_iret C rfl rfl dX0_patch_13
    exact sx_n
  refine s_i2l C dX0_patch_6 7 rfl ?_
  refine s_last C hR hA dX0_patch_7 8 rfl ?_
  refine s_goto C dX0_patch_8 14 (by decide) ?_
  refine s_iconst (v := 0) C dX0_patch_14 (by decide) 15 rfl ?_
  exact s_iret C rfl rfl dX0_patch_15
theorem nv_X0_undo : yX0_undo.cls ≠ "java/lang/invoke/MethodHandle" ∧ yX0_undo.cls ≠ "java/lang/invoke/VarHandle" ∧ (parseMethodDescriptor yX0_undo.desc).map (fun d => d.parameters.length) = some 2 := by decide +kernel
theorem ct_X0_undo {l : Launch} (htr : l.stackTraces = false) (g : sm_G) (TA : Nat → Prop) (p0 : Nat) (p1 : Nat) : sm_CH l g (so_R g TA) (so_A g TA) yX0_undo cX0_undo 3 (some .int) [(0, 8, 11, 15)] 8 121 [.ref p0, .ref p1] em_i (f_X0_undo g p0 p1) := by
  refine sm_ofH (own := "PatchCordsLaw") rfl rfl (bl rfl) (fun Y C hR hA hl hm ht => ?_)
  subst hl
  refine s_lv (L' := [(0, .ref p0), (1, .ref p1)]) [0, 1] rfl ?_
  refine s_top ?_
  unfold f_X0_undo
  refine s_aload_n C dX0_undo_0 1 rfl 1 rfl ?_
  refine s_iconst (v := 0) C dX0_undo_1 (by decide) 2 rfl ?_
  refine s_aload_n C dX0_undo_2 3 rfl 0 rfl ?_
  refine s_callH_i (rx_V (As := []) C (cx_at hR hA (cx_on (ct_X1_undo htr g TA p0))) (rv_on C hR (q := vw_0) rfl) (lw_V q1794 q1795 q1796 q101 q1797) ⟨rfl, nv_X1_undo⟩ ⟨by decide, by decide⟩ rfl (bl rfl) dX0_undo_3) 6 rfl (fun E => ?_) (fun x1 => ?_)
  · refine sx_if ?_ ?_
    · refine sx_catch C ht [] ⟨0, 8, 11, 15⟩ [] rfl (fun z hz => by cases hz) (by decide) (by decide) q1330 q1355 11 rfl (fun q => ?_)
      refine s_astore_n C dX0_undo_11 rfl (by decide) 12 rfl [(2, .ref q), (0, .ref p0), (1, .ref p1)] rfl ?_
      refine s_iconst (v := 1) C dX0_undo_12 (by decide) 13 rfl ?_
      exact s_iret C rfl rfl dX0_undo_13
    exact sx_n
  refine s_i2l C dX0_undo_6 7 rfl ?_
  refine s_last C hR hA dX0_undo_7 8 rfl ?_
  refine s_goto C dX0_undo_8 14 (by decide) ?_
  refine s_iconst (v := 0) C dX0_undo_14 (by decide) 15 rfl ?_
  exact s_iret C rfl rfl dX0_undo_15
