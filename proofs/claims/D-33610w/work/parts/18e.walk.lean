/-! THE WALKS -/
theorem nv_X2_wouldCircle : yX2_wouldCircle.cls ≠ "java/lang/invoke/MethodHandle" ∧ yX2_wouldCircle.cls ≠ "java/lang/invoke/VarHandle" ∧ (parseMethodDescriptor yX2_wouldCircle.desc).map (fun d => d.parameters.length) = some 2 := by decide +kernel
theorem ct_X2_wouldCircle {l : Launch} (g : sm_G) (TA : Nat → Prop) (a0 : Nat) (p0 : Int32) (p1 : Int32) : sm_CT l g (so_R g TA) (so_A g TA) yX2_wouldCircle cX2_wouldCircle 4 (some .boolean) 5 109 [.ref a0, .int p0, .int p1] em_i (f_X2_wouldCircle g a0 p0 p1) := by
  refine sm_of (own := "PatchCords$Panel") rfl rfl (bl rfl) (fun Y C hR hA hl hm => ?_)
  subst hl
  refine s_lv (L' := [(0, .ref a0), (1, .int p0), (2, .int p1)]) [0, 1, 2] rfl ?_
  refine s_top ?_
  unfold f_X2_wouldCircle
  refine s_aload_n C dX2_wouldCircle_0 1 rfl 0 rfl ?_
  refine s_iload_n C dX2_wouldCircle_1 2 rfl 1 rfl ?_
  refine s_call_r (rn_V (As := [.int p0]) C (ct_at hR hA (ct_on (ct_X2_part g TA a0 p0))) (rv_on C hR (q := vw_1) rfl) (lw_V q562 q563 q564 q102 q565) ⟨rfl, nv_X2_part⟩ ⟨by decide, by decide⟩ rfl (bl rfl) dX2_wouldCircle_2) 5 rfl (fun x1 => ?_)
  refine s_inst C hR q739 io_Integrator dX2_wouldCircle_5 8 rfl (fun x2 => ?_)
  refine s_cut (J := 27) (LJ := (fun (v3 : Int32) => [(0, .ref a0), (1, .int p0), (2, .int p1)])) (SJ := (fun (v3 : Int32) => [.int v3])) (fun v3 => ?_) (fun _ _ hK4 => ?_)
  · refine s_istore_n C dX2_wouldCircle_27 rfl (by decide) 28 rfl [(3, .int v3), (0, .ref a0), (1, .int p0), (2, .int p1)] rfl ?_
    refine s_iload_n C dX2_wouldCircle_28 29 rfl 0 rfl ?_
    refine s_cut (J := 49) (LJ := (fun (v7 : Int32) => [])) (SJ := (fun (v7 : Int32) => [.int v7])) (fun v7 => ?_) (fun _ _ hK8 => ?_)
    · refine s_zb (fun h => ?_)
      exact s_iret C rfl (s_zn h) dX2_wouldCircle_49
    · refine s_if_ne C dX2_wouldCircle_29 48 32 (by decide) rfl ?_ ?_
      · refine s_aload_n C dX2_wouldCircle_32 33 rfl 1 rfl ?_
        refine s_iload_n C dX2_wouldCircle_33 34 rfl 2 rfl ?_
        refine s_call_i (rn_V (As := [.int p0]) C (ct_at hR hA (ct_on (ct_X2_dependsAtOnce g TA a0 p0))) (rv_on C hR (q := vw_1) rfl) (lw_V q1492 q1494 qs30 q102 q1495) ⟨rfl, nv_X2_dependsAtOnce⟩ ⟨by decide, by decide⟩ rfl (bl rfl) dX2_wouldCircle_34) 37 rfl (fun x9 => ?_)
        refine s_iload_n C dX2_wouldCircle_37 38 rfl 3 rfl ?_
        refine s_call_i (rn_SN (As := [.int x9, .int p1]) C (ct_at hR hA (ct_X1_has g TA x9 p1)) q688 q639 q101 q640 nv_X1_has ⟨by decide, by decide⟩ rfl (bl rfl) dX2_wouldCircle_38) 41 rfl (fun x10 => ?_)
        refine s_if_eq C dX2_wouldCircle_41 48 44 (by decide) rfl ?_ ?_
        · refine s_iconst (v := 0) C dX2_wouldCircle_48 (by decide) 49 rfl ?_
          refine s_r ?_
          refine s_lv [] rfl ?_
          exact hK8 0
        · refine s_iconst (v := 1) C dX2_wouldCircle_44 (by decide) 45 rfl ?_
          refine s_goto C dX2_wouldCircle_45 49 (by decide) ?_
          refine s_r ?_
          refine s_lv [] rfl ?_
          exact hK8 1
      · refine s_iconst (v := 0) C dX2_wouldCircle_48 (by decide) 49 rfl ?_
        refine s_r ?_
        refine s_lv [] rfl ?_
        exact hK8 0
  · refine s_if_ne C dX2_wouldCircle_8 22 11 (by decide) rfl ?_ ?_
    · refine s_aload_n C dX2_wouldCircle_11 12 rfl 0 rfl ?_
      refine s_iload_n C dX2_wouldCircle_12 13 rfl 2 rfl ?_
      refine s_call_r (rn_V (As := [.int p1]) C (ct_at hR hA (ct_on (ct_X2_part g TA a0 p1))) (rv_on C hR (q := vw_1) rfl) (lw_V q562 q563 q564 q102 q565) ⟨rfl, nv_X2_part⟩ ⟨by decide, by decide⟩ rfl (bl rfl) dX2_wouldCircle_13) 16 rfl (fun x5 => ?_)
      refine s_inst C hR q739 io_Integrator dX2_wouldCircle_16 19 rfl (fun x6 => ?_)
      refine s_if_eq C dX2_wouldCircle_19 26 22 (by decide) rfl ?_ ?_
      · refine s_iconst (v := 0) C dX2_wouldCircle_26 (by decide) 27 rfl ?_
        refine s_r ?_
        refine s_lv [0, 1, 2] rfl ?_
        exact hK4 0
      · refine s_iconst (v := 1) C dX2_wouldCircle_22 (by decide) 23 rfl ?_
        refine s_goto C dX2_wouldCircle_23 27 (by decide) ?_
        refine s_r ?_
        refine s_lv [0, 1, 2] rfl ?_
        exact hK4 1
    · refine s_iconst (v := 1) C dX2_wouldCircle_22 (by decide) 23 rfl ?_
      refine s_goto C dX2_wouldCircle_23 27 (by decide) ?_
      refine s_r ?_
      refine s_lv [0, 1, 2] rfl ?_
      exact hK4 1
theorem nv_X2_join : yX2_join.cls ≠ "java/lang/invoke/MethodHandle" ∧ yX2_join.cls ≠ "java/lang/invoke/VarHandle" ∧ (parseMethodDescriptor yX2_join.desc).map (fun d => d.parameters.length) = some 3 := by decide +kernel
theorem ct_X2_join {l : Launch} (g : sm_G) (TA : Nat → Prop) (a0 : Nat) (p0 : Int32) (p1 : Int32) (p2 : Int32) : sm_CT l g (so_R g TA) (so_A g TA) yX2_join cX2_join 5 (some .int) 6 133 [.ref a0, .int p0, .int p1, .int p2] em_i (f_X2_join g a0 p0 p1 p2) := by
  refine sm_of (own := "PatchCords$Panel") rfl rfl (bl rfl) (fun Y C hR hA hl hm => ?_)
  subst hl
  refine s_lv (L' := [(0, .ref a0), (1, .int p0), (2, .int p1), (3, .int p2)]) [0, 1, 2, 3] rfl ?_
  refine s_top ?_
  unfold f_X2_join
  refine s_aload_n C dX2_join_0 1 rfl 0 rfl ?_
  refine s_iload_n C dX2_join_1 2 rfl 2 rfl ?_
  refine s_call_r (rn_V (As := [.int p1]) C (ct_at hR hA (ct_on (ct_X2_part g TA a0 p1))) (rv_on C hR (q := vw_1) rfl) (lw_V q562 q563 q564 q102 q565) ⟨rfl, nv_X2_part⟩ ⟨by decide, by decide⟩ rfl (bl rfl) dX2_join_2) 5 rfl (fun x1 => ?_)
  refine s_getR C hR fd_PatchCords_Part_cords (Or.inr (Or.inl ⟨_, q341⟩)) dX2_join_5 8 rfl (fun x2 => ?_)
  refine s_iload_n C dX2_join_8 9 rfl 3 rfl ?_
  refine s_iald C hR dX2_join_9 10 rfl (fun x3 => ?_)
  refine s_istore C dX2_join_10 (by decide) 12 rfl [(4, .int x3), (0, .ref a0), (1, .int p0), (2, .int p1), (3, .int p2)] rfl ?_
  refine s_aload_n C dX2_join_12 13 rfl 1 rfl ?_
  refine s_iload_n C dX2_join_13 14 rfl 3 rfl ?_
  refine s_call_r (rn_V (As := [.int p1]) C (ct_at hR hA (ct_on (ct_X2_part g TA a0 p1))) (rv_on C hR (q := vw_1) rfl) (lw_V q562 q563 q564 q102 q565) ⟨rfl, nv_X2_part⟩ ⟨by decide, by decide⟩ rfl (bl rfl) dX2_join_14) 17 rfl (fun x4 => ?_)
  refine s_getR C hR fd_PatchCords_Part_cords (Or.inr (Or.inl ⟨_, q341⟩)) dX2_join_17 20 rfl (fun x5 => ?_)
  refine s_iload_n C dX2_join_20 21 rfl 4 rfl ?_
  refine s_iload_n C dX2_join_21 22 rfl 2 rfl ?_
  refine s_iast C hR hA dX2_join_22 23 rfl ?_
  refine s_aload_n C dX2_join_23 24 rfl 1 rfl ?_
  refine s_call_v (rn_V (As := []) C (ct_at hR hA (ct_on (ct_X2_tellOrder g TA a0))) (rv_on C hR (q := vw_1) rfl) (lw_V q1386 q1388 qs24 q102 q1389) ⟨rfl, nv_X2_tellOrder⟩ ⟨by decide, by decide⟩ rfl (bl rfl) dX2_join_24) 27 rfl ?_
  refine s_iload C dX2_join_27 29 rfl 0 rfl ?_
  exact s_iret C rfl rfl dX2_join_29
theorem nv_X1_join : yX1_join.cls ≠ "java/lang/invoke/MethodHandle" ∧ yX1_join.cls ≠ "java/lang/invoke/VarHandle" ∧ (parseMethodDescriptor yX1_join.desc).map (fun d => d.parameters.length) = some 3 := by decide +kernel
theorem ct_X1_join {l : Launch} (htr : l.stackTraces = false) (g : sm_G) (TA : Nat → Prop) (a0 : Nat) (p0 : Int32) (p1 : Int32) (p2 : Int32) : sm_CX l g (so_R g TA) (so_A g TA) yX1_join cX1_join 4 (some .int) 9 202 [.ref a0, .int p0, .int p1, .int p2] (em_x em_i) (f_X1_join g a0 p0 p1 p2) := by
  refine sm_ofX htr (own := "PatchCords") rfl rfl (bl rfl) (fun Y C hR hA hl hm => ?_)
  subst hl
  refine s_lv (L' := [(0, .ref a0), (1, .int p0), (2, .int p1), (3, .int p2)]) [0, 1, 2, 3] rfl ?_
  refine s_top ?_
  unfold f_X1_join
  refine s_aload_n C dX1_join_0 1 rfl 0 rfl ?_
  refine s_iload_n C dX1_join_1 2 rfl 1 rfl ?_
  refine s_callX_r C (rx_V (As := [.int p0]) C (cx_at hR hA (cx_on (ct_X1_checkedPart C.tr g TA a0 p0))) (rv_on C hR (q := vw_0) rfl) (lw_V q1409 q1411 qs27 q101 q1412) ⟨rfl, nv_X1_checkedPart⟩ ⟨by decide, by decide⟩ rfl (bl rfl) dX1_join_2) (fun _ => rfl) 5 rfl (fun x1 => ?_)
  refine s_pop C dX1_join_5 rfl 6 rfl ?_
  refine s_aload_n C dX1_join_6 7 rfl 0 rfl ?_
  refine s_iload_n C dX1_join_7 8 rfl 2 rfl ?_
  refine s_iload_n C dX1_join_8 9 rfl 3 rfl ?_
  refine s_callX_r C (rx_V (As := [.int p1, .int p2]) C (cx_at hR hA (cx_on (ct_X1_checkedInput C.tr g TA a0 p1 p2))) (rv_on C hR (q := vw_0) rfl) (lw_V q1405 q1407 qs26 q101 q1408) ⟨rfl, nv_X1_checkedInput⟩ ⟨by decide, by decide⟩ rfl (bl rfl) dX1_join_9) (fun _ => rfl) 12 rfl (fun x2 => ?_)
  refine s_pop C dX1_join_12 rfl 13 rfl ?_
  refine s_aload_n C dX1_join_13 14 rfl 0 rfl ?_
  refine s_getR C hR fd_PatchCords_panel (Or.inl q273) dX1_join_14 17 rfl (fun x3 => ?_)
  refine s_iload_n C dX1_join_17 18 rfl 1 rfl ?_
  refine s_iload_n C dX1_join_18 19 rfl 2 rfl ?_
  refine s_call_i (rn_V (As := [.int p0, .int p1]) C (ct_at hR hA (ct_on (ct_X2_wouldCircle g TA x3 p0 p1))) (rv_on C hR (q := vw_1) rfl) (lw_V q1488 q1489 q1490 q102 q1491) ⟨rfl, nv_X2_wouldCircle⟩ ⟨by decide, by decide⟩ rfl (bl rfl) dX1_join_19) 22 rfl (fun x4 => ?_)
  refine s_cut (J := 30) (LJ := (fun (v5 : Int32) => [(0, .ref a0), (1, .int p0), (2, .int p1), (3, .int p2)])) (SJ := (fun (v5 : Int32) => [.int v5])) (fun v5 => ?_) (fun _ _ hK6 => ?_)
  · refine s_callX_v C (rx_S (As := [.int v5]) C (cx_at hR hA (ct_X1_checkState C.tr g TA v5)) (lw_S q1350 q1351 q101 q1352) nv_X1_checkState ⟨by decide, by decide⟩ rfl (bl rfl) dX1_join_30) (fun _ => rfl) 33 rfl ?_
    refine s_aload_n C dX1_join_33 34 rfl 0 rfl ?_
    refine s_call_v (rn_V (As := []) C (ct_at hR hA (ct_on (ct_X1_save g TA a0))) (rv_on C hR (q := vw_0) rfl) (lw_V q533 q535 qs3 q101 q536) ⟨rfl, nv_X1_save⟩ ⟨by decide, by decide⟩ rfl (bl rfl) dX1_join_34) 37 rfl ?_
    refine s_aload_n C dX1_join_37 38 rfl 0 rfl ?_
    refine s_getR C hR fd_PatchCords_panel (Or.inl q273) dX1_join_38 41 rfl (fun x9 => ?_)
    refine s_iload_n C dX1_join_41 42 rfl 1 rfl ?_
    refine s_iload_n C dX1_join_42 43 rfl 2 rfl ?_
    refine s_iload_n C dX1_join_43 44 rfl 3 rfl ?_
    refine s_call_i (rn_V (As := [.int p0, .int p1, .int p2]) C (ct_at hR hA (ct_on (ct_X2_join g TA x9 p0 p1 p2))) (rv_on C hR (q := vw_1) rfl) (lw_V q1496 q1497 q1498 q102 q1499) ⟨rfl, nv_X2_join⟩ ⟨by decide, by decide⟩ rfl (bl rfl) dX1_join_44) 47 rfl (fun x10 => ?_)
    exact s_iret C rfl rfl dX1_join_47
  · refine s_if_ne C dX1_join_22 29 25 (by decide) rfl ?_ ?_
    · refine s_iconst (v := 1) C dX1_join_25 (by decide) 26 rfl ?_
      refine s_goto C dX1_join_26 30 (by decide) ?_
      refine s_r ?_
      refine s_lv [0, 1, 2, 3] rfl ?_
      exact hK6 1
    · refine s_iconst (v := 0) C dX1_join_29 (by decide) 30 rfl ?_
      refine s_r ?_
      refine s_lv [0, 1, 2, 3] rfl ?_
      exact hK6 0
theorem nv_X2_takeOut : yX2_takeOut.cls ≠ "java/lang/invoke/MethodHandle" ∧ yX2_takeOut.cls ≠ "java/lang/invoke/VarHandle" ∧ (parseMethodDescriptor yX2_takeOut.desc).map (fun d => d.parameters.length) = some 2 := by decide +kernel
theorem ct_X2_takeOut {l : Launch} (g : sm_G) (TA : Nat → Prop) (a0 : Nat) (p0 : Int32) (p1 : Int32) : sm_CT l g (so_R g TA) (so_A g TA) yX2_takeOut cX2_takeOut 4 (some .int) 6 133 [.ref a0, .int p0, .int p1] em_i (f_X2_takeOut g a0 p0 p1) := by
  refine sm_of (own := "PatchCords$Panel") rfl rfl (bl rfl) (fun Y C hR hA hl hm => ?_)
  subst hl
  refine s_lv (L' := [(0, .ref a0), (1, .int p0), (2, .int p1)]) [0, 1, 2] rfl ?_
  refine s_top ?_
  unfold f_X2_takeOut
  refine s_aload_n C dX2_takeOut_0 1 rfl 0 rfl ?_
  refine s_iload_n C dX2_takeOut_1 2 rfl 1 rfl ?_
  refine s_call_r (rn_V (As := [.int p0]) C (ct_at hR hA (ct_on (ct_X2_part g TA a0 p0))) (rv_on C hR (q := vw_1) rfl) (lw_V q562 q563 q564 q102 q565) ⟨rfl, nv_X2_part⟩ ⟨by decide, by decide⟩ rfl (bl rfl) dX2_takeOut_2) 5 rfl (fun x1 => ?_)
  refine s_getR C hR fd_PatchCords_Part_cords (Or.inr (Or.inl ⟨_, q341⟩)) dX2_takeOut_5 8 rfl (fun x2 => ?_)
  refine s_iload_n C dX2_takeOut_8 9 rfl 2 rfl ?_
  refine s_iald C hR dX2_takeOut_9 10 rfl (fun x3 => ?_)
  refine s_istore_n C dX2_takeOut_10 rfl (by decide) 11 rfl [(3, .int x3), (0, .ref a0), (1, .int p0), (2, .int p1)] rfl ?_
  refine s_aload_n C dX2_takeOut_11 12 rfl 1 rfl ?_
  refine s_iload_n C dX2_takeOut_12 13 rfl 2 rfl ?_
  refine s_call_r (rn_V (As := [.int p0]) C (ct_at hR hA (ct_on (ct_X2_part g TA a0 p0))) (rv_on C hR (q := vw_1) rfl) (lw_V q562 q563 q564 q102 q565) ⟨rfl, nv_X2_part⟩ ⟨by decide, by decide⟩ rfl (bl rfl) dX2_takeOut_13) 16 rfl (fun x4 => ?_)
  refine s_getR C hR fd_PatchCords_Part_cords (Or.inr (Or.inl ⟨_, q341⟩)) dX2_takeOut_16 19 rfl (fun x5 => ?_)
  refine s_iload_n C dX2_takeOut_19 20 rfl 3 rfl ?_
  refine s_iconst (v := (-1)) C dX2_takeOut_20 (by decide) 21 rfl ?_
  refine s_iast C hR hA dX2_takeOut_21 22 rfl ?_
  refine s_aload_n C dX2_takeOut_22 23 rfl 1 rfl ?_
  refine s_call_v (rn_V (As := []) C (ct_at hR hA (ct_on (ct_X2_tellOrder g TA a0))) (rv_on C hR (q := vw_1) rfl) (lw_V q1386 q1388 qs24 q102 q1389) ⟨rfl, nv_X2_tellOrder⟩ ⟨by decide, by decide⟩ rfl (bl rfl) dX2_takeOut_23) 26 rfl ?_
  refine s_iload_n C dX2_takeOut_26 27 rfl 0 rfl ?_
  exact s_iret C rfl rfl dX2_takeOut_27
theorem nv_X1_takeOut : yX1_takeOut.cls ≠ "java/lang/invoke/MethodHandle" ∧ yX1_takeOut.cls ≠ "java/lang/invoke/VarHandle" ∧ (parseMethodDescriptor yX1_takeOut.desc).map (fun d => d.parameters.length) = some 2 := by decide +kernel
theorem ct_X1_takeOut {l : Launch} (htr : l.stackTraces = false) (g : sm_G) (TA : Nat → Prop) (a0 : Nat) (p0 : Int32) (p1 : Int32) : sm_CX l g (so_R g TA) (so_A g TA) yX1_takeOut cX1_takeOut 4 (some .int) 9 202 [.ref a0, .int p0, .int p1] (em_x em_i) (f_X1_takeOut g a0 p0 p1) := by
  refine sm_ofX htr (own := "PatchCords") rfl rfl (bl rfl) (fun Y C hR hA hl hm => ?_)
  subst hl
  refine s_lv (L' := [(0, .ref a0), (1, .int p0), (2, .int p1)]) [0, 1, 2] rfl ?_
  refine s_top ?_
  unfold f_X1_takeOut
  refine s_aload_n C dX1_takeOut_0 1 rfl 0 rfl ?_
  refine s_iload_n C dX1_takeOut_1 2 rfl 1 rfl ?_
  refine s_iload_n C dX1_takeOut_2 3 rfl 2 rfl ?_
  refine s_callX_r C (rx_V (As := [.int p0, .int p1]) C (cx_at hR hA (cx_on (ct_X1_checkedInput C.tr g TA a0 p0 p1))) (rv_on C hR (q := vw_0) rfl) (lw_V q1405 q1407 qs26 q101 q1408) ⟨rfl, nv_X1_checkedInput⟩ ⟨by decide, by decide⟩ rfl (bl rfl) dX1_takeOut_3) (fun _ => rfl) 6 rfl (fun x1 => ?_)
  refine s_astore_n C dX1_takeOut_6 rfl (by decide) 7 rfl [(3, .ref x1), (0, .ref a0), (1, .int p0), (2, .int p1)] rfl ?_
  refine s_aload_n C dX1_takeOut_7 8 rfl 0 rfl ?_
  refine s_getR C hR fd_PatchCords_Part_cords (Or.inr (Or.inl ⟨_, q342⟩)) dX1_takeOut_8 11 rfl (fun x2 => ?_)
  refine s_iload_n C dX1_takeOut_11 12 rfl 3 rfl ?_
  refine s_iald C hR dX1_takeOut_12 13 rfl (fun x3 => ?_)
  refine s_iconst (v := (-1)) C dX1_takeOut_13 (by decide) 14 rfl ?_
  refine s_cut (J := 22) (LJ := (fun (v4 : Int32) => [(0, .ref a0), (1, .int p0), (2, .int p1)])) (SJ := (fun (v4 : Int32) => [.int v4])) (fun v4 => ?_) (fun _ _ hK5 => ?_)
  · refine s_callX_v C (rx_S (As := [.int v4]) C (cx_at hR hA (ct_X1_checkState C.tr g TA v4)) (lw_S q1350 q1351 q101 q1352) nv_X1_checkState ⟨by decide, by decide⟩ rfl (bl rfl) dX1_takeOut_22) (fun _ => rfl) 25 rfl ?_
    refine s_aload_n C dX1_takeOut_25 26 rfl 0 rfl ?_
    refine s_call_v (rn_V (As := []) C (ct_at hR hA (ct_on (ct_X1_save g TA a0))) (rv_on C hR (q := vw_0) rfl) (lw_V q533 q535 qs3 q101 q536) ⟨rfl, nv_X1_save⟩ ⟨by decide, by decide⟩ rfl (bl rfl) dX1_takeOut_26) 29 rfl ?_
    refine s_aload_n C dX1_takeOut_29 30 rfl 0 rfl ?_
    refine s_getR C hR fd_PatchCords_panel (Or.inl q273) dX1_takeOut_30 33 rfl (fun x8 => ?_)
    refine s_iload_n C dX1_takeOut_33 34 rfl 1 rfl ?_
    refine s_iload_n C dX1_takeOut_34 35 rfl 2 rfl ?_
    refine s_call_i (rn_V (As := [.int p0, .int p1]) C (ct_at hR hA (ct_on (ct_X2_takeOut g TA x8 p0 p1))) (rv_on C hR (q := vw_1) rfl) (lw_V q1507 q1508 q1509 q102 q1510) ⟨rfl, nv_X2_takeOut⟩ ⟨by decide, by decide⟩ rfl (bl rfl) dX1_takeOut_35) 38 rfl (fun x9 => ?_)
    exact s_iret C rfl rfl dX1_takeOut_38
  · refine s_icmp_eq C dX1_takeOut_14 21 17 (by decide) rfl ?_ ?_
    · refine s_iconst (v := 0) C dX1_takeOut_21 (by decide) 22 rfl ?_
      refine s_r ?_
      refine s_lv [1, 2, 3] rfl ?_
      exact hK5 0
    · refine s_iconst (v := 1) C dX1_takeOut_17 (by decide) 18 rfl ?_
      refine s_goto C dX1_takeOut_18 22 (by decide) ?_
      refine s_r ?_
      refine s_lv [1, 2, 3] rfl ?_
      exact hK5 1
theorem nv_X2_setMode : yX2_setMode.cls ≠ "java/lang/invoke/MethodHandle" ∧ yX2_setMode.cls ≠ "java/lang/invoke/VarHandle" ∧ (parseMethodDescriptor yX2_setMode.desc).map (fun d => d.parameters.length) = some 1 := by decide +kernel
theorem ct_X2_setMode {l : Launch} (g : sm_G) (TA : Nat → Prop) (a0 : Nat) (p0 : Int32) : sm_CT l g (so_R g TA) (so_A g TA) yX2_setMode cX2_setMode 3 none 4 85 [.ref a0, .int p0] em_v (f_X2_setMode g a0 p0) := by
  refine sm_of (own := "PatchCords$Panel") rfl rfl (bl rfl) (fun Y C hR hA hl hm => ?_)
  subst hl
  refine s_lv (L' := [(0, .ref a0), (1, .int p0)]) [0, 1] rfl ?_
  refine s_top ?_
  unfold f_X2_setMode
  refine s_aload_n C dX2_setMode_0 1 rfl 0 rfl ?_
  refine s_iload_n C dX2_setMode_1 2 rfl 1 rfl ?_
  refine s_put C hR hA fd_PatchCords_Panel_mode (Or.inl q195) dX2_setMode_2 rfl rfl 5 rfl ?_
  refine s_iconst (v := 0) C dX2_setMode_5 (by decide) 6 rfl ?_
  refine s_istore_n C dX2_setMode_6 rfl (by decide) 7 rfl [(2, .int 0), (0, .ref a0), (1, .int p0)] rfl ?_
  refine s_lv [1, 2, 0] rfl ?_
  refine s_loop (fun (s1 : Int32) => [(0, .ref a0), (1, .int p0), (2, .int s1)]) (fun (v13 : Unit) => []) 56 0 rfl (fun v13 => ?_) (fun _ s1 hk2 hx3 => ?_)
  · exact s_vret C rfl dX2_setMode_56
  · refine s_iload_n C dX2_setMode_7 8 rfl 2 rfl ?_
    refine s_aload_n C dX2_setMode_8 9 rfl 0 rfl ?_
    refine s_call_i (rn_V (As := []) C (ct_at hR hA (ct_on (ct_X2_size g TA a0))) (rv_on C hR (q := vw_1) rfl) (lw_V q561 q526 q527 q102 q528) ⟨rfl, nv_X2_size⟩ ⟨by decide, by decide⟩ rfl (bl rfl) dX2_setMode_9) 12 rfl (fun x4 => ?_)
    refine s_icmp_ge C dX2_setMode_12 56 15 (by decide) rfl ?_ ?_
    · refine s_r ?_
      refine s_lv [] rfl ?_
      exact hx3 ()
    · refine s_iload_n C dX2_setMode_15 16 rfl 1 rfl ?_
      refine s_if_ne C dX2_setMode_16 56 19 (by decide) rfl ?_ ?_
      · refine s_aload_n C dX2_setMode_19 20 rfl 0 rfl ?_
        refine s_iload_n C dX2_setMode_20 21 rfl 2 rfl ?_
        refine s_call_r (rn_V (As := [.int s1]) C (ct_at hR hA (ct_on (ct_X2_part g TA a0 s1))) (rv_on C hR (q := vw_1) rfl) (lw_V q562 q563 q564 q102 q565) ⟨rfl, nv_X2_part⟩ ⟨by decide, by decide⟩ rfl (bl rfl) dX2_setMode_21) 24 rfl (fun x5 => ?_)
        refine s_iconst (v := 0) C dX2_setMode_24 (by decide) 25 rfl ?_
        refine s_put C hR hA fd_PatchCords_Part_peak (Or.inr (Or.inl ⟨_, q344⟩)) dX2_setMode_25 rfl rfl 28 rfl ?_
        refine s_aload_n C dX2_setMode_28 29 rfl 0 rfl ?_
        refine s_iload_n C dX2_setMode_29 30 rfl 2 rfl ?_
        refine s_call_r (rn_V (As := [.int s1]) C (ct_at hR hA (ct_on (ct_X2_part g TA a0 s1))) (rv_on C hR (q := vw_1) rfl) (lw_V q562 q563 q564 q102 q565) ⟨rfl, nv_X2_part⟩ ⟨by decide, by decide⟩ rfl (bl rfl) dX2_setMode_30) 33 rfl (fun x6 => ?_)
        refine s_inst C hR q739 io_Integrator dX2_setMode_33 36 rfl (fun x7 => ?_)
        refine s_cut (J := 50) (LJ := (fun (v8 : Unit) => [(0, .ref a0), (1, .int p0), (2, .int s1)])) (SJ := (fun (v8 : Unit) => [])) (fun v8 => ?_) (fun _ _ hK9 => ?_)
        · refine s_iinc C dX2_setMode_50 (s1 + 1) rfl 2 rfl (by decide) 53 rfl [(2, .int (s1 + 1)), (0, .ref a0), (1, .int p0)] rfl ?_
          refine s_goto C dX2_setMode_53 7 (by decide) ?_
          refine s_r ?_
          refine s_lv [1, 2, 0] rfl ?_
          exact hk2 (s1 + 1)
        · refine s_if_eq C dX2_setMode_36 50 39 (by decide) rfl ?_ ?_
          · refine s_r ?_
            refine s_lv [0, 1, 2] rfl ?_
            exact hK9 ()
          · refine s_aload_n C dX2_setMode_39 40 rfl 0 rfl ?_
            refine s_iload_n C dX2_setMode_40 41 rfl 2 rfl ?_
            refine s_call_r (rn_V (As := [.int s1]) C (ct_at hR hA (ct_on (ct_X2_part g TA a0 s1))) (rv_on C hR (q := vw_1) rfl) (lw_V q562 q563 q564 q102 q565) ⟨rfl, nv_X2_part⟩ ⟨by decide, by decide⟩ rfl (bl rfl) dX2_setMode_41) 44 rfl (fun x10 => ?_)
            refine s_cast C hR q739 ca_PatchCords_Integrator dX2_setMode_44 (some x10) 47 rfl (fun x11 _ => ?_)
            refine s_call_v (rn_V (As := []) C (ct_at hR hA (ct_on (ct_X8_reset g TA x11))) (rv_on C hR (q := vw_3) rfl) (lw_V q1455 q1456 q1457 q123 q1458) ⟨rfl, nv_X8_reset⟩ ⟨by decide, by decide⟩ rfl (bl rfl) dX2_setMode_47) 50 rfl ?_
            refine s_r ?_
            refine s_lv [0, 1, 2] rfl ?_
            exact hK9 ()
      · refine s_r ?_
        refine s_lv [] rfl ?_
        exact hx3 ()
theorem nv_X1_setMode : yX1_setMode.cls ≠ "java/lang/invoke/MethodHandle" ∧ yX1_setMode.cls ≠ "java/lang/invoke/VarHandle" ∧ (parseMethodDescriptor yX1_setMode.desc).map (fun d => d.parameters.length) = some 1 := by decide +kernel
theorem ct_X1_setMode {l : Launch} (htr : l.stackTraces = false) (g : sm_G) (TA : Nat → Prop) (a0 : Nat) (p0 : Int32) : sm_CX l g (so_R g TA) (so_A g TA) yX1_setMode cX1_setMode 3 (some .int) 9 202 [.ref a0, .int p0] (em_x em_i) (f_X1_setMode g a0 p0) := by
  refine sm_ofX htr (own := "PatchCords") rfl rfl (bl rfl) (fun Y C hR hA hl hm => ?_)
  subst hl
  refine s_lv (L' := [(0, .ref a0), (1, .int p0)]) [0, 1] rfl ?_
  refine s_top ?_
  unfold f_X1_setMode
  refine s_iload_n C dX1_setMode_0 1 rfl 1 rfl ?_
  refine s_iconst (v := 0) C dX1_setMode_1 (by decide) 2 rfl ?_
  refine s_iconst (v := 2) C dX1_setMode_2 (by decide) 3 rfl ?_
  refine s_callX_v C (rx_S (As := [.int p0, .int 0, .int 2]) C (cx_at hR hA (ct_X1_checkRange C.tr g TA p0 0 2)) (lw_S q1335 q1336 q101 q1337) nv_X1_checkRange ⟨by decide, by decide⟩ rfl (bl rfl) dX1_setMode_3) (fun _ => rfl) 6 rfl ?_
  refine s_aload_n C dX1_setMode_6 7 rfl 0 rfl ?_
  refine s_call_v (rn_V (As := []) C (ct_at hR hA (ct_on (ct_X1_save g TA a0))) (rv_on C hR (q := vw_0) rfl) (lw_V q533 q535 qs3 q101 q536) ⟨rfl, nv_X1_save⟩ ⟨by decide, by decide⟩ rfl (bl rfl) dX1_setMode_7) 10 rfl ?_
  refine s_aload_n C dX1_setMode_10 11 rfl 0 rfl ?_
  refine s_getR C hR fd_PatchCords_panel (Or.inl q273) dX1_setMode_11 14 rfl (fun x3 => ?_)
  refine s_getI C hR fd_PatchCords_Panel_mode (Or.inr (Or.inl ⟨_, q196⟩)) dX1_setMode_14 17 rfl (fun x4 => ?_)
  refine s_istore_n C dX1_setMode_17 rfl (by decide) 18 rfl [(2, .int x4), (0, .ref a0), (1, .int p0)] rfl ?_
  refine s_aload_n C dX1_setMode_18 19 rfl 1 rfl ?_
  refine s_getR C hR fd_PatchCords_panel (Or.inl q273) dX1_setMode_19 22 rfl (fun x5 => ?_)
  refine s_iload_n C dX1_setMode_22 23 rfl 2 rfl ?_
  refine s_call_v (rn_V (As := [.int p0]) C (ct_at hR hA (ct_on (ct_X2_setMode g TA x5 p0))) (rv_on C hR (q := vw_1) rfl) (lw_V q1518 q1519 q1520 q102 q1521) ⟨rfl, nv_X2_setMode⟩ ⟨by decide, by decide⟩ rfl (bl rfl) dX1_setMode_23) 26 rfl ?_
  refine s_iload_n C dX1_setMode_26 27 rfl 0 rfl ?_
  exact s_iret C rfl rfl dX1_setMode_27
theorem nv_X3_values : yX3_values.cls ≠ "java/lang/invoke/MethodHandle" ∧ yX3_values.cls ≠ "java/lang/invoke/VarHandle" ∧ (parseMethodDescriptor yX3_values.desc).map (fun d => d.parameters.length) = some 0 := by decide +kernel
theorem ct_X3_values {l : Launch} (g : sm_G) (TA : Nat → Prop)  : sm_CT l g (so_R g TA) (so_A g TA) yX3_values cX3_values 0 (some (.array (.object "PatchCords$Way"))) 1 14 [] em_r (f_X3_values g ) := by
  refine sm_of (own := "PatchCords$Way") rfl rfl (bl rfl) (fun Y C hR hA hl hm => ?_)
  subst hl
  refine s_lv (L' := []) [] rfl ?_
  refine s_top ?_
  unfold f_X3_values
  refine s_gets C C.k.2.2.2.2.2.1 q1532 dX3_values_0 3 rfl ?_
  refine s_clone C hR q1534 q1535 q836 q837 q1536 q1537 (by decide) (bl rfl) dX3_values_3 6 rfl (fun x1 => ?_)
  refine s_castW C hR q1539 dX3_values_6 9 rfl ?_
  exact s_aret C rfl (Or.inr ⟨_, rfl⟩) dX3_values_9
theorem nv_X1_setWay : yX1_setWay.cls ≠ "java/lang/invoke/MethodHandle" ∧ yX1_setWay.cls ≠ "java/lang/invoke/VarHandle" ∧ (parseMethodDescriptor yX1_setWay.desc).map (fun d => d.parameters.length) = some 1 := by decide +kernel
theorem ct_X1_setWay {l : Launch} (htr : l.stackTraces = false) (g : sm_G) (TA : Nat → Prop) (a0 : Nat) (p0 : Int32) : sm_CX l g (so_R g TA) (so_A g TA) yX1_setWay cX1_setWay 3 (some .int) 9 202 [.ref a0, .int p0] (em_x em_i) (f_X1_setWay g a0 p0) := by
  refine sm_ofX htr (own := "PatchCords") rfl rfl (bl rfl) (fun Y C hR hA hl hm => ?_)
  subst hl
  refine s_lv (L' := [(0, .ref a0), (1, .int p0)]) [0, 1] rfl ?_
  refine s_top ?_
  unfold f_X1_setWay
  refine s_iload_n C dX1_setWay_0 1 rfl 1 rfl ?_
  refine s_iconst (v := 0) C dX1_setWay_1 (by decide) 2 rfl ?_
  refine s_iconst (v := 1) C dX1_setWay_2 (by decide) 3 rfl ?_
  refine s_callX_v C (rx_S (As := [.int p0, .int 0, .int 1]) C (cx_at hR hA (ct_X1_checkRange C.tr g TA p0 0 1)) (lw_S q1335 q1336 q101 q1337) nv_X1_checkRange ⟨by decide, by decide⟩ rfl (bl rfl) dX1_setWay_3) (fun _ => rfl) 6 rfl ?_
  refine s_aload_n C dX1_setWay_6 7 rfl 0 rfl ?_
  refine s_call_v (rn_V (As := []) C (ct_at hR hA (ct_on (ct_X1_save g TA a0))) (rv_on C hR (q := vw_0) rfl) (lw_V q533 q535 qs3 q101 q536) ⟨rfl, nv_X1_save⟩ ⟨by decide, by decide⟩ rfl (bl rfl) dX1_setWay_7) 10 rfl ?_
  refine s_aload_n C dX1_setWay_10 11 rfl 0 rfl ?_
  refine s_getR C hR fd_PatchCords_panel (Or.inl q273) dX1_setWay_11 14 rfl (fun x3 => ?_)
  refine s_getR C hR fd_PatchCords_Panel_way (Or.inr (Or.inl ⟨_, q192⟩)) dX1_setWay_14 17 rfl (fun x4 => ?_)
  refine s_call_i (rn_W (fun hw => rn_U (As := []) C (ct_at hR hA (ct_J3_ordinal g TA x4)) (rv_W0 C hw) q574 q575 (va_Decl.abs (C.k.2.1 _ q576 rfl)) (C.w _ q577) q579 q106 q580 ⟨by decide +kernel, by decide +kernel, (show (parseMethodDescriptor "()I").map (fun d => d.parameters.length) = some 0 by decide +kernel)⟩ ⟨by decide, by decide⟩ rfl (bl rfl) dX1_setWay_17) (fun hw => rn_U (As := []) C (ct_at hR hA (ct_J3_ordinal g TA x4)) (rv_W1 C hw) q574 q575 (va_Decl.abs (C.k.2.1 _ q576 rfl)) (C.w _ q578) q579 q106 q580 ⟨by decide +kernel, by decide +kernel, (show (parseMethodDescriptor "()I").map (fun d => d.parameters.length) = some 0 by decide +kernel)⟩ ⟨by decide, by decide⟩ rfl (bl rfl) dX1_setWay_17)) 20 rfl (fun x5 => ?_)
  refine s_istore_n C dX1_setWay_20 rfl (by decide) 21 rfl [(2, .int x5), (0, .ref a0), (1, .int p0)] rfl ?_
  refine s_aload_n C dX1_setWay_21 22 rfl 1 rfl ?_
  refine s_getR C hR fd_PatchCords_panel (Or.inl q273) dX1_setWay_22 25 rfl (fun x6 => ?_)
  refine s_call_r (rn_S (As := []) C (ct_at hR hA (ct_X3_values g TA )) (lw_S q1529 q1530 q107 q1531) nv_X3_values ⟨by decide, by decide⟩ rfl (bl rfl) dX1_setWay_25) 28 rfl (fun x7 => ?_)
  refine s_iload_n C dX1_setWay_28 29 rfl 2 rfl ?_
  refine s_aald5 C hR dX1_setWay_29 30 rfl (fun x8 => ?_)
  refine s_some (fun x9 => ?_)
  refine s_put C hR hA fd_PatchCords_Panel_way (Or.inr (Or.inl ⟨_, q192⟩)) dX1_setWay_30 rfl rfl 33 rfl ?_
  refine s_iload_n C dX1_setWay_33 34 rfl 0 rfl ?_
  exact s_iret C rfl rfl dX1_setWay_34
theorem nv_X2_setRecorder : yX2_setRecorder.cls ≠ "java/lang/invoke/MethodHandle" ∧ yX2_setRecorder.cls ≠ "java/lang/invoke/VarHandle" ∧ (parseMethodDescriptor yX2_setRecorder.desc).map (fun d => d.parameters.length) = some 1 := by decide +kernel
theorem ct_X2_setRecorder {l : Launch} (g : sm_G) (TA : Nat → Prop) (a0 : Nat) (p0 : Int32) : sm_CT l g (so_R g TA) (so_A g TA) yX2_setRecorder cX2_setRecorder 2 none 0 0 [.ref a0, .int p0] em_v (f_X2_setRecorder g a0 p0) := by
  refine sm_of (own := "PatchCords$Panel") rfl rfl (bl rfl) (fun Y C hR hA hl hm => ?_)
  subst hl
  refine s_lv (L' := [(0, .ref a0), (1, .int p0)]) [0, 1] rfl ?_
  refine s_top ?_
  unfold f_X2_setRecorder
  refine s_aload_n C dX2_setRecorder_0 1 rfl 0 rfl ?_
  refine s_iload_n C dX2_setRecorder_1 2 rfl 1 rfl ?_
  refine s_put C hR hA fd_PatchCords_Panel_recorded (Or.inl q199) dX2_setRecorder_2 rfl rfl 5 rfl ?_
  refine s_aload_n C dX2_setRecorder_5 6 rfl 0 rfl ?_
  refine s_iconst (v := 0) C dX2_setRecorder_6 (by decide) 7 rfl ?_
  refine s_put C hR hA fd_PatchCords_Panel_recordCount (Or.inl q201) dX2_setRecorder_7 rfl rfl 10 rfl ?_
  refine s_aload_n C dX2_setRecorder_10 11 rfl 0 rfl ?_
  refine s_iconst (v := 0) C dX2_setRecorder_11 (by decide) 12 rfl ?_
  refine s_put C hR hA fd_PatchCords_Panel_crossings (Or.inl q203) dX2_setRecorder_12 rfl rfl 15 rfl ?_
  refine s_aload_n C dX2_setRecorder_15 16 rfl 0 rfl ?_
  refine s_iconst (v := (-1)) C dX2_setRecorder_16 (by decide) 17 rfl ?_
  refine s_put C hR hA fd_PatchCords_Panel_beat (Or.inl q206) dX2_setRecorder_17 rfl rfl 20 rfl ?_
  exact s_vret C rfl dX2_setRecorder_20
theorem nv_X1_record : yX1_record.cls ≠ "java/lang/invoke/MethodHandle" ∧ yX1_record.cls ≠ "java/lang/invoke/VarHandle" ∧ (parseMethodDescriptor yX1_record.desc).map (fun d => d.parameters.length) = some 1 := by decide +kernel
theorem ct_X1_record {l : Launch} (htr : l.stackTraces = false) (g : sm_G) (TA : Nat → Prop) (a0 : Nat) (p0 : Int32) : sm_CX l g (so_R g TA) (so_A g TA) yX1_record cX1_record 3 (some .int) 9 202 [.ref a0, .int p0] (em_x em_i) (f_X1_record g a0 p0) := by
  refine sm_ofX htr (own := "PatchCords") rfl rfl (bl rfl) (fun Y C hR hA hl hm => ?_)
  subst hl
  refine s_lv (L' := [(0, .ref a0), (1, .int p0)]) [0, 1] rfl ?_
  refine s_top ?_
  unfold f_X1_record
  refine s_iload_n C dX1_record_0 1 rfl 1 rfl ?_
  refine s_iconst (v := (-1)) C dX1_record_1 (by decide) 2 rfl ?_
  refine s_cutX (J := 11) (LJ := (fun (v1 : Unit) => [(0, .ref a0), (1, .int p0)])) (SJ := (fun (v1 : Unit) => [])) (fun _ => rfl) (fun v1 => ?_) (fun _ hX3 hK2 => ?_)
  · refine s_aload_n C dX1_record_11 12 rfl 0 rfl ?_
    refine s_call_v (rn_V (As := []) C (ct_at hR hA (ct_on (ct_X1_save g TA a0))) (rv_on C hR (q := vw_0) rfl) (lw_V q533 q535 qs3 q101 q536) ⟨rfl, nv_X1_save⟩ ⟨by decide, by decide⟩ rfl (bl rfl) dX1_record_12) 15 rfl ?_
    refine s_aload_n C dX1_record_15 16 rfl 0 rfl ?_
    refine s_getR C hR fd_PatchCords_panel (Or.inl q273) dX1_record_16 19 rfl (fun x6 => ?_)
    refine s_getI C hR fd_PatchCords_Panel_recorded (Or.inr (Or.inl ⟨_, q200⟩)) dX1_record_19 22 rfl (fun x7 => ?_)
    refine s_istore_n C dX1_record_22 rfl (by decide) 23 rfl [(2, .int x7), (0, .ref a0), (1, .int p0)] rfl ?_
    refine s_aload_n C dX1_record_23 24 rfl 1 rfl ?_
    refine s_getR C hR fd_PatchCords_panel (Or.inl q273) dX1_record_24 27 rfl (fun x8 => ?_)
    refine s_iload_n C dX1_record_27 28 rfl 2 rfl ?_
    refine s_call_v (rn_V (As := [.int p0]) C (ct_at hR hA (ct_on (ct_X2_setRecorder g TA x8 p0))) (rv_on C hR (q := vw_1) rfl) (lw_V q1547 q1548 q1549 q102 q1550) ⟨rfl, nv_X2_setRecorder⟩ ⟨by decide, by decide⟩ rfl (bl rfl) dX1_record_28) 31 rfl ?_
    refine s_iload_n C dX1_record_31 32 rfl 0 rfl ?_
    exact s_iret C rfl rfl dX1_record_32
  · refine s_icmp_eq C dX1_record_2 11 5 (by decide) rfl ?_ ?_
    · refine s_r ?_
      refine s_lv [0, 1] rfl ?_
      exact hK2 ()
    · refine s_aload_n C dX1_record_5 6 rfl 0 rfl ?_
      refine s_iload_n C dX1_record_6 7 rfl 1 rfl ?_
      refine s_callX_r C (rx_V (As := [.int p0]) C (cx_at hR hA (cx_on (ct_X1_checkedPart C.tr g TA a0 p0))) (rv_on C hR (q := vw_0) rfl) (lw_V q1409 q1411 qs27 q101 q1412) ⟨rfl, nv_X1_checkedPart⟩ ⟨by decide, by decide⟩ rfl (bl rfl) dX1_record_7) hX3 10 rfl (fun x4 => ?_)
      refine s_pop C dX1_record_10 rfl 11 rfl ?_
      refine s_r ?_
      refine s_lv [0, 1] rfl ?_
      exact hK2 ()
theorem nv_X1_canPass : yX1_canPass.cls ≠ "java/lang/invoke/MethodHandle" ∧ yX1_canPass.cls ≠ "java/lang/invoke/VarHandle" ∧ (parseMethodDescriptor yX1_canPass.desc).map (fun d => d.parameters.length) = some 1 := by decide +kernel
theorem ct_X1_canPass {l : Launch} (g : sm_G) (TA : Nat → Prop) (a0 : Nat) (p0 : Int32) : sm_CT l g (so_R g TA) (so_A g TA) yX1_canPass cX1_canPass 2 (some .boolean) 0 0 [.ref a0, .int p0] em_i (f_X1_canPass g a0 p0) := by
  refine sm_of (own := "PatchCords") rfl rfl (bl rfl) (fun Y C hR hA hl hm => ?_)
  subst hl
  refine s_lv (L' := [(0, .ref a0), (1, .int p0)]) [0, 1] rfl ?_
  refine s_top ?_
  unfold f_X1_canPass
  refine s_aload_n C dX1_canPass_0 1 rfl 0 rfl ?_
  refine s_getR C hR fd_PatchCords_panel (Or.inl q273) dX1_canPass_1 4 rfl (fun x1 => ?_)
  refine s_getI C hR fd_PatchCords_Panel_steps (Or.inr (Or.inl ⟨_, q198⟩)) dX1_canPass_4 7 rfl (fun x2 => ?_)
  refine s_iload_n C dX1_canPass_7 8 rfl 1 rfl ?_
  refine s_iadd C dX1_canPass_8 9 rfl ?_
  refine s_ldc (v := 99999) C q1562 dX1_canPass_9 11 rfl ?_
  refine s_cut (J := 19) (LJ := (fun (v3 : Int32) => [])) (SJ := (fun (v3 : Int32) => [.int v3])) (fun v3 => ?_) (fun _ _ hK4 => ?_)
  · refine s_zb (fun h => ?_)
    exact s_iret C rfl (s_zn h) dX1_canPass_19
  · refine s_icmp_gt C dX1_canPass_11 18 14 (by decide) rfl ?_ ?_
    · refine s_iconst (v := 0) C dX1_canPass_18 (by decide) 19 rfl ?_
      refine s_r ?_
      refine s_lv [] rfl ?_
      exact hK4 0
    · refine s_iconst (v := 1) C dX1_canPass_14 (by decide) 15 rfl ?_
      refine s_goto C dX1_canPass_15 19 (by decide) ?_
      refine s_r ?_
      refine s_lv [] rfl ?_
      exact hK4 1
theorem nv_X1_pass : yX1_pass.cls ≠ "java/lang/invoke/MethodHandle" ∧ yX1_pass.cls ≠ "java/lang/invoke/VarHandle" ∧ (parseMethodDescriptor yX1_pass.desc).map (fun d => d.parameters.length) = some 1 := by decide +kernel
theorem ct_X1_pass {l : Launch} (htr : l.stackTraces = false) (g : sm_G) (TA : Nat → Prop) (a0 : Nat) (p0 : Int32) : sm_CX l g (so_R g TA) (so_A g TA) yX1_pass cX1_pass 2 (some .int) 9 202 [.ref a0, .int p0] (em_x em_i) (f_X1_pass g a0 p0) := by
  refine sm_ofX htr (own := "PatchCords") rfl rfl (bl rfl) (fun Y C hR hA hl hm => ?_)
  subst hl
  refine s_lv (L' := [(0, .ref a0), (1, .int p0)]) [0, 1] rfl ?_
  refine s_top ?_
  unfold f_X1_pass
  refine s_iload_n C dX1_pass_0 1 rfl 1 rfl ?_
  refine s_iconst (v := 1) C dX1_pass_1 (by decide) 2 rfl ?_
  refine s_sipush (v := 999) C dX1_pass_2 (by decide) 5 rfl ?_
  refine s_callX_v C (rx_S (As := [.int p0, .int 1, .int 999]) C (cx_at hR hA (ct_X1_checkRange C.tr g TA p0 1 999)) (lw_S q1335 q1336 q101 q1337) nv_X1_checkRange ⟨by decide, by decide⟩ rfl (bl rfl) dX1_pass_5) (fun _ => rfl) 8 rfl ?_
  refine s_aload_n C dX1_pass_8 9 rfl 0 rfl ?_
  refine s_iload_n C dX1_pass_9 10 rfl 1 rfl ?_
  refine s_call_i (rn_V (As := [.int p0]) C (ct_at hR hA (ct_on (ct_X1_canPass g TA a0 p0))) (rv_on C hR (q := vw_0) rfl) (lw_V q1558 q1560 qs31 q101 q1561) ⟨rfl, nv_X1_canPass⟩ ⟨by decide, by decide⟩ rfl (bl rfl) dX1_pass_10) 13 rfl (fun x2 => ?_)
  refine s_callX_v C (rx_S (As := [.int x2]) C (cx_at hR hA (ct_X1_checkState C.tr g TA x2)) (lw_S q1350 q1351 q101 q1352) nv_X1_checkState ⟨by decide, by decide⟩ rfl (bl rfl) dX1_pass_13) (fun _ => rfl) 16 rfl ?_
  refine s_aload_n C dX1_pass_16 17 rfl 0 rfl ?_
  refine s_call_v (rn_V (As := []) C (ct_at hR hA (ct_on (ct_X1_save g TA a0))) (rv_on C hR (q := vw_0) rfl) (lw_V q533 q535 qs3 q101 q536) ⟨rfl, nv_X1_save⟩ ⟨by decide, by decide⟩ rfl (bl rfl) dX1_pass_17) 20 rfl ?_
  refine s_aload_n C dX1_pass_20 21 rfl 0 rfl ?_
  refine s_getR C hR fd_PatchCords_panel (Or.inl q273) dX1_pass_21 24 rfl (fun x5 => ?_)
  refine s_iload_n C dX1_pass_24 25 rfl 1 rfl ?_
  refine s_call_i (rn_V (As := [.int p0]) C (ct_at hR hA (ct_on (ct_X2_pass g TA x5 p0))) (rv_on C hR (q := vw_1) rfl) (lw_V q1255 q1256 q1257 q102 q1258) ⟨rfl, nv_X2_pass⟩ ⟨by decide, by decide⟩ rfl (bl rfl) dX1_pass_25) 28 rfl (fun x6 => ?_)
  exact s_iret C rfl rfl dX1_pass_28
theorem nv_X1_kindOf : yX1_kindOf.cls ≠ "java/lang/invoke/MethodHandle" ∧ yX1_kindOf.cls ≠ "java/lang/invoke/VarHandle" ∧ (parseMethodDescriptor yX1_kindOf.desc).map (fun d => d.parameters.length) = some 1 := by decide +kernel
theorem ct_X1_kindOf {l : Launch} (htr : l.stackTraces = false) (g : sm_G) (TA : Nat → Prop) (a0 : Nat) (p0 : Int32) : sm_CX l g (so_R g TA) (so_A g TA) yX1_kindOf cX1_kindOf 2 (some .int) 8 123 [.ref a0, .int p0] (em_x em_i) (f_X1_kindOf g a0 p0) := by
  refine sm_ofX htr (own := "PatchCords") rfl rfl (bl rfl) (fun Y C hR hA hl hm => ?_)
  subst hl
  refine s_lv (L' := [(0, .ref a0), (1, .int p0)]) [0, 1] rfl ?_
  refine s_top ?_
  unfold f_X1_kindOf
  refine s_aload_n C dX1_kindOf_0 1 rfl 0 rfl ?_
  refine s_iload_n C dX1_kindOf_1 2 rfl 1 rfl ?_
  refine s_callX_r C (rx_V (As := [.int p0]) C (cx_at hR hA (cx_on (ct_X1_checkedPart C.tr g TA a0 p0))) (rv_on C hR (q := vw_0) rfl) (lw_V q1409 q1411 qs27 q101 q1412) ⟨rfl, nv_X1_checkedPart⟩ ⟨by decide, by decide⟩ rfl (bl rfl) dX1_kindOf_2) (fun _ => rfl) 5 rfl (fun x1 => ?_)
  refine s_call_i (rn_D (by
      intro ci hci
      simp only [List.mem_cons, List.not_mem_nil, or_false] at hci
      rcases hci with rfl | rfl | rfl | rfl | rfl | rfl
      · exact (rn_U (As := []) C (ct_at hR hA (ct_on (ct_X12_kind g TA x1))) (rv_on C hR (q := vw_2) rfl) q1261 q1263 (va_Decl.abs (C.k.2.1 _ q1262 rfl)) (C.w _ q1279) q1280 q127 q1281 ⟨by decide +kernel, by decide +kernel, (show (parseMethodDescriptor "()I").map (fun d => d.parameters.length) = some 0 by decide +kernel)⟩ ⟨by decide, by decide⟩ rfl (bl rfl) dX1_kindOf_5)
      · exact (rn_U (As := []) C (ct_at hR hA (ct_on (ct_X8_kind g TA x1))) (rv_on C hR (q := vw_3) rfl) q1261 q1263 (va_Decl.abs (C.k.2.1 _ q1262 rfl)) (C.w _ q1267) q1268 q123 q1269 ⟨by decide +kernel, by decide +kernel, (show (parseMethodDescriptor "()I").map (fun d => d.parameters.length) = some 0 by decide +kernel)⟩ ⟨by decide, by decide⟩ rfl (bl rfl) dX1_kindOf_5)
      · exact (rn_U (As := []) C (ct_at hR hA (ct_on (ct_X9_kind g TA x1))) (rv_on C hR (q := vw_4) rfl) q1261 q1263 (va_Decl.abs (C.k.2.1 _ q1262 rfl)) (C.w _ q1270) q1271 q124 q1272 ⟨by decide +kernel, by decide +kernel, (show (parseMethodDescriptor "()I").map (fun d => d.parameters.length) = some 0 by decide +kernel)⟩ ⟨by decide, by decide⟩ rfl (bl rfl) dX1_kindOf_5)
      · exact (rn_U (As := []) C (ct_at hR hA (ct_on (ct_X10_kind g TA x1))) (rv_on C hR (q := vw_5) rfl) q1261 q1263 (va_Decl.abs (C.k.2.1 _ q1262 rfl)) (C.w _ q1273) q1274 q125 q1275 ⟨by decide +kernel, by decide +kernel, (show (parseMethodDescriptor "()I").map (fun d => d.parameters.length) = some 0 by decide +kernel)⟩ ⟨by decide, by decide⟩ rfl (bl rfl) dX1_kindOf_5)
      · exact (rn_U (As := []) C (ct_at hR hA (ct_on (ct_X6_kind g TA x1))) (rv_on C hR (q := vw_6) rfl) q1261 q1263 (va_Decl.abs (C.k.2.1 _ q1262 rfl)) (C.w _ q1264) q1265 q121 q1266 ⟨by decide +kernel, by decide +kernel, (show (parseMethodDescriptor "()I").map (fun d => d.parameters.length) = some 0 by decide +kernel)⟩ ⟨by decide, by decide⟩ rfl (bl rfl) dX1_kindOf_5)
      · exact (rn_U (As := []) C (ct_at hR hA (ct_on (ct_X11_kind g TA x1))) (rv_on C hR (q := vw_7) rfl) q1261 q1263 (va_Decl.abs (C.k.2.1 _ q1262 rfl)) (C.w _ q1276) q1277 q126 q1278 ⟨by decide +kernel, by decide +kernel, (show (parseMethodDescriptor "()I").map (fun d => d.parameters.length) = some 0 by decide +kernel)⟩ ⟨by decide, by decide⟩ rfl (bl rfl) dX1_kindOf_5))) 8 rfl (fun x2 => ?_)
  exact s_iret C rfl rfl dX1_kindOf_8
theorem nv_X1_inputsOf : yX1_inputsOf.cls ≠ "java/lang/invoke/MethodHandle" ∧ yX1_inputsOf.cls ≠ "java/lang/invoke/VarHandle" ∧ (parseMethodDescriptor yX1_inputsOf.desc).map (fun d => d.parameters.length) = some 1 := by decide +kernel
theorem ct_X1_inputsOf {l : Launch} (htr : l.stackTraces = false) (g : sm_G) (TA : Nat → Prop) (a0 : Nat) (p0 : Int32) : sm_CX l g (so_R g TA) (so_A g TA) yX1_inputsOf cX1_inputsOf 2 (some .int) 8 123 [.ref a0, .int p0] (em_x em_i) (f_X1_inputsOf g a0 p0) := by
  refine sm_ofX htr (own := "PatchCords") rfl rfl (bl rfl) (fun Y C hR hA hl hm => ?_)
  subst hl
  refine s_lv (L' := [(0, .ref a0), (1, .int p0)]) [0, 1] rfl ?_
  refine s_top ?_
  unfold f_X1_inputsOf
  refine s_aload_n C dX1_inputsOf_0 1 rfl 0 rfl ?_
  refine s_iload_n C dX1_inputsOf_1 2 rfl 1 rfl ?_
  refine s_callX_r C (rx_V (As := [.int p0]) C (cx_at hR hA (cx_on (ct_X1_checkedPart C.tr g TA a0 p0))) (rv_on C hR (q := vw_0) rfl) (lw_V q1409 q1411 qs27 q101 q1412) ⟨rfl, nv_X1_checkedPart⟩ ⟨by decide, by decide⟩ rfl (bl rfl) dX1_inputsOf_2) (fun _ => rfl) 5 rfl (fun x1 => ?_)
  refine s_getR C hR fd_PatchCords_Part_cords (Or.inr (Or.inl ⟨_, q342⟩)) dX1_inputsOf_5 8 rfl (fun x2 => ?_)
  refine s_alen C hR dX1_inputsOf_8 9 rfl (fun x3 => ?_)
  exact s_iret C rfl rfl dX1_inputsOf_9
theorem nv_X1_cordIn : yX1_cordIn.cls ≠ "java/lang/invoke/MethodHandle" ∧ yX1_cordIn.cls ≠ "java/lang/invoke/VarHandle" ∧ (parseMethodDescriptor yX1_cordIn.desc).map (fun d => d.parameters.length) = some 2 := by decide +kernel
theorem ct_X1_cordIn {l : Launch} (htr : l.stackTraces = false) (g : sm_G) (TA : Nat → Prop) (a0 : Nat) (p0 : Int32) (p1 : Int32) : sm_CX l g (so_R g TA) (so_A g TA) yX1_cordIn cX1_cordIn 3 (some .int) 9 146 [.ref a0, .int p0, .int p1] (em_x em_i) (f_X1_cordIn g a0 p0 p1) := by
  refine sm_ofX htr (own := "PatchCords") rfl rfl (bl rfl) (fun Y C hR hA hl hm => ?_)
  subst hl
  refine s_lv (L' := [(0, .ref a0), (1, .int p0), (2, .int p1)]) [0, 1, 2] rfl ?_
  refine s_top ?_
  unfold f_X1_cordIn
  refine s_aload_n C dX1_cordIn_0 1 rfl 0 rfl ?_
  refine s_iload_n C dX1_cordIn_1 2 rfl 1 rfl ?_
  refine s_iload_n C dX1_cordIn_2 3 rfl 2 rfl ?_
  refine s_callX_r C (rx_V (As := [.int p0, .int p1]) C (cx_at hR hA (cx_on (ct_X1_checkedInput C.tr g TA a0 p0 p1))) (rv_on C hR (q := vw_0) rfl) (lw_V q1405 q1407 qs26 q101 q1408) ⟨rfl, nv_X1_checkedInput⟩ ⟨by decide, by decide⟩ rfl (bl rfl) dX1_cordIn_3) (fun _ => rfl) 6 rfl (fun x1 => ?_)
  refine s_getR C hR fd_PatchCords_Part_cords (Or.inr (Or.inl ⟨_, q342⟩)) dX1_cordIn_6 9 rfl (fun x2 => ?_)
  refine s_iload_n C dX1_cordIn_9 10 rfl 2 rfl ?_
  refine s_iald C hR dX1_cordIn_10 11 rfl (fun x3 => ?_)
  exact s_iret C rfl rfl dX1_cordIn_11
theorem nv_X1_weightOf : yX1_weightOf.cls ≠ "java/lang/invoke/MethodHandle" ∧ yX1_weightOf.cls ≠ "java/lang/invoke/VarHandle" ∧ (parseMethodDescriptor yX1_weightOf.desc).map (fun d => d.parameters.length) = some 2 := by decide +kernel
theorem ct_X1_weightOf {l : Launch} (htr : l.stackTraces = false) (g : sm_G) (TA : Nat → Prop) (a0 : Nat) (p0 : Int32) (p1 : Int32) : sm_CX l g (so_R g TA) (so_A g TA) yX1_weightOf cX1_weightOf 3 (some .int) 10 169 [.ref a0, .int p0, .int p1] (em_x em_i) (f_X1_weightOf g a0 p0 p1) := by
  refine sm_ofX htr (own := "PatchCords") rfl rfl (bl rfl) (fun Y C hR hA hl hm => ?_)
  subst hl
  refine s_lv (L' := [(0, .ref a0), (1, .int p0), (2, .int p1)]) [0, 1, 2] rfl ?_
  refine s_top ?_
  unfold f_X1_weightOf
  refine s_aload_n C dX1_weightOf_0 1 rfl 0 rfl ?_
  refine s_iload_n C dX1_weightOf_1 2 rfl 1 rfl ?_
  refine s_iload_n C dX1_weightOf_2 3 rfl 2 rfl ?_
  refine s_callX_r C (rx_V (As := [.int p0, .int p1]) C (cx_at hR hA (cx_on (ct_X1_checkedWeighted C.tr g TA a0 p0 p1))) (rv_on C hR (q := vw_0) rfl) (lw_V q1401 q1403 qs25 q101 q1404) ⟨rfl, nv_X1_checkedWeighted⟩ ⟨by decide, by decide⟩ rfl (bl rfl) dX1_weightOf_3) (fun _ => rfl) 6 rfl (fun x1 => ?_)
  refine s_iload_n C dX1_weightOf_6 7 rfl 2 rfl ?_
  refine s_call_i (rn_D (by
      intro ci hci
      simp only [List.mem_cons, List.not_mem_nil, or_false] at hci
      rcases hci with rfl | rfl
      · exact (rn_U (As := [.int p1]) C (ct_at hR hA (ct_on (ct_X7_weight g TA x1 p1))) (rv_on C hR (q := vw_2) rfl) q1309 q634 (va_Decl.of (C.w _ q633) (C.w _ q637)) (C.w _ q636) q633 q122 q637 ⟨by decide +kernel, by decide +kernel, (show (parseMethodDescriptor "(I)I").map (fun d => d.parameters.length) = some 1 by decide +kernel)⟩ ⟨by decide, by decide⟩ rfl (bl rfl) dX1_weightOf_7)
      · exact (rn_U (As := [.int p1]) C (ct_at hR hA (ct_on (ct_X7_weight g TA x1 p1))) (rv_on C hR (q := vw_3) rfl) q1309 q634 (va_Decl.of (C.w _ q633) (C.w _ q637)) (C.w _ q635) q633 q122 q637 ⟨by decide +kernel, by decide +kernel, (show (parseMethodDescriptor "(I)I").map (fun d => d.parameters.length) = some 1 by decide +kernel)⟩ ⟨by decide, by decide⟩ rfl (bl rfl) dX1_weightOf_7))) 10 rfl (fun x2 => ?_)
  exact s_iret C rfl rfl dX1_weightOf_10
theorem nv_X1_settingOf : yX1_settingOf.cls ≠ "java/lang/invoke/MethodHandle" ∧ yX1_settingOf.cls ≠ "java/lang/invoke/VarHandle" ∧ (parseMethodDescriptor yX1_settingOf.desc).map (fun d => d.parameters.length) = some 1 := by decide +kernel
theorem ct_X1_settingOf {l : Launch} (htr : l.stackTraces = false) (g : sm_G) (TA : Nat → Prop) (a0 : Nat) (p0 : Int32) : sm_CX l g (so_R g TA) (so_A g TA) yX1_settingOf cX1_settingOf 2 (some .int) 8 123 [.ref a0, .int p0] (em_x em_i) (f_X1_settingOf g a0 p0) := by
  refine sm_ofX htr (own := "PatchCords") rfl rfl (bl rfl) (fun Y C hR hA hl hm => ?_)
  subst hl
  refine s_lv (L' := [(0, .ref a0), (1, .int p0)]) [0, 1] rfl ?_
  refine s_top ?_
  unfold f_X1_settingOf
  refine s_aload_n C dX1_settingOf_0 1 rfl 0 rfl ?_
  refine s_iload_n C dX1_settingOf_1 2 rfl 1 rfl ?_
  refine s_callX_r C (rx_V (As := [.int p0]) C (cx_at hR hA (cx_on (ct_X1_checkedPart C.tr g TA a0 p0))) (rv_on C hR (q := vw_0) rfl) (lw_V q1409 q1411 qs27 q101 q1412) ⟨rfl, nv_X1_checkedPart⟩ ⟨by decide, by decide⟩ rfl (bl rfl) dX1_settingOf_2) (fun _ => rfl) 5 rfl (fun x1 => ?_)
  refine s_call_i (rn_D (by
      intro ci hci
      simp only [List.mem_cons, List.not_mem_nil, or_false] at hci
      rcases hci with rfl | rfl | rfl | rfl | rfl | rfl
      · exact (rn_U (As := []) C (ct_at hR hA (ct_on (ct_X5_setting g TA x1))) (rv_on C hR (q := vw_2) rfl) q1282 q1284 (va_Decl.of (C.w _ q1283) (C.w _ q1297)) (C.w _ q1296) q1283 q120 q1297 ⟨by decide +kernel, by decide +kernel, (show (parseMethodDescriptor "()I").map (fun d => d.parameters.length) = some 0 by decide +kernel)⟩ ⟨by decide, by decide⟩ rfl (bl rfl) dX1_settingOf_5)
      · exact (rn_U (As := []) C (ct_at hR hA (ct_on (ct_X8_setting g TA x1))) (rv_on C hR (q := vw_3) rfl) q1282 q1284 (va_Decl.of (C.w _ q1283) (C.w _ q1297)) (C.w _ q1286) q1287 q123 q1288 ⟨by decide +kernel, by decide +kernel, (show (parseMethodDescriptor "()I").map (fun d => d.parameters.length) = some 0 by decide +kernel)⟩ ⟨by decide, by decide⟩ rfl (bl rfl) dX1_settingOf_5)
      · exact (rn_U (As := []) C (ct_at hR hA (ct_on (ct_X9_setting g TA x1))) (rv_on C hR (q := vw_4) rfl) q1282 q1284 (va_Decl.of (C.w _ q1283) (C.w _ q1297)) (C.w _ q1289) q1290 q124 q1291 ⟨by decide +kernel, by decide +kernel, (show (parseMethodDescriptor "()I").map (fun d => d.parameters.length) = some 0 by decide +kernel)⟩ ⟨by decide, by decide⟩ rfl (bl rfl) dX1_settingOf_5)
      · exact (rn_U (As := []) C (ct_at hR hA (ct_on (ct_X5_setting g TA x1))) (rv_on C hR (q := vw_5) rfl) q1282 q1284 (va_Decl.of (C.w _ q1283) (C.w _ q1297)) (C.w _ q1292) q1283 q120 q1297 ⟨by decide +kernel, by decide +kernel, (show (parseMethodDescriptor "()I").map (fun d => d.parameters.length) = some 0 by decide +kernel)⟩ ⟨by decide, by decide⟩ rfl (bl rfl) dX1_settingOf_5)
      · exact (rn_U (As := []) C (ct_at hR hA (ct_on (ct_X5_setting g TA x1))) (rv_on C hR (q := vw_6) rfl) q1282 q1284 (va_Decl.of (C.w _ q1283) (C.w _ q1297)) (C.w _ q1285) q1283 q120 q1297 ⟨by decide +kernel, by decide +kernel, (show (parseMethodDescriptor "()I").map (fun d => d.parameters.length) = some 0 by decide +kernel)⟩ ⟨by decide, by decide⟩ rfl (bl rfl) dX1_settingOf_5)
      · exact (rn_U (As := []) C (ct_at hR hA (ct_on (ct_X11_setting g TA x1))) (rv_on C hR (q := vw_7) rfl) q1282 q1284 (va_Decl.of (C.w _ q1283) (C.w _ q1297)) (C.w _ q1293) q1294 q126 q1295 ⟨by decide +kernel, by decide +kernel, (show (parseMethodDescriptor "()I").map (fun d => d.parameters.length) = some 0 by decide +kernel)⟩ ⟨by decide, by decide⟩ rfl (bl rfl) dX1_settingOf_5))) 8 rfl (fun x2 => ?_)
  exact s_iret C rfl rfl dX1_settingOf_8
theorem nv_X1_speedOf : yX1_speedOf.cls ≠ "java/lang/invoke/MethodHandle" ∧ yX1_speedOf.cls ≠ "java/lang/invoke/VarHandle" ∧ (parseMethodDescriptor yX1_speedOf.desc).map (fun d => d.parameters.length) = some 1 := by decide +kernel
theorem ct_X1_speedOf {l : Launch} (htr : l.stackTraces = false) (g : sm_G) (TA : Nat → Prop) (a0 : Nat) (p0 : Int32) : sm_CX l g (so_R g TA) (so_A g TA) yX1_speedOf cX1_speedOf 2 (some .int) 9 145 [.ref a0, .int p0] (em_x em_i) (f_X1_speedOf g a0 p0) := by
  refine sm_ofX htr (own := "PatchCords") rfl rfl (bl rfl) (fun Y C hR hA hl hm => ?_)
  subst hl
  refine s_lv (L' := [(0, .ref a0), (1, .int p0)]) [0, 1] rfl ?_
  refine s_top ?_
  unfold f_X1_speedOf
  refine s_aload_n C dX1_speedOf_0 1 rfl 0 rfl ?_
  refine s_iload_n C dX1_speedOf_1 2 rfl 1 rfl ?_
  refine s_callX_r C (rx_V (As := [.int p0]) C (cx_at hR hA (cx_on (ct_X1_checkedIntegrator C.tr g TA a0 p0))) (rv_on C hR (q := vw_0) rfl) (lw_V q1477 q1479 qs29 q101 q1480) ⟨rfl, nv_X1_checkedIntegrator⟩ ⟨by decide, by decide⟩ rfl (bl rfl) dX1_speedOf_2) (fun _ => rfl) 5 rfl (fun x1 => ?_)
  refine s_getI C hR fd_PatchCords_Integrator_speed (Or.inr (Or.inl ⟨_, q366⟩)) dX1_speedOf_5 8 rfl (fun x2 => ?_)
  exact s_iret C rfl rfl dX1_speedOf_8
theorem nv_X2_output : yX2_output.cls ≠ "java/lang/invoke/MethodHandle" ∧ yX2_output.cls ≠ "java/lang/invoke/VarHandle" ∧ (parseMethodDescriptor yX2_output.desc).map (fun d => d.parameters.length) = some 1 := by decide +kernel
theorem ct_X2_output {l : Launch} (g : sm_G) (TA : Nat → Prop) (a0 : Nat) (p0 : Int32) : sm_CT l g (so_R g TA) (so_A g TA) yX2_output cX2_output 2 (some .int) 5 108 [.ref a0, .int p0] em_i (f_X2_output g a0 p0) := by
  refine sm_of (own := "PatchCords$Panel") rfl rfl (bl rfl) (fun Y C hR hA hl hm => ?_)
  subst hl
  refine s_lv (L' := [(0, .ref a0), (1, .int p0)]) [0, 1] rfl ?_
  refine s_top ?_
  unfold f_X2_output
  refine s_aload_n C dX2_output_0 1 rfl 0 rfl ?_
  refine s_call_v (rn_V (As := []) C (ct_at hR hA (ct_on (ct_X2_tellOutputs g TA a0))) (rv_on C hR (q := vw_1) rfl) (lw_V q597 q599 qs6 q102 q600) ⟨rfl, nv_X2_tellOutputs⟩ ⟨by decide, by decide⟩ rfl (bl rfl) dX2_output_1) 4 rfl ?_
  refine s_aload_n C dX2_output_4 5 rfl 0 rfl ?_
  refine s_getR C hR fd_PatchCords_Panel_outputs (Or.inl q185) dX2_output_5 8 rfl (fun x2 => ?_)
  refine s_iload_n C dX2_output_8 9 rfl 1 rfl ?_
  refine s_iald C hR dX2_output_9 10 rfl (fun x3 => ?_)
  exact s_iret C rfl rfl dX2_output_10
theorem nv_X1_outputOf : yX1_outputOf.cls ≠ "java/lang/invoke/MethodHandle" ∧ yX1_outputOf.cls ≠ "java/lang/invoke/VarHandle" ∧ (parseMethodDescriptor yX1_outputOf.desc).map (fun d => d.parameters.length) = some 1 := by decide +kernel
theorem ct_X1_outputOf {l : Launch} (htr : l.stackTraces = false) (g : sm_G) (TA : Nat → Prop) (a0 : Nat) (p0 : Int32) : sm_CX l g (so_R g TA) (so_A g TA) yX1_outputOf cX1_outputOf 2 (some .int) 8 129 [.ref a0, .int p0] (em_x em_i) (f_X1_outputOf g a0 p0) := by
  refine sm_ofX htr (own := "PatchCords") rfl rfl (bl rfl) (fun Y C hR hA hl hm => ?_)
  subst hl
  refine s_lv (L' := [(0, .ref a0), (1, .int p0)]) [0, 1] rfl ?_
  refine s_top ?_
  unfold f_X1_outputOf
  refine s_aload_n C dX1_outputOf_0 1 rfl 0 rfl ?_
  refine s_iload_n C dX1_outputOf_1 2 rfl 1 rfl ?_
  refine s_callX_r C (rx_V (As := [.int p0]) C (cx_at hR hA (cx_on (ct_X1_checkedPart C.tr g TA a0 p0))) (rv_on C hR (q := vw_0) rfl) (lw_V q1409 q1411 qs27 q101 q1412) ⟨rfl, nv_X1_checkedPart⟩ ⟨by decide, by decide⟩ rfl (bl rfl) dX1_outputOf_2) (fun _ => rfl) 5 rfl (fun x1 => ?_)
  refine s_pop C dX1_outputOf_5 rfl 6 rfl ?_
  refine s_aload_n C dX1_outputOf_6 7 rfl 0 rfl ?_
  refine s_getR C hR fd_PatchCords_panel (Or.inl q273) dX1_outputOf_7 10 rfl (fun x2 => ?_)
  refine s_iload_n C dX1_outputOf_10 11 rfl 1 rfl ?_
  refine s_call_i (rn_V (As := [.int p0]) C (ct_at hR hA (ct_on (ct_X2_output g TA x2 p0))) (rv_on C hR (q := vw_1) rfl) (lw_V q1612 q1613 q1614 q102 q1615) ⟨rfl, nv_X2_output⟩ ⟨by decide, by decide⟩ rfl (bl rfl) dX1_outputOf_11) 14 rfl (fun x3 => ?_)
  exact s_iret C rfl rfl dX1_outputOf_14
theorem nv_X2_ask : yX2_ask.cls ≠ "java/lang/invoke/MethodHandle" ∧ yX2_ask.cls ≠ "java/lang/invoke/VarHandle" ∧ (parseMethodDescriptor yX2_ask.desc).map (fun d => d.parameters.length) = some 3 := by decide +kernel
theorem ct_X2_ask {l : Launch} (g : sm_G) (TA : Nat → Prop) : ∀ (n : Nat) (a0 : Nat) (p0 : Int32) (p1 : Nat) (p2 : Nat), sm_CT l g (so_R g TA) (so_A g TA) yX2_ask cX2_ask 7 (some .int) (4 * n) (86 * n) [.ref a0, .int p0, .ref p1, .ref p2] em_i (f_X2_ask g n a0 p0 p1 p2) := by
  intro n
  refine Nat.rec ?_ (fun n ih => ?_) n
  · intro a0 p0 p1 p2 σ r σ' k m h
    cases h
  intro a0 p0 p1 p2
  refine sm_of (own := "PatchCords$Panel") rfl rfl (bl rfl) (fun Y C hR hA hl hm => ?_)
  subst hl
  refine s_lv (L' := [(0, .ref a0), (1, .int p0), (2, .ref p1), (3, .ref p2)]) [0, 1, 2, 3] rfl ?_
  refine s_top ?_
  unfold f_X2_ask
  refine s_aload_n C dX2_ask_0 1 rfl 3 rfl ?_
  refine s_iload_n C dX2_ask_1 2 rfl 1 rfl ?_
  refine s_zald C hR dX2_ask_2 3 rfl (fun x1 => ?_)
  refine s_cut (J := 101) (LJ := (fun (v2 : Unit) => [(1, .int p0), (2, .ref p1)])) (SJ := (fun (v2 : Unit) => [])) (fun v2 => ?_) (fun _ _ hK3 => ?_)
  · refine s_aload_n C dX2_ask_101 102 rfl 1 rfl ?_
    refine s_iload_n C dX2_ask_102 103 rfl 0 rfl ?_
    refine s_iald C hR dX2_ask_103 104 rfl (fun x22 => ?_)
    exact s_iret C rfl rfl dX2_ask_104
  · refine s_if_ne C dX2_ask_3 101 6 (by decide) rfl ?_ ?_
    · refine s_aload_n C dX2_ask_6 7 rfl 0 rfl ?_
      refine s_iload_n C dX2_ask_7 8 rfl 1 rfl ?_
      refine s_call_r (rn_V (As := [.int p0]) C (ct_at hR hA (ct_on (ct_X2_part g TA a0 p0))) (rv_on C hR (q := vw_1) rfl) (lw_V q562 q563 q564 q102 q565) ⟨rfl, nv_X2_part⟩ ⟨by omega, by omega⟩ rfl (bl rfl) dX2_ask_8) 11 rfl (fun x4 => ?_)
      refine s_astore C dX2_ask_11 (by decide) 13 rfl [(4, .ref x4), (0, .ref a0), (1, .int p0), (2, .ref p1), (3, .ref p2)] rfl ?_
      refine s_iconst (v := 4) C dX2_ask_13 (by decide) 14 rfl ?_
      refine s_newa C hR 0 .int rfl (fun _ => rfl) (fun _ h => by cases h) (by decide) q237 dX2_ask_14 16 rfl (fun x5 => ?_)
      refine s_astore C dX2_ask_16 (by decide) 18 rfl [(5, .ref x5), (4, .ref x4), (0, .ref a0), (1, .int p0), (2, .ref p1), (3, .ref p2)] rfl ?_
      refine s_iconst (v := 0) C dX2_ask_18 (by decide) 19 rfl ?_
      refine s_istore C dX2_ask_19 (by decide) 21 rfl [(6, .int 0), (5, .ref x5), (4, .ref x4), (0, .ref a0), (1, .int p0), (2, .ref p1), (3, .ref p2)] rfl ?_
      refine s_lv [3, 4, 5, 6, 2, 1, 0] rfl ?_
      refine s_loop (fun (s6 : Int32) => [(0, .ref a0), (1, .int p0), (2, .ref p1), (3, .ref p2), (4, .ref x4), (5, .ref x5), (6, .int s6)]) (fun (v19 : Unit) => [(1, .int p0), (2, .ref p1), (3, .ref p2), (4, .ref x4), (5, .ref x5)]) 81 0 rfl (fun v19 => ?_) (fun _ s6 hk7 hx8 => ?_)
      · refine s_aload_n C dX2_ask_81 82 rfl 1 rfl ?_
        refine s_iload_n C dX2_ask_82 83 rfl 0 rfl ?_
        refine s_aload C dX2_ask_83 85 rfl 3 rfl ?_
        refine s_aload C dX2_ask_85 87 rfl 4 rfl ?_
        refine s_call_i (rn_D (by
            intro ci hci
            simp only [List.mem_cons, List.not_mem_nil, or_false] at hci
            rcases hci with rfl | rfl | rfl | rfl | rfl | rfl
            · exact (rn_U (As := [.ref x5]) C (ct_at hR hA (ct_on (ct_X12_raw g TA x4 x5))) (rv_on C hR (q := vw_2) rfl) q605 q607 (va_Decl.abs (C.k.2.1 _ q606 rfl)) (C.w _ q623) q624 q127 q625 ⟨by decide +kernel, by decide +kernel, (show (parseMethodDescriptor "([I)I").map (fun d => d.parameters.length) = some 1 by decide +kernel)⟩ ⟨by omega, by omega⟩ rfl (bl rfl) dX2_ask_87)
            · exact (rn_U (As := [.ref x5]) C (ct_at hR hA (ct_on (ct_X8_raw g TA x4 x5))) (rv_on C hR (q := vw_3) rfl) q605 q607 (va_Decl.abs (C.k.2.1 _ q606 rfl)) (C.w _ q611) q612 q123 q613 ⟨by decide +kernel, by decide +kernel, (show (parseMethodDescriptor "([I)I").map (fun d => d.parameters.length) = some 1 by decide +kernel)⟩ ⟨by omega, by omega⟩ rfl (bl rfl) dX2_ask_87)
            · exact (rn_U (As := [.ref x5]) C (ct_at hR hA (ct_on (ct_X9_raw g TA x4 x5))) (rv_on C hR (q := vw_4) rfl) q605 q607 (va_Decl.abs (C.k.2.1 _ q606 rfl)) (C.w _ q614) q615 q124 q616 ⟨by decide +kernel, by decide +kernel, (show (parseMethodDescriptor "([I)I").map (fun d => d.parameters.length) = some 1 by decide +kernel)⟩ ⟨by omega, by omega⟩ rfl (bl rfl) dX2_ask_87)
            · exact (rn_U (As := [.ref x5]) C (ct_at hR hA (ct_on (ct_X10_raw g TA x4 x5))) (rv_on C hR (q := vw_5) rfl) q605 q607 (va_Decl.abs (C.k.2.1 _ q606 rfl)) (C.w _ q617) q618 q125 q619 ⟨by decide +kernel, by decide +kernel, (show (parseMethodDescriptor "([I)I").map (fun d => d.parameters.length) = some 1 by decide +kernel)⟩ ⟨by omega, by omega⟩ rfl (bl rfl) dX2_ask_87)
            · exact (rn_U (As := [.ref x5]) C (ct_at hR hA (ct_on (ct_X6_raw g TA x4 x5))) (rv_on C hR (q := vw_6) rfl) q605 q607 (va_Decl.abs (C.k.2.1 _ q606 rfl)) (C.w _ q608) q609 q121 q610 ⟨by decide +kernel, by decide +kernel, (show (parseMethodDescriptor "([I)I").map (fun d => d.parameters.length) = some 1 by decide +kernel)⟩ ⟨by omega, by omega⟩ rfl (bl rfl) dX2_ask_87)
            · exact (rn_U (As := [.ref x5]) C (ct_at hR hA (ct_on (ct_X11_raw g TA x4 x5))) (rv_on C hR (q := vw_7) rfl) q605 q607 (va_Decl.abs (C.k.2.1 _ q606 rfl)) (C.w _ q620) q621 q126 q622 ⟨by decide +kernel, by decide +kernel, (show (parseMethodDescriptor "([I)I").map (fun d => d.parameters.length) = some 1 by decide +kernel)⟩ ⟨by omega, by omega⟩ rfl (bl rfl) dX2_ask_87))) 90 rfl (fun x20 => ?_)
        refine s_sipush (v := 10000) C dX2_ask_90 (by decide) 93 rfl ?_
        refine s_call_i (rn_SN (As := [.int x20, .int 10000]) C (ct_at hR hA (ct_X1_held g TA x20 10000)) q641 q642 q101 q643 nv_X1_held ⟨by omega, by omega⟩ rfl (bl rfl) dX2_ask_93) 96 rfl (fun x21 => ?_)
        refine s_iast C hR hA dX2_ask_96 97 rfl ?_
        refine s_aload_n C dX2_ask_97 98 rfl 2 rfl ?_
        refine s_iload_n C dX2_ask_98 99 rfl 0 rfl ?_
        refine s_iconst (v := 1) C dX2_ask_99 (by decide) 100 rfl ?_
        refine s_zast C hR hA dX2_ask_100 101 rfl ?_
        refine s_r ?_
        refine s_lv [0, 1] rfl ?_
        exact hK3 ()
      · refine s_iload C dX2_ask_21 23 rfl 6 rfl ?_
        refine s_aload C dX2_ask_23 25 rfl 4 rfl ?_
        refine s_getR C hR fd_PatchCords_Part_cords (Or.inr (Or.inl ⟨_, q341⟩)) dX2_ask_25 28 rfl (fun x9 => ?_)
        refine s_alen C hR dX2_ask_28 29 rfl (fun x10 => ?_)
        refine s_icmp_ge C dX2_ask_29 81 32 (by decide) rfl ?_ ?_
        · refine s_r ?_
          refine s_lv [1, 2, 3, 4, 5] rfl ?_
          exact hx8 ()
        · refine s_aload C dX2_ask_32 34 rfl 4 rfl ?_
          refine s_call_i (rn_D (by
              intro ci hci
              simp only [List.mem_cons, List.not_mem_nil, or_false] at hci
              rcases hci with rfl | rfl | rfl | rfl | rfl | rfl
              · exact (rn_U (As := []) C (ct_at hR hA (ct_on (ct_X5_isSource g TA x4))) (rv_on C hR (q := vw_2) rfl) q1237 q1239 (va_Decl.of (C.w _ q1238) (C.w _ q1250)) (C.w _ q1249) q1238 q120 q1250 ⟨by decide +kernel, by decide +kernel, (show (parseMethodDescriptor "()Z").map (fun d => d.parameters.length) = some 0 by decide +kernel)⟩ ⟨by omega, by omega⟩ rfl (bl rfl) dX2_ask_34)
              · exact (rn_U (As := []) C (ct_at hR hA (ct_on (ct_X8_isSource g TA x4))) (rv_on C hR (q := vw_3) rfl) q1237 q1239 (va_Decl.of (C.w _ q1238) (C.w _ q1250)) (C.w _ q1241) q1242 q123 q1243 ⟨by decide +kernel, by decide +kernel, (show (parseMethodDescriptor "()Z").map (fun d => d.parameters.length) = some 0 by decide +kernel)⟩ ⟨by omega, by omega⟩ rfl (bl rfl) dX2_ask_34)
              · exact (rn_U (As := []) C (ct_at hR hA (ct_on (ct_X5_isSource g TA x4))) (rv_on C hR (q := vw_4) rfl) q1237 q1239 (va_Decl.of (C.w _ q1238) (C.w _ q1250)) (C.w _ q1244) q1238 q120 q1250 ⟨by decide +kernel, by decide +kernel, (show (parseMethodDescriptor "()Z").map (fun d => d.parameters.length) = some 0 by decide +kernel)⟩ ⟨by omega, by omega⟩ rfl (bl rfl) dX2_ask_34)
              · exact (rn_U (As := []) C (ct_at hR hA (ct_on (ct_X5_isSource g TA x4))) (rv_on C hR (q := vw_5) rfl) q1237 q1239 (va_Decl.of (C.w _ q1238) (C.w _ q1250)) (C.w _ q1245) q1238 q120 q1250 ⟨by decide +kernel, by decide +kernel, (show (parseMethodDescriptor "()Z").map (fun d => d.parameters.length) = some 0 by decide +kernel)⟩ ⟨by omega, by omega⟩ rfl (bl rfl) dX2_ask_34)
              · exact (rn_U (As := []) C (ct_at hR hA (ct_on (ct_X5_isSource g TA x4))) (rv_on C hR (q := vw_6) rfl) q1237 q1239 (va_Decl.of (C.w _ q1238) (C.w _ q1250)) (C.w _ q1240) q1238 q120 q1250 ⟨by decide +kernel, by decide +kernel, (show (parseMethodDescriptor "()Z").map (fun d => d.parameters.length) = some 0 by decide +kernel)⟩ ⟨by omega, by omega⟩ rfl (bl rfl) dX2_ask_34)
              · exact (rn_U (As := []) C (ct_at hR hA (ct_on (ct_X11_isSource g TA x4))) (rv_on C hR (q := vw_7) rfl) q1237 q1239 (va_Decl.of (C.w _ q1238) (C.w _ q1250)) (C.w _ q1246) q1247 q126 q1248 ⟨by decide +kernel, by decide +kernel, (show (parseMethodDescriptor "()Z").map (fun d => d.parameters.length) = some 0 by decide +kernel)⟩ ⟨by omega, by omega⟩ rfl (bl rfl) dX2_ask_34))) 37 rfl (fun x11 => ?_)
          refine s_if_ne C dX2_ask_37 81 40 (by decide) rfl ?_ ?_
          · refine s_aload C dX2_ask_40 42 rfl 5 rfl ?_
            refine s_iload C dX2_ask_42 44 rfl 6 rfl ?_
            refine s_aload C dX2_ask_44 46 rfl 4 rfl ?_
            refine s_getR C hR fd_PatchCords_Part_cords (Or.inr (Or.inl ⟨_, q341⟩)) dX2_ask_46 49 rfl (fun x12 => ?_)
            refine s_iload C dX2_ask_49 51 rfl 6 rfl ?_
            refine s_iald C hR dX2_ask_51 52 rfl (fun x13 => ?_)
            refine s_iconst (v := (-1)) C dX2_ask_52 (by decide) 53 rfl ?_
            refine s_cut (J := 74) (LJ := (fun (v14 : Int32) => [(0, .ref a0), (1, .int p0), (2, .ref p1), (3, .ref p2), (4, .ref x4), (5, .ref x5), (6, .int s6)])) (SJ := (fun (v14 : Int32) => [.int v14, .int s6, .ref x5])) (fun v14 => ?_) (fun _ _ hK15 => ?_)
            · refine s_iast C hR hA dX2_ask_74 75 rfl ?_
              refine s_iinc C dX2_ask_75 (s6 + 1) rfl 6 rfl (by decide) 78 rfl [(6, .int (s6 + 1)), (0, .ref a0), (1, .int p0), (2, .ref p1), (3, .ref p2), (4, .ref x4), (5, .ref x5)] rfl ?_
              refine s_goto C dX2_ask_78 21 (by decide) ?_
              refine s_r ?_
              refine s_lv [1, 2, 3, 4, 5, 6, 0] rfl ?_
              exact hk7 (s6 + 1)
            · refine s_icmp_ne C dX2_ask_53 60 56 (by decide) rfl ?_ ?_
              · refine s_iconst (v := 0) C dX2_ask_56 (by decide) 57 rfl ?_
                refine s_goto C dX2_ask_57 74 (by decide) ?_
                refine s_r ?_
                refine s_lv [0, 1, 2, 3, 4, 5, 6] rfl ?_
                exact hK15 0
              · refine s_aload_n C dX2_ask_60 61 rfl 0 rfl ?_
                refine s_aload C dX2_ask_61 63 rfl 4 rfl ?_
                refine s_getR C hR fd_PatchCords_Part_cords (Or.inr (Or.inl ⟨_, q341⟩)) dX2_ask_63 66 rfl (fun x16 => ?_)
                refine s_iload C dX2_ask_66 68 rfl 6 rfl ?_
                refine s_iald C hR dX2_ask_68 69 rfl (fun x17 => ?_)
                refine s_aload_n C dX2_ask_69 70 rfl 2 rfl ?_
                refine s_aload_n C dX2_ask_70 71 rfl 3 rfl ?_
                refine s_call_i (rn_V (As := [.int x17, .ref p1, .ref p2]) C (ct_at hR hA (ct_on (ih a0 x17 p1 p2))) (rv_on C hR (q := vw_1) rfl) (lw_V q1627 q1629 qs32 q102 q1630) ⟨rfl, nv_X2_ask⟩ ⟨by omega, by omega⟩ rfl (bl rfl) dX2_ask_71) 74 rfl (fun x18 => ?_)
                refine s_r ?_
                refine s_lv [0, 1, 2, 3, 4, 5, 6] rfl ?_
                exact hK15 x18
          · refine s_r ?_
            refine s_lv [1, 2, 3, 4, 5] rfl ?_
            exact hx8 ()
    · refine s_r ?_
      refine s_lv [1, 2] rfl ?_
      exact hK3 ()
theorem nv_X2_outputByAsking : yX2_outputByAsking.cls ≠ "java/lang/invoke/MethodHandle" ∧ yX2_outputByAsking.cls ≠ "java/lang/invoke/VarHandle" ∧ (parseMethodDescriptor yX2_outputByAsking.desc).map (fun d => d.parameters.length) = some 1 := by decide +kernel
theorem ct_X2_outputByAsking {l : Launch} (g : sm_G) (TA : Nat → Prop) (a0 : Nat) (p0 : Int32) : sm_CT l g (so_R g TA) (so_A g TA) yX2_outputByAsking cX2_outputByAsking 2 (some .int) 69 1488 [.ref a0, .int p0] em_i (f_X2_outputByAsking g a0 p0) := by
  refine sm_of (own := "PatchCords$Panel") rfl rfl (bl rfl) (fun Y C hR hA hl hm => ?_)
  subst hl
  refine s_lv (L' := [(0, .ref a0), (1, .int p0)]) [0, 1] rfl ?_
  refine s_top ?_
  unfold f_X2_outputByAsking
  refine s_aload_n C dX2_outputByAsking_0 1 rfl 0 rfl ?_
  refine s_iload_n C dX2_outputByAsking_1 2 rfl 1 rfl ?_
  refine s_bipush (v := 16) C dX2_outputByAsking_2 (by decide) 4 rfl ?_
  refine s_newa C hR 0 .int rfl (fun _ => rfl) (fun _ h => by cases h) (by decide) q237 dX2_outputByAsking_4 6 rfl (fun x1 => ?_)
  refine s_bipush (v := 16) C dX2_outputByAsking_6 (by decide) 8 rfl ?_
  refine s_newa C hR 1 .boolean rfl (fun _ => rfl) (fun _ h => by cases h) (by decide) q1631 dX2_outputByAsking_8 10 rfl (fun x2 => ?_)
  refine s_call_i (rn_V (As := [.int p0, .ref x1, .ref x2]) C (ct_at hR hA (ct_on (ct_X2_ask g TA 17 a0 p0 x1 x2))) (rv_on C hR (q := vw_1) rfl) (lw_V q1627 q1629 qs32 q102 q1630) ⟨rfl, nv_X2_ask⟩ ⟨by decide, by decide⟩ rfl (bl rfl) dX2_outputByAsking_10) 13 rfl (fun x3 => ?_)
  exact s_iret C rfl rfl dX2_outputByAsking_13
theorem nv_X1_outputByAsking : yX1_outputByAsking.cls ≠ "java/lang/invoke/MethodHandle" ∧ yX1_outputByAsking.cls ≠ "java/lang/invoke/VarHandle" ∧ (parseMethodDescriptor yX1_outputByAsking.desc).map (fun d => d.parameters.length) = some 1 := by decide +kernel
theorem ct_X1_outputByAsking {l : Launch} (htr : l.stackTraces = false) (g : sm_G) (TA : Nat → Prop) (a0 : Nat) (p0 : Int32) : sm_CX l g (so_R g TA) (so_A g TA) yX1_outputByAsking cX1_outputByAsking 2 (some .int) 70 1509 [.ref a0, .int p0] (em_x em_i) (f_X1_outputByAsking g a0 p0) := by
  refine sm_ofX htr (own := "PatchCords") rfl rfl (bl rfl) (fun Y C hR hA hl hm => ?_)
  subst hl
  refine s_lv (L' := [(0, .ref a0), (1, .int p0)]) [0, 1] rfl ?_
  refine s_top ?_
  unfold f_X1_outputByAsking
  refine s_aload_n C dX1_outputByAsking_0 1 rfl 0 rfl ?_
  refine s_iload_n C dX1_outputByAsking_1 2 rfl 1 rfl ?_
  refine s_callX_r C (rx_V (As := [.int p0]) C (cx_at hR hA (cx_on (ct_X1_checkedPart C.tr g TA a0 p0))) (rv_on C hR (q := vw_0) rfl) (lw_V q1409 q1411 qs27 q101 q1412) ⟨rfl, nv_X1_checkedPart⟩ ⟨by decide, by decide⟩ rfl (bl rfl) dX1_outputByAsking_2) (fun _ => rfl) 5 rfl (fun x1 => ?_)
  refine s_pop C dX1_outputByAsking_5 rfl 6 rfl ?_
  refine s_aload_n C dX1_outputByAsking_6 7 rfl 0 rfl ?_
  refine s_getR C hR fd_PatchCords_panel (Or.inl q273) dX1_outputByAsking_7 10 rfl (fun x2 => ?_)
  refine s_iload_n C dX1_outputByAsking_10 11 rfl 1 rfl ?_
  refine s_call_i (rn_V (As := [.int p0]) C (ct_at hR hA (ct_on (ct_X2_outputByAsking g TA x2 p0))) (rv_on C hR (q := vw_1) rfl) (lw_V q1623 q1624 q1625 q102 q1626) ⟨rfl, nv_X2_outputByAsking⟩ ⟨by decide, by decide⟩ rfl (bl rfl) dX1_outputByAsking_11) 14 rfl (fun x3 => ?_)
  exact s_iret C rfl rfl dX1_outputByAsking_14
theorem nv_X2_input : yX2_input.cls ≠ "java/lang/invoke/MethodHandle" ∧ yX2_input.cls ≠ "java/lang/invoke/VarHandle" ∧ (parseMethodDescriptor yX2_input.desc).map (fun d => d.parameters.length) = some 2 := by decide +kernel
theorem ct_X2_input {l : Launch} (g : sm_G) (TA : Nat → Prop) (a0 : Nat) (p0 : Int32) (p1 : Int32) : sm_CT l g (so_R g TA) (so_A g TA) yX2_input cX2_input 3 (some .int) 5 108 [.ref a0, .int p0, .int p1] em_i (f_X2_input g a0 p0 p1) := by
  refine sm_of (own := "PatchCords$Panel") rfl rfl (bl rfl) (fun Y C hR hA hl hm => ?_)
  subst hl
  refine s_lv (L' := [(0, .ref a0), (1, .int p0), (2, .int p1)]) [0, 1, 2] rfl ?_
  refine s_top ?_
  unfold f_X2_input
  refine s_aload_n C dX2_input_0 1 rfl 0 rfl ?_
  refine s_call_v (rn_V (As := []) C (ct_at hR hA (ct_on (ct_X2_tellOutputs g TA a0))) (rv_on C hR (q := vw_1) rfl) (lw_V q597 q599 qs6 q102 q600) ⟨rfl, nv_X2_tellOutputs⟩ ⟨by decide, by decide⟩ rfl (bl rfl) dX2_input_1) 4 rfl ?_
  refine s_aload_n C dX2_input_4 5 rfl 0 rfl ?_
  refine s_aload_n C dX2_input_5 6 rfl 0 rfl ?_
  refine s_iload_n C dX2_input_6 7 rfl 1 rfl ?_
  refine s_call_r (rn_V (As := [.int p0]) C (ct_at hR hA (ct_on (ct_X2_part g TA a0 p0))) (rv_on C hR (q := vw_1) rfl) (lw_V q562 q563 q564 q102 q565) ⟨rfl, nv_X2_part⟩ ⟨by decide, by decide⟩ rfl (bl rfl) dX2_input_7) 10 rfl (fun x2 => ?_)
  refine s_call_v (rn_V (As := [.ref x2]) C (ct_at hR hA (ct_on (ct_X2_tellInputs g TA a0 x2))) (rv_on C hR (q := vw_1) rfl) (lw_V q601 q603 qs7 q102 q604) ⟨rfl, nv_X2_tellInputs⟩ ⟨by decide, by decide⟩ rfl (bl rfl) dX2_input_10) 13 rfl ?_
  refine s_aload_n C dX2_input_13 14 rfl 0 rfl ?_
  refine s_getR C hR fd_PatchCords_Panel_in (Or.inl q187) dX2_input_14 17 rfl (fun x4 => ?_)
  refine s_iload_n C dX2_input_17 18 rfl 2 rfl ?_
  refine s_iald C hR dX2_input_18 19 rfl (fun x5 => ?_)
  exact s_iret C rfl rfl dX2_input_19
theorem nv_X1_inputOf : yX1_inputOf.cls ≠ "java/lang/invoke/MethodHandle" ∧ yX1_inputOf.cls ≠ "java/lang/invoke/VarHandle" ∧ (parseMethodDescriptor yX1_inputOf.desc).map (fun d => d.parameters.length) = some 2 := by decide +kernel
theorem ct_X1_inputOf {l : Launch} (htr : l.stackTraces = false) (g : sm_G) (TA : Nat → Prop) (a0 : Nat) (p0 : Int32) (p1 : Int32) : sm_CX l g (so_R g TA) (so_A g TA) yX1_inputOf cX1_inputOf 3 (some .int) 9 146 [.ref a0, .int p0, .int p1] (em_x em_i) (f_X1_inputOf g a0 p0 p1) := by
  refine sm_ofX htr (own := "PatchCords") rfl rfl (bl rfl) (fun Y C hR hA hl hm => ?_)
  subst hl
  refine s_lv (L' := [(0, .ref a0), (1, .int p0), (2, .int p1)]) [0, 1, 2] rfl ?_
  refine s_top ?_
  unfold f_X1_inputOf
  refine s_aload_n C dX1_inputOf_0 1 rfl 0 rfl ?_
  refine s_iload_n C dX1_inputOf_1 2 rfl 1 rfl ?_
  refine s_iload_n C dX1_inputOf_2 3 rfl 2 rfl ?_
  refine s_callX_r C (rx_V (As := [.int p0, .int p1]) C (cx_at hR hA (cx_on (ct_X1_checkedInput C.tr g TA a0 p0 p1))) (rv_on C hR (q := vw_0) rfl) (lw_V q1405 q1407 qs26 q101 q1408) ⟨rfl, nv_X1_checkedInput⟩ ⟨by decide, by decide⟩ rfl (bl rfl) dX1_inputOf_3) (fun _ => rfl) 6 rfl (fun x1 => ?_)
  refine s_pop C dX1_inputOf_6 rfl 7 rfl ?_
  refine s_aload_n C dX1_inputOf_7 8 rfl 0 rfl ?_
  refine s_getR C hR fd_PatchCords_panel (Or.inl q273) dX1_inputOf_8 11 rfl (fun x2 => ?_)
  refine s_iload_n C dX1_inputOf_11 12 rfl 1 rfl ?_
  refine s_iload_n C dX1_inputOf_12 13 rfl 2 rfl ?_
  refine s_call_i (rn_V (As := [.int p0, .int p1]) C (ct_at hR hA (ct_on (ct_X2_input g TA x2 p0 p1))) (rv_on C hR (q := vw_1) rfl) (lw_V q1639 q1640 q1641 q102 q1642) ⟨rfl, nv_X2_input⟩ ⟨by decide, by decide⟩ rfl (bl rfl) dX1_inputOf_13) 16 rfl (fun x3 => ?_)
  exact s_iret C rfl rfl dX1_inputOf_16
theorem nv_X1_chargeOf : yX1_chargeOf.cls ≠ "java/lang/invoke/MethodHandle" ∧ yX1_chargeOf.cls ≠ "java/lang/invoke/VarHandle" ∧ (parseMethodDescriptor yX1_chargeOf.desc).map (fun d => d.parameters.length) = some 1 := by decide +kernel
theorem ct_X1_chargeOf {l : Launch} (htr : l.stackTraces = false) (g : sm_G) (TA : Nat → Prop) (a0 : Nat) (p0 : Int32) : sm_CX l g (so_R g TA) (so_A g TA) yX1_chargeOf cX1_chargeOf 2 (some .int) 9 145 [.ref a0, .int p0] (em_x em_i) (f_X1_chargeOf g a0 p0) := by
  refine sm_ofX htr (own := "PatchCords") rfl rfl (bl rfl) (fun Y C hR hA hl hm => ?_)
  subst hl
  refine s_lv (L' := [(0, .ref a0), (1, .int p0)]) [0, 1] rfl ?_
  refine s_top ?_
  unfold f_X1_chargeOf
  refine s_aload_n C dX1_chargeOf_0 1 rfl 0 rfl ?_
  refine s_iload_n C dX1_chargeOf_1 2 rfl 1 rfl ?_
  refine s_callX_r C (rx_V (As := [.int p0]) C (cx_at hR hA (cx_on (ct_X1_checkedIntegrator C.tr g TA a0 p0))) (rv_on C hR (q := vw_0) rfl) (lw_V q1477 q1479 qs29 q101 q1480) ⟨rfl, nv_X1_checkedIntegrator⟩ ⟨by decide, by decide⟩ rfl (bl rfl) dX1_chargeOf_2) (fun _ => rfl) 5 rfl (fun x1 => ?_)
  refine s_getI C hR fd_PatchCords_Integrator_charge (Or.inr (Or.inl ⟨_, q369⟩)) dX1_chargeOf_5 8 rfl (fun x2 => ?_)
  exact s_iret C rfl rfl dX1_chargeOf_8
theorem nv_X1_rateOf : yX1_rateOf.cls ≠ "java/lang/invoke/MethodHandle" ∧ yX1_rateOf.cls ≠ "java/lang/invoke/VarHandle" ∧ (parseMethodDescriptor yX1_rateOf.desc).map (fun d => d.parameters.length) = some 1 := by decide +kernel
theorem ct_X1_rateOf {l : Launch} (htr : l.stackTraces = false) (g : sm_G) (TA : Nat → Prop) (a0 : Nat) (p0 : Int32) : sm_CX l g (so_R g TA) (so_A g TA) yX1_rateOf cX1_rateOf 2 (some .int) 9 145 [.ref a0, .int p0] (em_x em_i) (f_X1_rateOf g a0 p0) := by
  refine sm_ofX htr (own := "PatchCords") rfl rfl (bl rfl) (fun Y C hR hA hl hm => ?_)
  subst hl
  refine s_lv (L' := [(0, .ref a0), (1, .int p0)]) [0, 1] rfl ?_
  refine s_top ?_
  unfold f_X1_rateOf
  refine s_aload_n C dX1_rateOf_0 1 rfl 0 rfl ?_
  refine s_getR C hR fd_PatchCords_panel (Or.inl q273) dX1_rateOf_1 4 rfl (fun x1 => ?_)
  refine s_aload_n C dX1_rateOf_4 5 rfl 0 rfl ?_
  refine s_iload_n C dX1_rateOf_5 6 rfl 1 rfl ?_
  refine s_callX_r C (rx_V (As := [.int p0]) C (cx_at hR hA (cx_on (ct_X1_checkedIntegrator C.tr g TA a0 p0))) (rv_on C hR (q := vw_0) rfl) (lw_V q1477 q1479 qs29 q101 q1480) ⟨rfl, nv_X1_checkedIntegrator⟩ ⟨by decide, by decide⟩ rfl (bl rfl) dX1_rateOf_6) (fun _ => rfl) 9 rfl (fun x2 => ?_)
  refine s_call_i (rn_V (As := [.ref x2]) C (ct_at hR hA (ct_on (ct_X2_rate g TA x1 x2))) (rv_on C hR (q := vw_1) rfl) (lw_V q1311 q1312 q1313 q102 q1314) ⟨rfl, nv_X2_rate⟩ ⟨by decide, by decide⟩ rfl (bl rfl) dX1_rateOf_9) 12 rfl (fun x3 => ?_)
  exact s_iret C rfl rfl dX1_rateOf_12
theorem nv_X1_peakOf : yX1_peakOf.cls ≠ "java/lang/invoke/MethodHandle" ∧ yX1_peakOf.cls ≠ "java/lang/invoke/VarHandle" ∧ (parseMethodDescriptor yX1_peakOf.desc).map (fun d => d.parameters.length) = some 1 := by decide +kernel
theorem ct_X1_peakOf {l : Launch} (htr : l.stackTraces = false) (g : sm_G) (TA : Nat → Prop) (a0 : Nat) (p0 : Int32) : sm_CX l g (so_R g TA) (so_A g TA) yX1_peakOf cX1_peakOf 2 (some .int) 8 123 [.ref a0, .int p0] (em_x em_i) (f_X1_peakOf g a0 p0) := by
  refine sm_ofX htr (own := "PatchCords") rfl rfl (bl rfl) (fun Y C hR hA hl hm => ?_)
  subst hl
  refine s_lv (L' := [(0, .ref a0), (1, .int p0)]) [0, 1] rfl ?_
  refine s_top ?_
  unfold f_X1_peakOf
  refine s_aload_n C dX1_peakOf_0 1 rfl 0 rfl ?_
  refine s_iload_n C dX1_peakOf_1 2 rfl 1 rfl ?_
  refine s_callX_r C (rx_V (As := [.int p0]) C (cx_at hR hA (cx_on (ct_X1_checkedPart C.tr g TA a0 p0))) (rv_on C hR (q := vw_0) rfl) (lw_V q1409 q1411 qs27 q101 q1412) ⟨rfl, nv_X1_checkedPart⟩ ⟨by decide, by decide⟩ rfl (bl rfl) dX1_peakOf_2) (fun _ => rfl) 5 rfl (fun x1 => ?_)
  refine s_getI C hR fd_PatchCords_Part_peak (Or.inr (Or.inl ⟨_, q345⟩)) dX1_peakOf_5 8 rfl (fun x2 => ?_)
  exact s_iret C rfl rfl dX1_peakOf_8
theorem nv_X1_scaleOf : yX1_scaleOf.cls ≠ "java/lang/invoke/MethodHandle" ∧ yX1_scaleOf.cls ≠ "java/lang/invoke/VarHandle" ∧ (parseMethodDescriptor yX1_scaleOf.desc).map (fun d => d.parameters.length) = some 1 := by decide +kernel
theorem ct_X1_scaleOf {l : Launch} (htr : l.stackTraces = false) (g : sm_G) (TA : Nat → Prop) (a0 : Nat) (p0 : Int32) : sm_CX l g (so_R g TA) (so_A g TA) yX1_scaleOf cX1_scaleOf 2 (some .int) 8 123 [.ref a0, .int p0] (em_x em_i) (f_X1_scaleOf g a0 p0) := by
  refine sm_ofX htr (own := "PatchCords") rfl rfl (bl rfl) (fun Y C hR hA hl hm => ?_)
  subst hl
  refine s_lv (L' := [(0, .ref a0), (1, .int p0)]) [0, 1] rfl ?_
  refine s_top ?_
  unfold f_X1_scaleOf
  refine s_aload_n C dX1_scaleOf_0 1 rfl 0 rfl ?_
  refine s_iload_n C dX1_scaleOf_1 2 rfl 1 rfl ?_
  refine s_callX_r C (rx_V (As := [.int p0]) C (cx_at hR hA (cx_on (ct_X1_checkedPart C.tr g TA a0 p0))) (rv_on C hR (q := vw_0) rfl) (lw_V q1409 q1411 qs27 q101 q1412) ⟨rfl, nv_X1_checkedPart⟩ ⟨by decide, by decide⟩ rfl (bl rfl) dX1_scaleOf_2) (fun _ => rfl) 5 rfl (fun x1 => ?_)
  refine s_getI C hR fd_PatchCords_Part_peak (Or.inr (Or.inl ⟨_, q345⟩)) dX1_scaleOf_5 8 rfl (fun x2 => ?_)
  refine s_call_i (rn_S (As := [.int x2]) C (ct_at hR hA (ct_X1_scaleFor g TA x2)) (lw_S q1298 q1299 q101 q1300) nv_X1_scaleFor ⟨by decide, by decide⟩ rfl (bl rfl) dX1_scaleOf_8) 11 rfl (fun x3 => ?_)
  exact s_iret C rfl rfl dX1_scaleOf_11
theorem nv_X1_levelOf : yX1_levelOf.cls ≠ "java/lang/invoke/MethodHandle" ∧ yX1_levelOf.cls ≠ "java/lang/invoke/VarHandle" ∧ (parseMethodDescriptor yX1_levelOf.desc).map (fun d => d.parameters.length) = some 1 := by decide +kernel
theorem ct_X1_levelOf {l : Launch} (htr : l.stackTraces = false) (g : sm_G) (TA : Nat → Prop) (a0 : Nat) (p0 : Int32) : sm_CX l g (so_R g TA) (so_A g TA) yX1_levelOf cX1_levelOf 2 (some .int) 8 123 [.ref a0, .int p0] (em_x em_i) (f_X1_levelOf g a0 p0) := by
  refine sm_ofX htr (own := "PatchCords") rfl rfl (bl rfl) (fun Y C hR hA hl hm => ?_)
  subst hl
  refine s_lv (L' := [(0, .ref a0), (1, .int p0)]) [0, 1] rfl ?_
  refine s_top ?_
  unfold f_X1_levelOf
  refine s_aload_n C dX1_levelOf_0 1 rfl 0 rfl ?_
  refine s_iload_n C dX1_levelOf_1 2 rfl 1 rfl ?_
  refine s_callX_r C (rx_V (As := [.int p0]) C (cx_at hR hA (cx_on (ct_X1_checkedPart C.tr g TA a0 p0))) (rv_on C hR (q := vw_0) rfl) (lw_V q1409 q1411 qs27 q101 q1412) ⟨rfl, nv_X1_checkedPart⟩ ⟨by decide, by decide⟩ rfl (bl rfl) dX1_levelOf_2) (fun _ => rfl) 5 rfl (fun x1 => ?_)
  refine s_pop C dX1_levelOf_5 rfl 6 rfl ?_
  refine s_aload_n C dX1_levelOf_6 7 rfl 0 rfl ?_
  refine s_getR C hR fd_PatchCords_panel (Or.inl q273) dX1_levelOf_7 10 rfl (fun x2 => ?_)
  refine s_call_r (rn_V (As := []) C (ct_at hR hA (ct_on (ct_X2_levels g TA x2))) (rv_on C hR (q := vw_1) rfl) (lw_V q1233 q1234 q1235 q102 q1236) ⟨rfl, nv_X2_levels⟩ ⟨by decide, by decide⟩ rfl (bl rfl) dX1_levelOf_10) 13 rfl (fun x3 => ?_)
  refine s_iload_n C dX1_levelOf_13 14 rfl 1 rfl ?_
  refine s_iald C hR dX1_levelOf_14 15 rfl (fun x4 => ?_)
  exact s_iret C rfl rfl dX1_levelOf_15
theorem nv_X1_feeders : yX1_feeders.cls ≠ "java/lang/invoke/MethodHandle" ∧ yX1_feeders.cls ≠ "java/lang/invoke/VarHandle" ∧ (parseMethodDescriptor yX1_feeders.desc).map (fun d => d.parameters.length) = some 1 := by decide +kernel
theorem ct_X1_feeders {l : Launch} (htr : l.stackTraces = false) (g : sm_G) (TA : Nat → Prop) (a0 : Nat) (p0 : Int32) : sm_CX l g (so_R g TA) (so_A g TA) yX1_feeders cX1_feeders 2 (some .int) 8 123 [.ref a0, .int p0] (em_x em_i) (f_X1_feeders g a0 p0) := by
  refine sm_ofX htr (own := "PatchCords") rfl rfl (bl rfl) (fun Y C hR hA hl hm => ?_)
  subst hl
  refine s_lv (L' := [(0, .ref a0), (1, .int p0)]) [0, 1] rfl ?_
  refine s_top ?_
  unfold f_X1_feeders
  refine s_aload_n C dX1_feeders_0 1 rfl 0 rfl ?_
  refine s_iload_n C dX1_feeders_1 2 rfl 1 rfl ?_
  refine s_callX_r C (rx_V (As := [.int p0]) C (cx_at hR hA (cx_on (ct_X1_checkedPart C.tr g TA a0 p0))) (rv_on C hR (q := vw_0) rfl) (lw_V q1409 q1411 qs27 q101 q1412) ⟨rfl, nv_X1_checkedPart⟩ ⟨by decide, by decide⟩ rfl (bl rfl) dX1_feeders_2) (fun _ => rfl) 5 rfl (fun x1 => ?_)
  refine s_call_i (rn_D (by
      intro ci hci
      simp only [List.mem_cons, List.not_mem_nil, or_false] at hci
      rcases hci with rfl | rfl | rfl | rfl | rfl | rfl
      · exact (rn_U (As := []) C (ct_at hR hA (ct_on (ct_X5_feeders g TA x1))) (rv_on C hR (q := vw_2) rfl) q1685 q680 (va_Decl.of (C.w _ q679) (C.w _ q687)) (C.w _ q686) q679 q120 q687 ⟨by decide +kernel, by decide +kernel, (show (parseMethodDescriptor "()I").map (fun d => d.parameters.length) = some 0 by decide +kernel)⟩ ⟨by decide, by decide⟩ rfl (bl rfl) dX1_feeders_5)
      · exact (rn_U (As := []) C (ct_at hR hA (ct_on (ct_X5_feeders g TA x1))) (rv_on C hR (q := vw_3) rfl) q1685 q680 (va_Decl.of (C.w _ q679) (C.w _ q687)) (C.w _ q682) q679 q120 q687 ⟨by decide +kernel, by decide +kernel, (show (parseMethodDescriptor "()I").map (fun d => d.parameters.length) = some 0 by decide +kernel)⟩ ⟨by decide, by decide⟩ rfl (bl rfl) dX1_feeders_5)
      · exact (rn_U (As := []) C (ct_at hR hA (ct_on (ct_X5_feeders g TA x1))) (rv_on C hR (q := vw_4) rfl) q1685 q680 (va_Decl.of (C.w _ q679) (C.w _ q687)) (C.w _ q683) q679 q120 q687 ⟨by decide +kernel, by decide +kernel, (show (parseMethodDescriptor "()I").map (fun d => d.parameters.length) = some 0 by decide +kernel)⟩ ⟨by decide, by decide⟩ rfl (bl rfl) dX1_feeders_5)
      · exact (rn_U (As := []) C (ct_at hR hA (ct_on (ct_X5_feeders g TA x1))) (rv_on C hR (q := vw_5) rfl) q1685 q680 (va_Decl.of (C.w _ q679) (C.w _ q687)) (C.w _ q684) q679 q120 q687 ⟨by decide +kernel, by decide +kernel, (show (parseMethodDescriptor "()I").map (fun d => d.parameters.length) = some 0 by decide +kernel)⟩ ⟨by decide, by decide⟩ rfl (bl rfl) dX1_feeders_5)
      · exact (rn_U (As := []) C (ct_at hR hA (ct_on (ct_X5_feeders g TA x1))) (rv_on C hR (q := vw_6) rfl) q1685 q680 (va_Decl.of (C.w _ q679) (C.w _ q687)) (C.w _ q681) q679 q120 q687 ⟨by decide +kernel, by decide +kernel, (show (parseMethodDescriptor "()I").map (fun d => d.parameters.length) = some 0 by decide +kernel)⟩ ⟨by decide, by decide⟩ rfl (bl rfl) dX1_feeders_5)
      · exact (rn_U (As := []) C (ct_at hR hA (ct_on (ct_X5_feeders g TA x1))) (rv_on C hR (q := vw_7) rfl) q1685 q680 (va_Decl.of (C.w _ q679) (C.w _ q687)) (C.w _ q685) q679 q120 q687 ⟨by decide +kernel, by decide +kernel, (show (parseMethodDescriptor "()I").map (fun d => d.parameters.length) = some 0 by decide +kernel)⟩ ⟨by decide, by decide⟩ rfl (bl rfl) dX1_feeders_5))) 8 rfl (fun x2 => ?_)
  exact s_iret C rfl rfl dX1_feeders_8
theorem nv_X1_dependsOn : yX1_dependsOn.cls ≠ "java/lang/invoke/MethodHandle" ∧ yX1_dependsOn.cls ≠ "java/lang/invoke/VarHandle" ∧ (parseMethodDescriptor yX1_dependsOn.desc).map (fun d => d.parameters.length) = some 1 := by decide +kernel
theorem ct_X1_dependsOn {l : Launch} (htr : l.stackTraces = false) (g : sm_G) (TA : Nat → Prop) (a0 : Nat) (p0 : Int32) : sm_CX l g (so_R g TA) (so_A g TA) yX1_dependsOn cX1_dependsOn 2 (some .int) 8 123 [.ref a0, .int p0] (em_x em_i) (f_X1_dependsOn g a0 p0) := by
  refine sm_ofX htr (own := "PatchCords") rfl rfl (bl rfl) (fun Y C hR hA hl hm => ?_)
  subst hl
  refine s_lv (L' := [(0, .ref a0), (1, .int p0)]) [0, 1] rfl ?_
  refine s_top ?_
  unfold f_X1_dependsOn
  refine s_aload_n C dX1_dependsOn_0 1 rfl 0 rfl ?_
  refine s_iload_n C dX1_dependsOn_1 2 rfl 1 rfl ?_
  refine s_callX_r C (rx_V (As := [.int p0]) C (cx_at hR hA (cx_on (ct_X1_checkedPart C.tr g TA a0 p0))) (rv_on C hR (q := vw_0) rfl) (lw_V q1409 q1411 qs27 q101 q1412) ⟨rfl, nv_X1_checkedPart⟩ ⟨by decide, by decide⟩ rfl (bl rfl) dX1_dependsOn_2) (fun _ => rfl) 5 rfl (fun x1 => ?_)
  refine s_pop C dX1_dependsOn_5 rfl 6 rfl ?_
  refine s_aload_n C dX1_dependsOn_6 7 rfl 0 rfl ?_
  refine s_getR C hR fd_PatchCords_panel (Or.inl q273) dX1_dependsOn_7 10 rfl (fun x2 => ?_)
  refine s_iload_n C dX1_dependsOn_10 11 rfl 1 rfl ?_
  refine s_call_i (rn_V (As := [.int p0]) C (ct_at hR hA (ct_on (ct_X2_dependsOn g TA x2 p0))) (rv_on C hR (q := vw_1) rfl) (lw_V q1302 q675 q676 q102 q677) ⟨rfl, nv_X2_dependsOn⟩ ⟨by decide, by decide⟩ rfl (bl rfl) dX1_dependsOn_11) 14 rfl (fun x3 => ?_)
  exact s_iret C rfl rfl dX1_dependsOn_14
theorem nv_X2_dependsByTable : yX2_dependsByTable.cls ≠ "java/lang/invoke/MethodHandle" ∧ yX2_dependsByTable.cls ≠ "java/lang/invoke/VarHandle" ∧ (parseMethodDescriptor yX2_dependsByTable.desc).map (fun d => d.parameters.length) = some 1 := by decide +kernel
theorem ct_X2_dependsByTable {l : Launch} (g : sm_G) (TA : Nat → Prop) (a0 : Nat) (p0 : Int32) : sm_CT l g (so_R g TA) (so_A g TA) yX2_dependsByTable cX2_dependsByTable 5 (some .int) 4 85 [.ref a0, .int p0] em_i (f_X2_dependsByTable g a0 p0) := by
  refine sm_of (own := "PatchCords$Panel") rfl rfl (bl rfl) (fun Y C hR hA hl hm => ?_)
  subst hl
  refine s_lv (L' := [(0, .ref a0), (1, .int p0)]) [0, 1] rfl ?_
  refine s_top ?_
  unfold f_X2_dependsByTable
  refine s_bipush (v := 16) C dX2_dependsByTable_0 (by decide) 2 rfl ?_
  refine s_newa C hR 0 .int rfl (fun _ => rfl) (fun _ h => by cases h) (by decide) q237 dX2_dependsByTable_2 4 rfl (fun x1 => ?_)
  refine s_astore_n C dX2_dependsByTable_4 rfl (by decide) 5 rfl [(2, .ref x1), (0, .ref a0), (1, .int p0)] rfl ?_
  refine s_iconst (v := 0) C dX2_dependsByTable_5 (by decide) 6 rfl ?_
  refine s_istore_n C dX2_dependsByTable_6 rfl (by decide) 7 rfl [(3, .int 0), (2, .ref x1), (0, .ref a0), (1, .int p0)] rfl ?_
  refine s_lv [2, 3, 1, 0] rfl ?_
  refine s_loop (fun (s2 : Int32) => [(0, .ref a0), (1, .int p0), (2, .ref x1), (3, .int s2)]) (fun (v8 : Unit) => [(0, .ref a0), (1, .int p0), (2, .ref x1)]) 32 0 rfl (fun v8 => ?_) (fun _ s2 hk3 hx4 => ?_)
  · refine s_iconst (v := 0) C dX2_dependsByTable_32 (by decide) 33 rfl ?_
    refine s_istore_n C dX2_dependsByTable_33 rfl (by decide) 34 rfl [(3, .int 0), (0, .ref a0), (1, .int p0), (2, .ref x1)] rfl ?_
    refine s_lv [1, 2, 3, 0] rfl ?_
    refine s_loop (fun (s9 : Int32) => [(0, .ref a0), (1, .int p0), (2, .ref x1), (3, .int s9)]) (fun (v24 : Unit) => [(1, .int p0), (2, .ref x1)]) 91 0 rfl (fun v24 => ?_) (fun _ s9 hk10 hx11 => ?_)
    · refine s_aload_n C dX2_dependsByTable_91 92 rfl 1 rfl ?_
      refine s_iload_n C dX2_dependsByTable_92 93 rfl 0 rfl ?_
      refine s_iald C hR dX2_dependsByTable_93 94 rfl (fun x25 => ?_)
      exact s_iret C rfl rfl dX2_dependsByTable_94
    · refine s_iload_n C dX2_dependsByTable_34 35 rfl 3 rfl ?_
      refine s_aload_n C dX2_dependsByTable_35 36 rfl 0 rfl ?_
      refine s_call_i (rn_V (As := []) C (ct_at hR hA (ct_on (ct_X2_size g TA a0))) (rv_on C hR (q := vw_1) rfl) (lw_V q561 q526 q527 q102 q528) ⟨rfl, nv_X2_size⟩ ⟨by decide, by decide⟩ rfl (bl rfl) dX2_dependsByTable_36) 39 rfl (fun x12 => ?_)
      refine s_icmp_ge C dX2_dependsByTable_39 91 42 (by decide) rfl ?_ ?_
      · refine s_r ?_
        refine s_lv [1, 2] rfl ?_
        exact hx11 ()
      · refine s_iconst (v := 0) C dX2_dependsByTable_42 (by decide) 43 rfl ?_
        refine s_istore C dX2_dependsByTable_43 (by decide) 45 rfl [(4, .int 0), (0, .ref a0), (1, .int p0), (2, .ref x1), (3, .int s9)] rfl ?_
        refine s_lv [1, 2, 3, 4, 0] rfl ?_
        refine s_loop (fun (s13 : Int32) => [(0, .ref a0), (1, .int p0), (2, .ref x1), (3, .int s9), (4, .int s13)]) (fun (v23 : Unit) => [(0, .ref a0), (1, .int p0), (2, .ref x1), (3, .int s9)]) 85 0 rfl (fun v23 => ?_) (fun _ s13 hk14 hx15 => ?_)
        · refine s_iinc C dX2_dependsByTable_85 (s9 + 1) rfl 3 rfl (by decide) 88 rfl [(3, .int (s9 + 1)), (0, .ref a0), (1, .int p0), (2, .ref x1)] rfl ?_
          refine s_goto C dX2_dependsByTable_88 34 (by decide) ?_
          refine s_r ?_
          refine s_lv [1, 2, 3, 0] rfl ?_
          exact hk10 (s9 + 1)
        · refine s_iload C dX2_dependsByTable_45 47 rfl 4 rfl ?_
          refine s_aload_n C dX2_dependsByTable_47 48 rfl 0 rfl ?_
          refine s_call_i (rn_V (As := []) C (ct_at hR hA (ct_on (ct_X2_size g TA a0))) (rv_on C hR (q := vw_1) rfl) (lw_V q561 q526 q527 q102 q528) ⟨rfl, nv_X2_size⟩ ⟨by decide, by decide⟩ rfl (bl rfl) dX2_dependsByTable_48) 51 rfl (fun x16 => ?_)
          refine s_icmp_ge C dX2_dependsByTable_51 85 54 (by decide) rfl ?_ ?_
          · refine s_r ?_
            refine s_lv [0, 1, 2, 3] rfl ?_
            exact hx15 ()
          · refine s_aload_n C dX2_dependsByTable_54 55 rfl 2 rfl ?_
            refine s_iload C dX2_dependsByTable_55 57 rfl 4 rfl ?_
            refine s_dup2 C dX2_dependsByTable_57 rfl rfl 58 rfl ?_
            refine s_iald C hR dX2_dependsByTable_58 59 rfl (fun x17 => ?_)
            refine s_aload_n C dX2_dependsByTable_59 60 rfl 2 rfl ?_
            refine s_iload C dX2_dependsByTable_60 62 rfl 4 rfl ?_
            refine s_iald C hR dX2_dependsByTable_62 63 rfl (fun x18 => ?_)
            refine s_iload_n C dX2_dependsByTable_63 64 rfl 3 rfl ?_
            refine s_call_i (rn_SN (As := [.int x18, .int s9]) C (ct_at hR hA (ct_X1_has g TA x18 s9)) q688 q639 q101 q640 nv_X1_has ⟨by decide, by decide⟩ rfl (bl rfl) dX2_dependsByTable_64) 67 rfl (fun x19 => ?_)
            refine s_cut (J := 77) (LJ := (fun (v20 : Int32) => [(0, .ref a0), (1, .int p0), (2, .ref x1), (3, .int s9), (4, .int s13)])) (SJ := (fun (v20 : Int32) => [.int v20, .int x17, .int s13, .ref x1])) (fun v20 => ?_) (fun _ _ hK21 => ?_)
            · refine s_ior C dX2_dependsByTable_77 78 rfl ?_
              refine s_iast C hR hA dX2_dependsByTable_78 79 rfl ?_
              refine s_iinc C dX2_dependsByTable_79 (s13 + 1) rfl 4 rfl (by decide) 82 rfl [(4, .int (s13 + 1)), (0, .ref a0), (1, .int p0), (2, .ref x1), (3, .int s9)] rfl ?_
              refine s_goto C dX2_dependsByTable_82 45 (by decide) ?_
              refine s_r ?_
              refine s_lv [1, 2, 3, 4, 0] rfl ?_
              exact hk14 (s13 + 1)
            · refine s_if_eq C dX2_dependsByTable_67 76 70 (by decide) rfl ?_ ?_
              · refine s_iconst (v := 0) C dX2_dependsByTable_76 (by decide) 77 rfl ?_
                refine s_r ?_
                refine s_lv [0, 1, 2, 3, 4] rfl ?_
                exact hK21 0
              · refine s_aload_n C dX2_dependsByTable_70 71 rfl 2 rfl ?_
                refine s_iload_n C dX2_dependsByTable_71 72 rfl 3 rfl ?_
                refine s_iald C hR dX2_dependsByTable_72 73 rfl (fun x22 => ?_)
                refine s_goto C dX2_dependsByTable_73 77 (by decide) ?_
                refine s_r ?_
                refine s_lv [0, 1, 2, 3, 4] rfl ?_
                exact hK21 x22
  · refine s_iload_n C dX2_dependsByTable_7 8 rfl 3 rfl ?_
    refine s_aload_n C dX2_dependsByTable_8 9 rfl 0 rfl ?_
    refine s_call_i (rn_V (As := []) C (ct_at hR hA (ct_on (ct_X2_size g TA a0))) (rv_on C hR (q := vw_1) rfl) (lw_V q561 q526 q527 q102 q528) ⟨rfl, nv_X2_size⟩ ⟨by decide, by decide⟩ rfl (bl rfl) dX2_dependsByTable_9) 12 rfl (fun x5 => ?_)
    refine s_icmp_ge C dX2_dependsByTable_12 32 15 (by decide) rfl ?_ ?_
    · refine s_r ?_
      refine s_lv [0, 1, 2] rfl ?_
      exact hx4 ()
    · refine s_aload_n C dX2_dependsByTable_15 16 rfl 2 rfl ?_
      refine s_iload_n C dX2_dependsByTable_16 17 rfl 3 rfl ?_
      refine s_aload_n C dX2_dependsByTable_17 18 rfl 0 rfl ?_
      refine s_iload_n C dX2_dependsByTable_18 19 rfl 3 rfl ?_
      refine s_call_r (rn_V (As := [.int s2]) C (ct_at hR hA (ct_on (ct_X2_part g TA a0 s2))) (rv_on C hR (q := vw_1) rfl) (lw_V q562 q563 q564 q102 q565) ⟨rfl, nv_X2_part⟩ ⟨by decide, by decide⟩ rfl (bl rfl) dX2_dependsByTable_19) 22 rfl (fun x6 => ?_)
      refine s_call_i (rn_D (by
          intro ci hci
          simp only [List.mem_cons, List.not_mem_nil, or_false] at hci
          rcases hci with rfl | rfl | rfl | rfl | rfl | rfl
          · exact (rn_U (As := []) C (ct_at hR hA (ct_on (ct_X5_feeders g TA x6))) (rv_on C hR (q := vw_2) rfl) q678 q680 (va_Decl.of (C.w _ q679) (C.w _ q687)) (C.w _ q686) q679 q120 q687 ⟨by decide +kernel, by decide +kernel, (show (parseMethodDescriptor "()I").map (fun d => d.parameters.length) = some 0 by decide +kernel)⟩ ⟨by decide, by decide⟩ rfl (bl rfl) dX2_dependsByTable_22)
          · exact (rn_U (As := []) C (ct_at hR hA (ct_on (ct_X5_feeders g TA x6))) (rv_on C hR (q := vw_3) rfl) q678 q680 (va_Decl.of (C.w _ q679) (C.w _ q687)) (C.w _ q682) q679 q120 q687 ⟨by decide +kernel, by decide +kernel, (show (parseMethodDescriptor "()I").map (fun d => d.parameters.length) = some 0 by decide +kernel)⟩ ⟨by decide, by decide⟩ rfl (bl rfl) dX2_dependsByTable_22)
          · exact (rn_U (As := []) C (ct_at hR hA (ct_on (ct_X5_feeders g TA x6))) (rv_on C hR (q := vw_4) rfl) q678 q680 (va_Decl.of (C.w _ q679) (C.w _ q687)) (C.w _ q683) q679 q120 q687 ⟨by decide +kernel, by decide +kernel, (show (parseMethodDescriptor "()I").map (fun d => d.parameters.length) = some 0 by decide +kernel)⟩ ⟨by decide, by decide⟩ rfl (bl rfl) dX2_dependsByTable_22)
          · exact (rn_U (As := []) C (ct_at hR hA (ct_on (ct_X5_feeders g TA x6))) (rv_on C hR (q := vw_5) rfl) q678 q680 (va_Decl.of (C.w _ q679) (C.w _ q687)) (C.w _ q684) q679 q120 q687 ⟨by decide +kernel, by decide +kernel, (show (parseMethodDescriptor "()I").map (fun d => d.parameters.length) = some 0 by decide +kernel)⟩ ⟨by decide, by decide⟩ rfl (bl rfl) dX2_dependsByTable_22)
          · exact (rn_U (As := []) C (ct_at hR hA (ct_on (ct_X5_feeders g TA x6))) (rv_on C hR (q := vw_6) rfl) q678 q680 (va_Decl.of (C.w _ q679) (C.w _ q687)) (C.w _ q681) q679 q120 q687 ⟨by decide +kernel, by decide +kernel, (show (parseMethodDescriptor "()I").map (fun d => d.parameters.length) = some 0 by decide +kernel)⟩ ⟨by decide, by decide⟩ rfl (bl rfl) dX2_dependsByTable_22)
          · exact (rn_U (As := []) C (ct_at hR hA (ct_on (ct_X5_feeders g TA x6))) (rv_on C hR (q := vw_7) rfl) q678 q680 (va_Decl.of (C.w _ q679) (C.w _ q687)) (C.w _ q685) q679 q120 q687 ⟨by decide +kernel, by decide +kernel, (show (parseMethodDescriptor "()I").map (fun d => d.parameters.length) = some 0 by decide +kernel)⟩ ⟨by decide, by decide⟩ rfl (bl rfl) dX2_dependsByTable_22))) 25 rfl (fun x7 => ?_)
      refine s_iast C hR hA dX2_dependsByTable_25 26 rfl ?_
      refine s_iinc C dX2_dependsByTable_26 (s2 + 1) rfl 3 rfl (by decide) 29 rfl [(3, .int (s2 + 1)), (0, .ref a0), (1, .int p0), (2, .ref x1)] rfl ?_
      refine s_goto C dX2_dependsByTable_29 7 (by decide) ?_
      refine s_r ?_
      refine s_lv [1, 2, 3, 0] rfl ?_
      exact hk3 (s2 + 1)
theorem nv_X1_dependsByTable : yX1_dependsByTable.cls ≠ "java/lang/invoke/MethodHandle" ∧ yX1_dependsByTable.cls ≠ "java/lang/invoke/VarHandle" ∧ (parseMethodDescriptor yX1_dependsByTable.desc).map (fun d => d.parameters.length) = some 1 := by decide +kernel
theorem ct_X1_dependsByTable {l : Launch} (htr : l.stackTraces = false) (g : sm_G) (TA : Nat → Prop) (a0 : Nat) (p0 : Int32) : sm_CX l g (so_R g TA) (so_A g TA) yX1_dependsByTable cX1_dependsByTable 2 (some .int) 8 123 [.ref a0, .int p0] (em_x em_i) (f_X1_dependsByTable g a0 p0) := by
  refine sm_ofX htr (own := "PatchCords") rfl rfl (bl rfl) (fun Y C hR hA hl hm => ?_)
  subst hl
  refine s_lv (L' := [(0, .ref a0), (1, .int p0)]) [0, 1] rfl ?_
  refine s_top ?_
  unfold f_X1_dependsByTable
  refine s_aload_n C dX1_dependsByTable_0 1 rfl 0 rfl ?_
  refine s_iload_n C dX1_dependsByTable_1 2 rfl 1 rfl ?_
  refine s_callX_r C (rx_V (As := [.int p0]) C (cx_at hR hA (cx_on (ct_X1_checkedPart C.tr g TA a0 p0))) (rv_on C hR (q := vw_0) rfl) (lw_V q1409 q1411 qs27 q101 q1412) ⟨rfl, nv_X1_checkedPart⟩ ⟨by decide, by decide⟩ rfl (bl rfl) dX1_dependsByTable_2) (fun _ => rfl) 5 rfl (fun x1 => ?_)
  refine s_pop C dX1_dependsByTable_5 rfl 6 rfl ?_
  refine s_aload_n C dX1_dependsByTable_6 7 rfl 0 rfl ?_
  refine s_getR C hR fd_PatchCords_panel (Or.inl q273) dX1_dependsByTable_7 10 rfl (fun x2 => ?_)
  refine s_iload_n C dX1_dependsByTable_10 11 rfl 1 rfl ?_
  refine s_call_i (rn_V (As := [.int p0]) C (ct_at hR hA (ct_on (ct_X2_dependsByTable g TA x2 p0))) (rv_on C hR (q := vw_1) rfl) (lw_V q1700 q1701 q1702 q102 q1703) ⟨rfl, nv_X2_dependsByTable⟩ ⟨by decide, by decide⟩ rfl (bl rfl) dX1_dependsByTable_11) 14 rfl (fun x3 => ?_)
  exact s_iret C rfl rfl dX1_dependsByTable_14
theorem nv_X1_recordAt : yX1_recordAt.cls ≠ "java/lang/invoke/MethodHandle" ∧ yX1_recordAt.cls ≠ "java/lang/invoke/VarHandle" ∧ (parseMethodDescriptor yX1_recordAt.desc).map (fun d => d.parameters.length) = some 1 := by decide +kernel
theorem ct_X1_recordAt {l : Launch} (htr : l.stackTraces = false) (g : sm_G) (TA : Nat → Prop) (a0 : Nat) (p0 : Int32) : sm_CX l g (so_R g TA) (so_A g TA) yX1_recordAt cX1_recordAt 2 (some .int) 7 102 [.ref a0, .int p0] (em_x em_i) (f_X1_recordAt g a0 p0) := by
  refine sm_ofX htr (own := "PatchCords") rfl rfl (bl rfl) (fun Y C hR hA hl hm => ?_)
  subst hl
  refine s_lv (L' := [(0, .ref a0), (1, .int p0)]) [0, 1] rfl ?_
  refine s_top ?_
  unfold f_X1_recordAt
  refine s_iload_n C dX1_recordAt_0 1 rfl 1 rfl ?_
  refine s_aload_n C dX1_recordAt_1 2 rfl 0 rfl ?_
  refine s_getR C hR fd_PatchCords_panel (Or.inl q273) dX1_recordAt_2 5 rfl (fun x1 => ?_)
  refine s_getI C hR fd_PatchCords_Panel_recordCount (Or.inr (Or.inl ⟨_, q202⟩)) dX1_recordAt_5 8 rfl (fun x2 => ?_)
  refine s_callX_v C (rx_S (As := [.int p0, .int x2]) C (cx_at hR hA (ct_X1_checkIndex C.tr g TA p0 x2)) (lw_S q1413 q1414 q101 q1415) nv_X1_checkIndex ⟨by decide, by decide⟩ rfl (bl rfl) dX1_recordAt_8) (fun _ => rfl) 11 rfl ?_
  refine s_aload_n C dX1_recordAt_11 12 rfl 0 rfl ?_
  refine s_getR C hR fd_PatchCords_panel (Or.inl q273) dX1_recordAt_12 15 rfl (fun x4 => ?_)
  refine s_getR C hR fd_PatchCords_Panel_records (Or.inr (Or.inl ⟨_, q190⟩)) dX1_recordAt_15 18 rfl (fun x5 => ?_)
  refine s_iload_n C dX1_recordAt_18 19 rfl 1 rfl ?_
  refine s_iald C hR dX1_recordAt_19 20 rfl (fun x6 => ?_)
  exact s_iret C rfl rfl dX1_recordAt_20
theorem nv_X1_wouldCircle : yX1_wouldCircle.cls ≠ "java/lang/invoke/MethodHandle" ∧ yX1_wouldCircle.cls ≠ "java/lang/invoke/VarHandle" ∧ (parseMethodDescriptor yX1_wouldCircle.desc).map (fun d => d.parameters.length) = some 2 := by decide +kernel
theorem ct_X1_wouldCircle {l : Launch} (htr : l.stackTraces = false) (g : sm_G) (TA : Nat → Prop) (a0 : Nat) (p0 : Int32) (p1 : Int32) : sm_CX l g (so_R g TA) (so_A g TA) yX1_wouldCircle cX1_wouldCircle 3 (some .boolean) 8 132 [.ref a0, .int p0, .int p1] (em_x em_i) (f_X1_wouldCircle g a0 p0 p1) := by
  refine sm_ofX htr (own := "PatchCords") rfl rfl (bl rfl) (fun Y C hR hA hl hm => ?_)
  subst hl
  refine s_lv (L' := [(0, .ref a0), (1, .int p0), (2, .int p1)]) [0, 1, 2] rfl ?_
  refine s_top ?_
  unfold f_X1_wouldCircle
  refine s_aload_n C dX1_wouldCircle_0 1 rfl 0 rfl ?_
  refine s_iload_n C dX1_wouldCircle_1 2 rfl 1 rfl ?_
  refine s_callX_r C (rx_V (As := [.int p0]) C (cx_at hR hA (cx_on (ct_X1_checkedPart C.tr g TA a0 p0))) (rv_on C hR (q := vw_0) rfl) (lw_V q1409 q1411 qs27 q101 q1412) ⟨rfl, nv_X1_checkedPart⟩ ⟨by decide, by decide⟩ rfl (bl rfl) dX1_wouldCircle_2) (fun _ => rfl) 5 rfl (fun x1 => ?_)
  refine s_pop C dX1_wouldCircle_5 rfl 6 rfl ?_
  refine s_aload_n C dX1_wouldCircle_6 7 rfl 0 rfl ?_
  refine s_iload_n C dX1_wouldCircle_7 8 rfl 2 rfl ?_
  refine s_callX_r C (rx_V (As := [.int p1]) C (cx_at hR hA (cx_on (ct_X1_checkedPart C.tr g TA a0 p1))) (rv_on C hR (q := vw_0) rfl) (lw_V q1409 q1411 qs27 q101 q1412) ⟨rfl, nv_X1_checkedPart⟩ ⟨by decide, by decide⟩ rfl (bl rfl) dX1_wouldCircle_8) (fun _ => rfl) 11 rfl (fun x2 => ?_)
  refine s_pop C dX1_wouldCircle_11 rfl 12 rfl ?_
  refine s_aload_n C dX1_wouldCircle_12 13 rfl 0 rfl ?_
  refine s_getR C hR fd_PatchCords_panel (Or.inl q273) dX1_wouldCircle_13 16 rfl (fun x3 => ?_)
  refine s_iload_n C dX1_wouldCircle_16 17 rfl 1 rfl ?_
  refine s_iload_n C dX1_wouldCircle_17 18 rfl 2 rfl ?_
  refine s_call_i (rn_V (As := [.int p0, .int p1]) C (ct_at hR hA (ct_on (ct_X2_wouldCircle g TA x3 p0 p1))) (rv_on C hR (q := vw_1) rfl) (lw_V q1488 q1489 q1490 q102 q1491) ⟨rfl, nv_X2_wouldCircle⟩ ⟨by decide, by decide⟩ rfl (bl rfl) dX1_wouldCircle_18) 21 rfl (fun x4 => ?_)
  refine s_zb (fun h => ?_)
  exact s_iret C rfl (s_zn h) dX1_wouldCircle_21
theorem nv_X1_outputIn : yX1_outputIn.cls ≠ "java/lang/invoke/MethodHandle" ∧ yX1_outputIn.cls ≠ "java/lang/invoke/VarHandle" ∧ (parseMethodDescriptor yX1_outputIn.desc).map (fun d => d.parameters.length) = some 2 := by decide +kernel
theorem ct_X1_outputIn {l : Launch} (htr : l.stackTraces = false) (g : sm_G) (TA : Nat → Prop) (a0 : Nat) (p0 : Int32) (p1 : Int32) : sm_CX l g (so_R g TA) (so_A g TA) yX1_outputIn cX1_outputIn 4 (some .int) 9 203 [.ref a0, .int p0, .int p1] (em_x em_i) (f_X1_outputIn g a0 p0 p1) := by
  refine sm_ofX htr (own := "PatchCords") rfl rfl (bl rfl) (fun Y C hR hA hl hm => ?_)
  subst hl
  refine s_lv (L' := [(0, .ref a0), (1, .int p0), (2, .int p1)]) [0, 1, 2] rfl ?_
  refine s_top ?_
  unfold f_X1_outputIn
  refine s_aload_n C dX1_outputIn_0 1 rfl 0 rfl ?_
  refine s_iload_n C dX1_outputIn_1 2 rfl 1 rfl ?_
  refine s_callX_r C (rx_V (As := [.int p0]) C (cx_at hR hA (cx_on (ct_X1_checkedPart C.tr g TA a0 p0))) (rv_on C hR (q := vw_0) rfl) (lw_V q1409 q1411 qs27 q101 q1412) ⟨rfl, nv_X1_checkedPart⟩ ⟨by decide, by decide⟩ rfl (bl rfl) dX1_outputIn_2) (fun _ => rfl) 5 rfl (fun x1 => ?_)
  refine s_pop C dX1_outputIn_5 rfl 6 rfl ?_
  refine s_iload_n C dX1_outputIn_6 7 rfl 2 rfl ?_
  refine s_iconst (v := 1) C dX1_outputIn_7 (by decide) 8 rfl ?_
  refine s_sipush (v := 200) C dX1_outputIn_8 (by decide) 11 rfl ?_
  refine s_callX_v C (rx_S (As := [.int p1, .int 1, .int 200]) C (cx_at hR hA (ct_X1_checkRange C.tr g TA p1 1 200)) (lw_S q1335 q1336 q101 q1337) nv_X1_checkRange ⟨by decide, by decide⟩ rfl (bl rfl) dX1_outputIn_11) (fun _ => rfl) 14 rfl ?_
  refine s_aload_n C dX1_outputIn_14 15 rfl 0 rfl ?_
  refine s_getR C hR fd_PatchCords_panel (Or.inl q273) dX1_outputIn_15 18 rfl (fun x3 => ?_)
  refine s_call_r (rn_VN (As := []) C (ct_at hR hA (ct_on (ct_X2_running g TA x3))) (rv_on C hR (q := vw_1) rfl) q1254 q731 qs8 q102 q732 nv_X2_running ⟨by decide, by decide⟩ rfl (bl rfl) dX1_outputIn_18) 21 rfl (fun x4 => ?_)
  refine s_astore_n C dX1_outputIn_21 rfl (by decide) 22 rfl [(3, .ref x4), (0, .ref a0), (1, .int p0), (2, .int p1)] rfl ?_
  refine s_aload_n C dX1_outputIn_22 23 rfl 0 rfl ?_
  refine s_iload_n C dX1_outputIn_23 24 rfl 3 rfl ?_
  refine s_call_i (rn_V (As := [.int p1]) C (ct_at hR hA (ct_on (ct_X2_pass g TA x4 p1))) (rv_on C hR (q := vw_1) rfl) (lw_V q1255 q1256 q1257 q102 q1258) ⟨rfl, nv_X2_pass⟩ ⟨by decide, by decide⟩ rfl (bl rfl) dX1_outputIn_24) 27 rfl (fun x5 => ?_)
  refine s_pop C dX1_outputIn_27 rfl 28 rfl ?_
  refine s_aload_n C dX1_outputIn_28 29 rfl 0 rfl ?_
  refine s_iload_n C dX1_outputIn_29 30 rfl 2 rfl ?_
  refine s_call_i (rn_V (As := [.int p0]) C (ct_at hR hA (ct_on (ct_X2_output g TA x4 p0))) (rv_on C hR (q := vw_1) rfl) (lw_V q1612 q1613 q1614 q102 q1615) ⟨rfl, nv_X2_output⟩ ⟨by decide, by decide⟩ rfl (bl rfl) dX1_outputIn_30) 33 rfl (fun x6 => ?_)
  exact s_iret C rfl rfl dX1_outputIn_33
theorem nv_X2_bestFactor : yX2_bestFactor.cls ≠ "java/lang/invoke/MethodHandle" ∧ yX2_bestFactor.cls ≠ "java/lang/invoke/VarHandle" ∧ (parseMethodDescriptor yX2_bestFactor.desc).map (fun d => d.parameters.length) = some 3 := by decide +kernel
theorem ct_X2_bestFactor {l : Launch} (g : sm_G) (TA : Nat → Prop) (a0 : Nat) (p0 : Int32) (p1 : Int32) (p2 : Int32) : sm_CT l g (so_R g TA) (so_A g TA) yX2_bestFactor cX2_bestFactor 9 (some .int) 9 203 [.ref a0, .int p0, .int p1, .int p2] em_i (f_X2_bestFactor g a0 p0 p1 p2) := by
  refine sm_of (own := "PatchCords$Panel") rfl rfl (bl rfl) (fun Y C hR hA hl hm => ?_)
  subst hl
  refine s_lv (L' := [(0, .ref a0), (1, .int p0), (2, .int p1), (3, .int p2)]) [0, 1, 2, 3] rfl ?_
  refine s_top ?_
  unfold f_X2_bestFactor
  refine s_iconst (v := (-1)) C dX2_bestFactor_0 (by decide) 1 rfl ?_
  refine s_istore C dX2_bestFactor_1 (by decide) 3 rfl [(4, .int (-1)), (0, .ref a0), (1, .int p0), (2, .int p1), (3, .int p2)] rfl ?_
  refine s_iconst (v := 0) C dX2_bestFactor_3 (by decide) 4 rfl ?_
  refine s_istore C dX2_bestFactor_4 (by decide) 6 rfl [(5, .int 0), (4, .int (-1)), (0, .ref a0), (1, .int p0), (2, .int p1), (3, .int p2)] rfl ?_
  refine s_iconst (v := 0) C dX2_bestFactor_6 (by decide) 7 rfl ?_
  refine s_istore C dX2_bestFactor_7 (by decide) 9 rfl [(6, .int 0), (5, .int 0), (4, .int (-1)), (0, .ref a0), (1, .int p0), (2, .int p1), (3, .int p2)] rfl ?_
  refine s_lv [3, 4, 5, 6, 2, 1, 0] rfl ?_
  refine s_loop (fun (s1 : Int32 × Int32 × Int32) => [(0, .ref a0), (1, .int p0), (2, .int p1), (3, .int p2), (4, .int s1.1), (5, .int s1.2.1), (6, .int s1.2.2)]) (fun (v14 : Int32) => [(4, .int v14)]) 105 ((-1), 0, 0) rfl (fun v14 => ?_) (fun _ s1 hk2 hx3 => ?_)
  · refine s_iload C dX2_bestFactor_105 107 rfl 0 rfl ?_
    exact s_iret C rfl rfl dX2_bestFactor_107
  · refine s_iload C dX2_bestFactor_9 11 rfl 6 rfl ?_
    refine s_sipush (v := 1000) C dX2_bestFactor_11 (by decide) 14 rfl ?_
    refine s_icmp_gt C dX2_bestFactor_14 105 17 (by decide) rfl ?_ ?_
    · refine s_r ?_
      refine s_lv [4] rfl ?_
      exact hx3 s1.1
    · refine s_aload_n C dX2_bestFactor_17 18 rfl 0 rfl ?_
      refine s_call_r (rn_V (As := []) C (ct_at hR hA (ct_on (ct_X2_running g TA a0))) (rv_on C hR (q := vw_1) rfl) (lw_V q729 q731 qs8 q102 q732) ⟨rfl, nv_X2_running⟩ ⟨by decide, by decide⟩ rfl (bl rfl) dX2_bestFactor_18) 21 rfl (fun x4 => ?_)
      refine s_astore C dX2_bestFactor_21 (by decide) 23 rfl [(7, .ref x4), (0, .ref a0), (1, .int p0), (2, .int p1), (3, .int p2), (4, .int s1.1), (5, .int s1.2.1), (6, .int s1.2.2)] rfl ?_
      refine s_aload C dX2_bestFactor_23 25 rfl 0 rfl ?_
      refine s_iload_n C dX2_bestFactor_25 26 rfl 2 rfl ?_
      refine s_call_r (rn_V (As := [.int p0]) C (ct_at hR hA (ct_on (ct_X2_part g TA x4 p0))) (rv_on C hR (q := vw_1) rfl) (lw_V q562 q563 q564 q102 q565) ⟨rfl, nv_X2_part⟩ ⟨by decide, by decide⟩ rfl (bl rfl) dX2_bestFactor_26) 29 rfl (fun x5 => ?_)
      refine s_cast C hR q1736 ca_PatchCords_Pot dX2_bestFactor_29 (some x5) 32 rfl (fun x6 _ => ?_)
      refine s_iload C dX2_bestFactor_32 34 rfl 7 rfl ?_
      refine s_put C hR hA fd_PatchCords_Pot_factor (Or.inr (Or.inl ⟨_, q401⟩)) dX2_bestFactor_34 rfl rfl 37 rfl ?_
      refine s_aload C dX2_bestFactor_37 39 rfl 0 rfl ?_
      refine s_bipush (v := 20) C dX2_bestFactor_39 (by decide) 41 rfl ?_
      refine s_call_i (rn_V (As := [.int 20]) C (ct_at hR hA (ct_on (ct_X2_pass g TA x4 20))) (rv_on C hR (q := vw_1) rfl) (lw_V q1737 q1256 q1257 q102 q1258) ⟨rfl, nv_X2_pass⟩ ⟨by decide, by decide⟩ rfl (bl rfl) dX2_bestFactor_41) 44 rfl (fun x7 => ?_)
      refine s_pop C dX2_bestFactor_44 rfl 45 rfl ?_
      refine s_aload C dX2_bestFactor_45 47 rfl 0 rfl ?_
      refine s_iload_n C dX2_bestFactor_47 48 rfl 3 rfl ?_
      refine s_call_i (rn_V (As := [.int p1]) C (ct_at hR hA (ct_on (ct_X2_output g TA x4 p1))) (rv_on C hR (q := vw_1) rfl) (lw_V q1738 q1613 q1614 q102 q1615) ⟨rfl, nv_X2_output⟩ ⟨by decide, by decide⟩ rfl (bl rfl) dX2_bestFactor_48) 51 rfl (fun x8 => ?_)
      refine s_abs C q775 q654 q129 q655 (by decide) (bl rfl) dX2_bestFactor_51 54 rfl ?_
      refine s_iload_n C dX2_bestFactor_54 55 rfl 4 rfl ?_
      refine s_isub C dX2_bestFactor_55 56 rfl ?_
      refine s_abs C q775 q654 q129 q655 (by decide) (bl rfl) dX2_bestFactor_56 59 rfl ?_
      refine s_topi (fun x9 => ?_)
      refine s_istore C dX2_bestFactor_59 (by decide) 61 rfl [(8, .int x9), (7, .ref x4), (0, .ref a0), (1, .int p0), (2, .int p1), (3, .int p2), (4, .int s1.1), (5, .int s1.2.1), (6, .int s1.2.2)] rfl ?_
      refine s_iload C dX2_bestFactor_61 63 rfl 6 rfl ?_
      refine s_iconst (v := (-1)) C dX2_bestFactor_63 (by decide) 64 rfl ?_
      refine s_cut (J := 81) (LJ := (fun (v10 : Int32) => [(0, .ref a0), (1, .int p0), (2, .int p1), (3, .int p2), (5, .int s1.2.1), (6, .int s1.2.2), (8, .int x9)])) (SJ := (fun (v10 : Int32) => [.int v10])) (fun v10 => ?_) (fun _ _ hK11 => ?_)
      · refine s_istore C dX2_bestFactor_81 (by decide) 83 rfl [(4, .int v10), (0, .ref a0), (1, .int p0), (2, .int p1), (3, .int p2), (5, .int s1.2.1), (6, .int s1.2.2), (8, .int x9)] rfl ?_
        refine s_iload C dX2_bestFactor_83 85 rfl 0 rfl ?_
        refine s_iload C dX2_bestFactor_85 87 rfl 6 rfl ?_
        refine s_cut (J := 97) (LJ := (fun (v12 : Int32) => [(0, .ref a0), (1, .int p0), (2, .int p1), (3, .int p2), (4, .int v10), (6, .int s1.2.2)])) (SJ := (fun (v12 : Int32) => [.int v12])) (fun v12 => ?_) (fun _ _ hK13 => ?_)
        · refine s_istore C dX2_bestFactor_97 (by decide) 99 rfl [(5, .int v12), (0, .ref a0), (1, .int p0), (2, .int p1), (3, .int p2), (4, .int v10), (6, .int s1.2.2)] rfl ?_
          refine s_iinc C dX2_bestFactor_99 (s1.2.2 + 50) rfl 6 rfl (by decide) 102 rfl [(6, .int (s1.2.2 + 50)), (5, .int v12), (0, .ref a0), (1, .int p0), (2, .int p1), (3, .int p2), (4, .int v10)] rfl ?_
          refine s_goto C dX2_bestFactor_102 9 (by decide) ?_
          refine s_r ?_
          refine s_lv [2, 3, 4, 5, 6, 1, 0] rfl ?_
          exact hk2 (v10, v12, s1.2.2 + 50)
        · refine s_icmp_ne C dX2_bestFactor_87 95 90 (by decide) rfl ?_ ?_
          · refine s_iload C dX2_bestFactor_90 92 rfl 7 rfl ?_
            refine s_goto C dX2_bestFactor_92 97 (by decide) ?_
            refine s_r ?_
            refine s_lv [1, 2, 3, 4, 0, 6] rfl ?_
            exact hK13 x9
          · refine s_iload C dX2_bestFactor_95 97 rfl 5 rfl ?_
            refine s_r ?_
            refine s_lv [1, 2, 3, 4, 0, 6] rfl ?_
            exact hK13 s1.2.1
      · refine s_icmp_eq C dX2_bestFactor_64 74 67 (by decide) rfl ?_ ?_
        · refine s_iload C dX2_bestFactor_74 76 rfl 8 rfl ?_
          refine s_goto C dX2_bestFactor_76 81 (by decide) ?_
          refine s_r ?_
          refine s_lv [2, 3, 4, 5, 7, 8, 0] rfl ?_
          exact hK11 s1.2.2
        · refine s_iload C dX2_bestFactor_67 69 rfl 0 rfl ?_
          refine s_iload C dX2_bestFactor_69 71 rfl 7 rfl ?_
          refine s_icmp_ge C dX2_bestFactor_71 79 74 (by decide) rfl ?_ ?_
          · refine s_iload C dX2_bestFactor_79 81 rfl 6 rfl ?_
            refine s_r ?_
            refine s_lv [2, 3, 4, 5, 7, 8, 0] rfl ?_
            exact hK11 s1.1
          · refine s_iload C dX2_bestFactor_74 76 rfl 8 rfl ?_
            refine s_goto C dX2_bestFactor_76 81 (by decide) ?_
            refine s_r ?_
            refine s_lv [2, 3, 4, 5, 7, 8, 0] rfl ?_
            exact hK11 s1.2.2
theorem nv_X1_bestFactor : yX1_bestFactor.cls ≠ "java/lang/invoke/MethodHandle" ∧ yX1_bestFactor.cls ≠ "java/lang/invoke/VarHandle" ∧ (parseMethodDescriptor yX1_bestFactor.desc).map (fun d => d.parameters.length) = some 3 := by decide +kernel
theorem ct_X1_bestFactor {l : Launch} (htr : l.stackTraces = false) (g : sm_G) (TA : Nat → Prop) (a0 : Nat) (p0 : Int32) (p1 : Int32) (p2 : Int32) : sm_CX l g (so_R g TA) (so_A g TA) yX1_bestFactor cX1_bestFactor 4 (some .int) 10 231 [.ref a0, .int p0, .int p1, .int p2] (em_x em_i) (f_X1_bestFactor g a0 p0 p1 p2) := by
  refine sm_ofX htr (own := "PatchCords") rfl rfl (bl rfl) (fun Y C hR hA hl hm => ?_)
  subst hl
  refine s_lv (L' := [(0, .ref a0), (1, .int p0), (2, .int p1), (3, .int p2)]) [0, 1, 2, 3] rfl ?_
  refine s_top ?_
  unfold f_X1_bestFactor
  refine s_aload_n C dX1_bestFactor_0 1 rfl 0 rfl ?_
  refine s_iload_n C dX1_bestFactor_1 2 rfl 1 rfl ?_
  refine s_callX_r C (rx_V (As := [.int p0]) C (cx_at hR hA (cx_on (ct_X1_checkedPart C.tr g TA a0 p0))) (rv_on C hR (q := vw_0) rfl) (lw_V q1409 q1411 qs27 q101 q1412) ⟨rfl, nv_X1_checkedPart⟩ ⟨by decide, by decide⟩ rfl (bl rfl) dX1_bestFactor_2) (fun _ => rfl) 5 rfl (fun x1 => ?_)
  refine s_pop C dX1_bestFactor_5 rfl 6 rfl ?_
  refine s_aload_n C dX1_bestFactor_6 7 rfl 0 rfl ?_
  refine s_iload_n C dX1_bestFactor_7 8 rfl 2 rfl ?_
  refine s_callX_r C (rx_V (As := [.int p1]) C (cx_at hR hA (cx_on (ct_X1_checkedPart C.tr g TA a0 p1))) (rv_on C hR (q := vw_0) rfl) (lw_V q1409 q1411 qs27 q101 q1412) ⟨rfl, nv_X1_checkedPart⟩ ⟨by decide, by decide⟩ rfl (bl rfl) dX1_bestFactor_8) (fun _ => rfl) 11 rfl (fun x2 => ?_)
  refine s_pop C dX1_bestFactor_11 rfl 12 rfl ?_
  refine s_aload_n C dX1_bestFactor_12 13 rfl 0 rfl ?_
  refine s_iload_n C dX1_bestFactor_13 14 rfl 1 rfl ?_
  refine s_callX_r C (rx_V (As := [.int p0]) C (cx_at hR hA (cx_on (ct_X1_checkedPot C.tr g TA a0 p0))) (rv_on C hR (q := vw_0) rfl) (lw_V q1466 q1468 qs28 q101 q1469) ⟨rfl, nv_X1_checkedPot⟩ ⟨by decide, by decide⟩ rfl (bl rfl) dX1_bestFactor_14) (fun _ => rfl) 17 rfl (fun x3 => ?_)
  refine s_pop C dX1_bestFactor_17 rfl 18 rfl ?_
  refine s_iload_n C dX1_bestFactor_18 19 rfl 3 rfl ?_
  refine s_iconst (v := 0) C dX1_bestFactor_19 (by decide) 20 rfl ?_
  refine s_sipush (v := 10000) C dX1_bestFactor_20 (by decide) 23 rfl ?_
  refine s_callX_v C (rx_S (As := [.int p2, .int 0, .int 10000]) C (cx_at hR hA (ct_X1_checkRange C.tr g TA p2 0 10000)) (lw_S q1335 q1336 q101 q1337) nv_X1_checkRange ⟨by decide, by decide⟩ rfl (bl rfl) dX1_bestFactor_23) (fun _ => rfl) 26 rfl ?_
  refine s_aload_n C dX1_bestFactor_26 27 rfl 0 rfl ?_
  refine s_getR C hR fd_PatchCords_panel (Or.inl q273) dX1_bestFactor_27 30 rfl (fun x5 => ?_)
  refine s_iload_n C dX1_bestFactor_30 31 rfl 1 rfl ?_
  refine s_iload_n C dX1_bestFactor_31 32 rfl 2 rfl ?_
  refine s_iload_n C dX1_bestFactor_32 33 rfl 3 rfl ?_
  refine s_call_i (rn_V (As := [.int p0, .int p1, .int p2]) C (ct_at hR hA (ct_on (ct_X2_bestFactor g TA x5 p0 p1 p2))) (rv_on C hR (q := vw_1) rfl) (lw_V q1732 q1733 q1734 q102 q1735) ⟨rfl, nv_X2_bestFactor⟩ ⟨by decide, by decide⟩ rfl (bl rfl) dX1_bestFactor_33) 36 rfl (fun x6 => ?_)
  exact s_iret C rfl rfl dX1_bestFactor_36
