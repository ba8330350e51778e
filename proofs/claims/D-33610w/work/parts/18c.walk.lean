/-! THE WALKS -/
theorem nv_X1_meanRecord : yX1_meanRecord.cls ≠ "java/lang/invoke/MethodHandle" ∧ yX1_meanRecord.cls ≠ "java/lang/invoke/VarHandle" ∧ (parseMethodDescriptor yX1_meanRecord.desc).map (fun d => d.parameters.length) = some 0 := by decide +kernel
theorem ct_X1_meanRecord {l : Launch} (g : sm_G) (TA : Nat → Prop) (a0 : Nat) : sm_CT l g (so_R g TA) (so_A g TA) yX1_meanRecord cX1_meanRecord 1 (some .double) 1 22 [.ref a0] em_d (f_X1_meanRecord g a0) := by
  refine sm_of (own := "PatchCords") rfl rfl (bl rfl) (fun Y C hR hA hl hm => ?_)
  subst hl
  refine s_lv (L' := [(0, .ref a0)]) [0] rfl ?_
  refine s_top ?_
  unfold f_X1_meanRecord
  refine s_aload_n C dX1_meanRecord_0 1 rfl 0 rfl ?_
  refine s_getR C hR fd_PatchCords_panel (Or.inl q273) dX1_meanRecord_1 4 rfl (fun x1 => ?_)
  refine s_call_d (rn_V (As := []) C (ct_at hR hA (ct_on (ct_X2_meanRecord g TA x1))) (rv_on C hR (q := vw_1) rfl) (lw_V q717 q718 q719 q102 q720) ⟨rfl, nv_X2_meanRecord⟩ ⟨by decide, by decide⟩ rfl (bl rfl) dX1_meanRecord_4) 7 rfl (fun x2 => ?_)
  exact s_dret C rfl dX1_meanRecord_7
theorem nv_X2_running : yX2_running.cls ≠ "java/lang/invoke/MethodHandle" ∧ yX2_running.cls ≠ "java/lang/invoke/VarHandle" ∧ (parseMethodDescriptor yX2_running.desc).map (fun d => d.parameters.length) = some 0 := by decide +kernel
theorem ct_X2_running {l : Launch} (g : sm_G) (TA : Nat → Prop) (a0 : Nat) : sm_CT l g (so_R g TA) (so_A g TA) yX2_running cX2_running 2 (some (.object "PatchCords$Panel")) 8 182 [.ref a0] em_r (f_X2_running g a0) := by
  refine sm_of (own := "PatchCords$Panel") rfl rfl (bl rfl) (fun Y C hR hA hl hm => ?_)
  subst hl
  refine s_lv (L' := [(0, .ref a0)]) [0] rfl ?_
  refine s_top ?_
  unfold f_X2_running
  refine s_aload_n C dX2_running_0 1 rfl 0 rfl ?_
  refine s_call_r (rn_V (As := []) C (ct_at hR hA (ct_on (ct_X2_copy g TA a0))) (rv_on C hR (q := vw_1) rfl) (lw_V q733 q291 q292 q102 q293) ⟨rfl, nv_X2_copy⟩ ⟨by decide, by decide⟩ rfl (bl rfl) dX2_running_1) 4 rfl (fun x1 => ?_)
  refine s_astore_n C dX2_running_4 rfl (by decide) 5 rfl [(1, .ref x1), (0, .ref a0)] rfl ?_
  refine s_aload_n C dX2_running_5 6 rfl 0 rfl ?_
  refine s_iconst (v := 1) C dX2_running_6 (by decide) 7 rfl ?_
  refine s_put C hR hA fd_PatchCords_Panel_mode (Or.inl q195) dX2_running_7 rfl rfl 10 rfl ?_
  refine s_aload_n C dX2_running_10 11 rfl 0 rfl ?_
  exact s_aret C rfl (Or.inl ⟨_, rfl⟩) dX2_running_11
theorem nv_X8_rate : yX8_rate.cls ≠ "java/lang/invoke/MethodHandle" ∧ yX8_rate.cls ≠ "java/lang/invoke/VarHandle" ∧ (parseMethodDescriptor yX8_rate.desc).map (fun d => d.parameters.length) = some 1 := by decide +kernel
theorem ct_X8_rate {l : Launch} (g : sm_G) (TA : Nat → Prop) (a0 : Nat) (p0 : Nat) : sm_CT l g (so_R g TA) (so_A g TA) yX8_rate cX8_rate 2 (some .int) 3 65 [.ref a0, .ref p0] em_i (f_X8_rate g a0 p0) := by
  refine sm_of (own := "PatchCords$Integrator") rfl rfl (bl rfl) (fun Y C hR hA hl hm => ?_)
  subst hl
  refine s_lv (L' := [(0, .ref a0), (1, .ref p0)]) [0, 1] rfl ?_
  refine s_top ?_
  unfold f_X8_rate
  refine s_aload_n C dX8_rate_0 1 rfl 0 rfl ?_
  refine s_aload_n C dX8_rate_1 2 rfl 1 rfl ?_
  refine s_call_i (rn_U (As := [.ref p0]) C (ct_at hR hA (ct_on (ct_X7_turnedSum g TA a0 p0))) (rv_on C hR (q := vw_3) rfl) q758 q759 (va_Decl.abs (C.k.2.1 _ q628 rfl)) (C.w _ q760) q630 q122 q631 ⟨by decide +kernel, by decide +kernel, (show (parseMethodDescriptor "([I)I").map (fun d => d.parameters.length) = some 1 by decide +kernel)⟩ ⟨by decide, by decide⟩ rfl (bl rfl) dX8_rate_2) 5 rfl (fun x1 => ?_)
  refine s_sipush (v := 1000) C dX8_rate_5 (by decide) 8 rfl ?_
  refine s_imul C dX8_rate_8 9 rfl ?_
  refine s_aload_n C dX8_rate_9 10 rfl 0 rfl ?_
  refine s_getI C hR fd_PatchCords_Integrator_speed (Or.inl q365) dX8_rate_10 13 rfl (fun x2 => ?_)
  refine s_idv C dX8_rate_13 14 rfl (fun x3 => ?_)
  exact s_iret C rfl rfl dX8_rate_14
theorem nv_X8_tellRate : yX8_tellRate.cls ≠ "java/lang/invoke/MethodHandle" ∧ yX8_tellRate.cls ≠ "java/lang/invoke/VarHandle" ∧ (parseMethodDescriptor yX8_tellRate.desc).map (fun d => d.parameters.length) = some 1 := by decide +kernel
theorem ct_X8_tellRate {l : Launch} (g : sm_G) (TA : Nat → Prop) (a0 : Nat) (p0 : Nat) : sm_CT l g (so_R g TA) (so_A g TA) yX8_tellRate cX8_tellRate 2 none 4 86 [.ref a0, .ref p0] em_v (f_X8_tellRate g a0 p0) := by
  refine sm_of (own := "PatchCords$Integrator") rfl rfl (bl rfl) (fun Y C hR hA hl hm => ?_)
  subst hl
  refine s_lv (L' := [(0, .ref a0), (1, .ref p0)]) [0, 1] rfl ?_
  refine s_top ?_
  unfold f_X8_tellRate
  refine s_aload_n C dX8_tellRate_0 1 rfl 0 rfl ?_
  refine s_aload_n C dX8_tellRate_1 2 rfl 0 rfl ?_
  refine s_aload_n C dX8_tellRate_2 3 rfl 1 rfl ?_
  refine s_call_i (rn_V (As := [.ref p0]) C (ct_at hR hA (ct_on (ct_X8_rate g TA a0 p0))) (rv_on C hR (q := vw_3) rfl) (lw_V q754 q755 q756 q123 q757) ⟨rfl, nv_X8_rate⟩ ⟨by decide, by decide⟩ rfl (bl rfl) dX8_tellRate_3) 6 rfl (fun x1 => ?_)
  refine s_put C hR hA fd_PatchCords_Integrator_rate (Or.inl q372) dX8_tellRate_6 rfl rfl 9 rfl ?_
  exact s_vret C rfl dX8_tellRate_9
theorem nv_X2_tellRates : yX2_tellRates.cls ≠ "java/lang/invoke/MethodHandle" ∧ yX2_tellRates.cls ≠ "java/lang/invoke/VarHandle" ∧ (parseMethodDescriptor yX2_tellRates.desc).map (fun d => d.parameters.length) = some 0 := by decide +kernel
theorem ct_X2_tellRates {l : Launch} (g : sm_G) (TA : Nat → Prop) (a0 : Nat) : sm_CT l g (so_R g TA) (so_A g TA) yX2_tellRates cX2_tellRates 2 none 5 108 [.ref a0] em_v (f_X2_tellRates g a0) := by
  refine sm_of (own := "PatchCords$Panel") rfl rfl (bl rfl) (fun Y C hR hA hl hm => ?_)
  subst hl
  refine s_lv (L' := [(0, .ref a0)]) [0] rfl ?_
  refine s_top ?_
  unfold f_X2_tellRates
  refine s_aload_n C dX2_tellRates_0 1 rfl 0 rfl ?_
  refine s_call_v (rn_V (As := []) C (ct_at hR hA (ct_on (ct_X2_tellOutputs g TA a0))) (rv_on C hR (q := vw_1) rfl) (lw_V q597 q599 qs6 q102 q600) ⟨rfl, nv_X2_tellOutputs⟩ ⟨by decide, by decide⟩ rfl (bl rfl) dX2_tellRates_1) 4 rfl ?_
  refine s_iconst (v := 0) C dX2_tellRates_4 (by decide) 5 rfl ?_
  refine s_istore_n C dX2_tellRates_5 rfl (by decide) 6 rfl [(1, .int 0), (0, .ref a0)] rfl ?_
  refine s_lv [1, 0] rfl ?_
  refine s_loop (fun (s2 : Int32) => [(0, .ref a0), (1, .int s2)]) (fun (v16 : Unit) => []) 55 0 rfl (fun v16 => ?_) (fun _ s2 hk3 hx4 => ?_)
  · exact s_vret C rfl dX2_tellRates_55
  · refine s_iload_n C dX2_tellRates_6 7 rfl 1 rfl ?_
    refine s_aload_n C dX2_tellRates_7 8 rfl 0 rfl ?_
    refine s_call_i (rn_V (As := []) C (ct_at hR hA (ct_on (ct_X2_size g TA a0))) (rv_on C hR (q := vw_1) rfl) (lw_V q561 q526 q527 q102 q528) ⟨rfl, nv_X2_size⟩ ⟨by decide, by decide⟩ rfl (bl rfl) dX2_tellRates_8) 11 rfl (fun x5 => ?_)
    refine s_icmp_ge C dX2_tellRates_11 55 14 (by decide) rfl ?_ ?_
    · refine s_r ?_
      refine s_lv [] rfl ?_
      exact hx4 ()
    · refine s_aload_n C dX2_tellRates_14 15 rfl 0 rfl ?_
      refine s_iload_n C dX2_tellRates_15 16 rfl 1 rfl ?_
      refine s_call_r (rn_V (As := [.int s2]) C (ct_at hR hA (ct_on (ct_X2_part g TA a0 s2))) (rv_on C hR (q := vw_1) rfl) (lw_V q562 q563 q564 q102 q565) ⟨rfl, nv_X2_part⟩ ⟨by decide, by decide⟩ rfl (bl rfl) dX2_tellRates_16) 19 rfl (fun x6 => ?_)
      refine s_inst C hR q739 io_Integrator dX2_tellRates_19 22 rfl (fun x7 => ?_)
      refine s_cut (J := 49) (LJ := (fun (v8 : Unit) => [(0, .ref a0), (1, .int s2)])) (SJ := (fun (v8 : Unit) => [])) (fun v8 => ?_) (fun _ _ hK9 => ?_)
      · refine s_iinc C dX2_tellRates_49 (s2 + 1) rfl 1 rfl (by decide) 52 rfl [(1, .int (s2 + 1)), (0, .ref a0)] rfl ?_
        refine s_goto C dX2_tellRates_52 6 (by decide) ?_
        refine s_r ?_
        refine s_lv [1, 0] rfl ?_
        exact hk3 (s2 + 1)
      · refine s_if_eq C dX2_tellRates_22 49 25 (by decide) rfl ?_ ?_
        · refine s_r ?_
          refine s_lv [0, 1] rfl ?_
          exact hK9 ()
        · refine s_aload_n C dX2_tellRates_25 26 rfl 0 rfl ?_
          refine s_aload_n C dX2_tellRates_26 27 rfl 0 rfl ?_
          refine s_iload_n C dX2_tellRates_27 28 rfl 1 rfl ?_
          refine s_call_r (rn_V (As := [.int s2]) C (ct_at hR hA (ct_on (ct_X2_part g TA a0 s2))) (rv_on C hR (q := vw_1) rfl) (lw_V q562 q563 q564 q102 q565) ⟨rfl, nv_X2_part⟩ ⟨by decide, by decide⟩ rfl (bl rfl) dX2_tellRates_28) 31 rfl (fun x10 => ?_)
          refine s_call_v (rn_V (As := [.ref x10]) C (ct_at hR hA (ct_on (ct_X2_tellInputs g TA a0 x10))) (rv_on C hR (q := vw_1) rfl) (lw_V q601 q603 qs7 q102 q604) ⟨rfl, nv_X2_tellInputs⟩ ⟨by decide, by decide⟩ rfl (bl rfl) dX2_tellRates_31) 34 rfl ?_
          refine s_aload_n C dX2_tellRates_34 35 rfl 0 rfl ?_
          refine s_iload_n C dX2_tellRates_35 36 rfl 1 rfl ?_
          refine s_call_r (rn_V (As := [.int s2]) C (ct_at hR hA (ct_on (ct_X2_part g TA a0 s2))) (rv_on C hR (q := vw_1) rfl) (lw_V q562 q563 q564 q102 q565) ⟨rfl, nv_X2_part⟩ ⟨by decide, by decide⟩ rfl (bl rfl) dX2_tellRates_36) 39 rfl (fun x12 => ?_)
          refine s_cast C hR q739 ca_PatchCords_Integrator dX2_tellRates_39 (some x12) 42 rfl (fun x13 _ => ?_)
          refine s_aload_n C dX2_tellRates_42 43 rfl 0 rfl ?_
          refine s_getR C hR fd_PatchCords_Panel_in (Or.inl q187) dX2_tellRates_43 46 rfl (fun x14 => ?_)
          refine s_call_v (rn_V (As := [.ref x14]) C (ct_at hR hA (ct_on (ct_X8_tellRate g TA x13 x14))) (rv_on C hR (q := vw_3) rfl) (lw_V q750 q751 q752 q123 q753) ⟨rfl, nv_X8_tellRate⟩ ⟨by decide, by decide⟩ rfl (bl rfl) dX2_tellRates_46) 49 rfl ?_
          refine s_r ?_
          refine s_lv [0, 1] rfl ?_
          exact hK9 ()
theorem nv_X8_move : yX8_move.cls ≠ "java/lang/invoke/MethodHandle" ∧ yX8_move.cls ≠ "java/lang/invoke/VarHandle" ∧ (parseMethodDescriptor yX8_move.desc).map (fun d => d.parameters.length) = some 1 := by decide +kernel
theorem ct_X8_move {l : Launch} (g : sm_G) (TA : Nat → Prop) (a0 : Nat) (p0 : Int32) : sm_CT l g (so_R g TA) (so_A g TA) yX8_move cX8_move 2 none 2 35 [.ref a0, .int p0] em_v (f_X8_move g a0 p0) := by
  refine sm_of (own := "PatchCords$Integrator") rfl rfl (bl rfl) (fun Y C hR hA hl hm => ?_)
  subst hl
  refine s_lv (L' := [(0, .ref a0), (1, .int p0)]) [0, 1] rfl ?_
  refine s_top ?_
  unfold f_X8_move
  refine s_aload_n C dX8_move_0 1 rfl 0 rfl ?_
  refine s_aload_n C dX8_move_1 2 rfl 0 rfl ?_
  refine s_getI C hR fd_PatchCords_Integrator_before (Or.inl q370) dX8_move_2 5 rfl (fun x1 => ?_)
  refine s_iload_n C dX8_move_5 6 rfl 1 rfl ?_
  refine s_iadd C dX8_move_6 7 rfl ?_
  refine s_ldc (v := 10000000) C q656 dX8_move_7 9 rfl ?_
  refine s_call_i (rn_SN (As := [.int (x1 + p0), .int 10000000]) C (ct_at hR hA (ct_X1_held g TA (x1 + p0) 10000000)) q769 q642 q101 q643 nv_X1_held ⟨by decide, by decide⟩ rfl (bl rfl) dX8_move_9) 12 rfl (fun x2 => ?_)
  refine s_put C hR hA fd_PatchCords_Integrator_charge (Or.inl q367) dX8_move_12 rfl rfl 15 rfl ?_
  exact s_vret C rfl dX8_move_15
theorem nv_X2_moveAll : yX2_moveAll.cls ≠ "java/lang/invoke/MethodHandle" ∧ yX2_moveAll.cls ≠ "java/lang/invoke/VarHandle" ∧ (parseMethodDescriptor yX2_moveAll.desc).map (fun d => d.parameters.length) = some 1 := by decide +kernel
theorem ct_X2_moveAll {l : Launch} (g : sm_G) (TA : Nat → Prop) (a0 : Nat) (p0 : Int32) : sm_CT l g (so_R g TA) (so_A g TA) yX2_moveAll cX2_moveAll 4 none 4 85 [.ref a0, .int p0] em_v (f_X2_moveAll g a0 p0) := by
  refine sm_of (own := "PatchCords$Panel") rfl rfl (bl rfl) (fun Y C hR hA hl hm => ?_)
  subst hl
  refine s_lv (L' := [(0, .ref a0), (1, .int p0)]) [0, 1] rfl ?_
  refine s_top ?_
  unfold f_X2_moveAll
  refine s_iconst (v := 0) C dX2_moveAll_0 (by decide) 1 rfl ?_
  refine s_istore_n C dX2_moveAll_1 rfl (by decide) 2 rfl [(2, .int 0), (0, .ref a0), (1, .int p0)] rfl ?_
  refine s_lv [1, 2, 0] rfl ?_
  refine s_loop (fun (s1 : Int32) => [(0, .ref a0), (1, .int p0), (2, .int s1)]) (fun (v14 : Unit) => []) 46 0 rfl (fun v14 => ?_) (fun _ s1 hk2 hx3 => ?_)
  · exact s_vret C rfl dX2_moveAll_46
  · refine s_iload_n C dX2_moveAll_2 3 rfl 2 rfl ?_
    refine s_aload_n C dX2_moveAll_3 4 rfl 0 rfl ?_
    refine s_call_i (rn_V (As := []) C (ct_at hR hA (ct_on (ct_X2_size g TA a0))) (rv_on C hR (q := vw_1) rfl) (lw_V q561 q526 q527 q102 q528) ⟨rfl, nv_X2_size⟩ ⟨by decide, by decide⟩ rfl (bl rfl) dX2_moveAll_4) 7 rfl (fun x4 => ?_)
    refine s_icmp_ge C dX2_moveAll_7 46 10 (by decide) rfl ?_ ?_
    · refine s_r ?_
      refine s_lv [] rfl ?_
      exact hx3 ()
    · refine s_aload_n C dX2_moveAll_10 11 rfl 0 rfl ?_
      refine s_iload_n C dX2_moveAll_11 12 rfl 2 rfl ?_
      refine s_call_r (rn_V (As := [.int s1]) C (ct_at hR hA (ct_on (ct_X2_part g TA a0 s1))) (rv_on C hR (q := vw_1) rfl) (lw_V q562 q563 q564 q102 q565) ⟨rfl, nv_X2_part⟩ ⟨by decide, by decide⟩ rfl (bl rfl) dX2_moveAll_12) 15 rfl (fun x5 => ?_)
      refine s_inst C hR q739 io_Integrator dX2_moveAll_15 18 rfl (fun x6 => ?_)
      refine s_cut (J := 40) (LJ := (fun (v7 : Unit) => [(0, .ref a0), (1, .int p0), (2, .int s1)])) (SJ := (fun (v7 : Unit) => [])) (fun v7 => ?_) (fun _ _ hK8 => ?_)
      · refine s_iinc C dX2_moveAll_40 (s1 + 1) rfl 2 rfl (by decide) 43 rfl [(2, .int (s1 + 1)), (0, .ref a0), (1, .int p0)] rfl ?_
        refine s_goto C dX2_moveAll_43 2 (by decide) ?_
        refine s_r ?_
        refine s_lv [1, 2, 0] rfl ?_
        exact hk2 (s1 + 1)
      · refine s_if_eq C dX2_moveAll_18 40 21 (by decide) rfl ?_ ?_
        · refine s_r ?_
          refine s_lv [0, 1, 2] rfl ?_
          exact hK8 ()
        · refine s_aload_n C dX2_moveAll_21 22 rfl 0 rfl ?_
          refine s_iload_n C dX2_moveAll_22 23 rfl 2 rfl ?_
          refine s_call_r (rn_V (As := [.int s1]) C (ct_at hR hA (ct_on (ct_X2_part g TA a0 s1))) (rv_on C hR (q := vw_1) rfl) (lw_V q562 q563 q564 q102 q565) ⟨rfl, nv_X2_part⟩ ⟨by decide, by decide⟩ rfl (bl rfl) dX2_moveAll_23) 26 rfl (fun x9 => ?_)
          refine s_cast C hR q739 ca_PatchCords_Integrator dX2_moveAll_26 (some x9) 29 rfl (fun x10 _ => ?_)
          refine s_astore_n C dX2_moveAll_29 rfl (by decide) 30 rfl [(3, .ref x10), (0, .ref a0), (1, .int p0), (2, .int s1)] rfl ?_
          refine s_aload_n C dX2_moveAll_30 31 rfl 0 rfl ?_
          refine s_aload_n C dX2_moveAll_31 32 rfl 0 rfl ?_
          refine s_getI C hR fd_PatchCords_Integrator_rate (Or.inr (Or.inl ⟨_, q373⟩)) dX2_moveAll_32 35 rfl (fun x11 => ?_)
          refine s_iload_n C dX2_moveAll_35 36 rfl 2 rfl ?_
          refine s_idv C dX2_moveAll_36 37 rfl (fun x12 => ?_)
          refine s_call_v (rn_V (As := [.int x12]) C (ct_at hR hA (ct_on (ct_X8_move g TA x10 x12))) (rv_on C hR (q := vw_3) rfl) (lw_V q765 q766 q767 q123 q768) ⟨rfl, nv_X8_move⟩ ⟨by decide, by decide⟩ rfl (bl rfl) dX2_moveAll_37) 40 rfl ?_
          refine s_r ?_
          refine s_lv [1, 2, 3] rfl ?_
          exact hK8 ()
theorem nv_X15_step : yX15_step.cls ≠ "java/lang/invoke/MethodHandle" ∧ yX15_step.cls ≠ "java/lang/invoke/VarHandle" ∧ (parseMethodDescriptor yX15_step.desc).map (fun d => d.parameters.length) = some 1 := by decide +kernel
theorem ct_X15_step {l : Launch} (g : sm_G) (TA : Nat → Prop) (a0 : Nat) (p0 : Nat) : un_CT l g (so_R g TA) (so_A g TA) yX15_step cX15_step 2 none 6 129 [.ref a0, .ref p0] em_v (f_X15_step g a0 p0) := by
  refine un_of (own := "PatchCords$Way$1") rfl rfl (bl rfl) (fun Y C hR hA hl hm => ?_)
  subst hl
  refine s_lv (L' := [(1, .ref p0)]) [1] rfl ?_
  refine s_top ?_
  unfold f_X15_step
  refine s_aload_n C dX15_step_0 1 rfl 0 rfl ?_
  refine s_call_v (rn_VN (As := []) C (ct_at hR hA (ct_on (ct_X2_tellRates g TA p0))) (rv_on C hR (q := vw_1) rfl) q746 q748 qs10 q102 q749 nv_X2_tellRates ⟨by decide, by decide⟩ rfl (bl rfl) dX15_step_1) 4 rfl ?_
  refine s_aload_n C dX15_step_4 5 rfl 0 rfl ?_
  refine s_iconst (v := 1) C dX15_step_5 (by decide) 6 rfl ?_
  refine s_call_v (rn_VN (As := [.int 1]) C (ct_at hR hA (ct_on (ct_X2_moveAll g TA p0 1))) (rv_on C hR (q := vw_1) rfl) q761 q763 qs11 q102 q764 nv_X2_moveAll ⟨by decide, by decide⟩ rfl (bl rfl) dX15_step_6) 9 rfl ?_
  exact s_vret C rfl dX15_step_9
theorem nv_X16_step : yX16_step.cls ≠ "java/lang/invoke/MethodHandle" ∧ yX16_step.cls ≠ "java/lang/invoke/VarHandle" ∧ (parseMethodDescriptor yX16_step.desc).map (fun d => d.parameters.length) = some 1 := by decide +kernel
theorem ct_X16_step {l : Launch} (g : sm_G) (TA : Nat → Prop) (a0 : Nat) (p0 : Nat) : un_CT l g (so_R g TA) (so_A g TA) yX16_step cX16_step 2 none 6 129 [.ref a0, .ref p0] em_v (f_X16_step g a0 p0) := by
  refine un_of (own := "PatchCords$Way$2") rfl rfl (bl rfl) (fun Y C hR hA hl hm => ?_)
  subst hl
  refine s_lv (L' := [(1, .ref p0)]) [1] rfl ?_
  refine s_top ?_
  unfold f_X16_step
  refine s_aload_n C dX16_step_0 1 rfl 0 rfl ?_
  refine s_call_v (rn_VN (As := []) C (ct_at hR hA (ct_on (ct_X2_tellRates g TA p0))) (rv_on C hR (q := vw_1) rfl) q773 q748 qs10 q102 q749 nv_X2_tellRates ⟨by decide, by decide⟩ rfl (bl rfl) dX16_step_1) 4 rfl ?_
  refine s_aload_n C dX16_step_4 5 rfl 0 rfl ?_
  refine s_iconst (v := 2) C dX16_step_5 (by decide) 6 rfl ?_
  refine s_call_v (rn_VN (As := [.int 2]) C (ct_at hR hA (ct_on (ct_X2_moveAll g TA p0 2))) (rv_on C hR (q := vw_1) rfl) q774 q763 qs11 q102 q764 nv_X2_moveAll ⟨by decide, by decide⟩ rfl (bl rfl) dX16_step_6) 9 rfl ?_
  refine s_aload_n C dX16_step_9 10 rfl 0 rfl ?_
  refine s_call_v (rn_VN (As := []) C (ct_at hR hA (ct_on (ct_X2_tellRates g TA p0))) (rv_on C hR (q := vw_1) rfl) q773 q748 qs10 q102 q749 nv_X2_tellRates ⟨by decide, by decide⟩ rfl (bl rfl) dX16_step_10) 13 rfl ?_
  refine s_aload_n C dX16_step_13 14 rfl 0 rfl ?_
  refine s_iconst (v := 1) C dX16_step_14 (by decide) 15 rfl ?_
  refine s_call_v (rn_VN (As := [.int 1]) C (ct_at hR hA (ct_on (ct_X2_moveAll g TA p0 1))) (rv_on C hR (q := vw_1) rfl) q774 q763 qs11 q102 q764 nv_X2_moveAll ⟨by decide, by decide⟩ rfl (bl rfl) dX16_step_15) 18 rfl ?_
  exact s_vret C rfl dX16_step_18
theorem nv_X2_recordNow : yX2_recordNow.cls ≠ "java/lang/invoke/MethodHandle" ∧ yX2_recordNow.cls ≠ "java/lang/invoke/VarHandle" ∧ (parseMethodDescriptor yX2_recordNow.desc).map (fun d => d.parameters.length) = some 0 := by decide +kernel
theorem ct_X2_recordNow {l : Launch} (g : sm_G) (TA : Nat → Prop) (a0 : Nat) : sm_CT l g (so_R g TA) (so_A g TA) yX2_recordNow cX2_recordNow 4 none 1 14 [.ref a0] em_v (f_X2_recordNow g a0) := by
  refine sm_of (own := "PatchCords$Panel") rfl rfl (bl rfl) (fun Y C hR hA hl hm => ?_)
  subst hl
  refine s_lv (L' := [(0, .ref a0)]) [0] rfl ?_
  refine s_top ?_
  unfold f_X2_recordNow
  refine s_aload_n C dX2_recordNow_0 1 rfl 0 rfl ?_
  refine s_getR C hR fd_PatchCords_Panel_outputs (Or.inl q185) dX2_recordNow_1 4 rfl (fun x1 => ?_)
  refine s_aload_n C dX2_recordNow_4 5 rfl 0 rfl ?_
  refine s_getI C hR fd_PatchCords_Panel_recorded (Or.inl q199) dX2_recordNow_5 8 rfl (fun x2 => ?_)
  refine s_iald C hR dX2_recordNow_8 9 rfl (fun x3 => ?_)
  refine s_istore_n C dX2_recordNow_9 rfl (by decide) 10 rfl [(1, .int x3), (0, .ref a0)] rfl ?_
  refine s_aload_n C dX2_recordNow_10 11 rfl 1 rfl ?_
  refine s_getI C hR fd_PatchCords_Panel_recordCount (Or.inl q201) dX2_recordNow_11 14 rfl (fun x4 => ?_)
  refine s_cut (J := 35) (LJ := (fun (v5 : Int32) => [(0, .ref a0), (1, .int x3)])) (SJ := (fun (v5 : Int32) => [.int v5])) (fun v5 => ?_) (fun _ _ hK6 => ?_)
  · refine s_istore_n C dX2_recordNow_35 rfl (by decide) 36 rfl [(2, .int v5), (0, .ref a0), (1, .int x3)] rfl ?_
    refine s_bipush (v := 23) C dX2_recordNow_36 (by decide) 38 rfl ?_
    refine s_istore_n C dX2_recordNow_38 rfl (by decide) 39 rfl [(3, .int 23), (2, .int v5), (0, .ref a0), (1, .int x3)] rfl ?_
    refine s_lv [2, 3, 1, 0] rfl ?_
    refine s_loop (fun (s9 : Int32) => [(0, .ref a0), (1, .int x3), (2, .int v5), (3, .int s9)]) (fun (v15 : Unit) => [(0, .ref a0), (1, .int x3), (2, .int v5)]) 63 23 rfl (fun v15 => ?_) (fun _ s9 hk10 hx11 => ?_)
    · refine s_aload_n C dX2_recordNow_63 64 rfl 0 rfl ?_
      refine s_getR C hR fd_PatchCords_Panel_records (Or.inl q189) dX2_recordNow_64 67 rfl (fun x16 => ?_)
      refine s_iconst (v := 0) C dX2_recordNow_67 (by decide) 68 rfl ?_
      refine s_iload_n C dX2_recordNow_68 69 rfl 1 rfl ?_
      refine s_iast C hR hA dX2_recordNow_69 70 rfl ?_
      refine s_aload_n C dX2_recordNow_70 71 rfl 0 rfl ?_
      refine s_aload_n C dX2_recordNow_71 72 rfl 0 rfl ?_
      refine s_getI C hR fd_PatchCords_Panel_recordCount (Or.inl q201) dX2_recordNow_72 75 rfl (fun x17 => ?_)
      refine s_iconst (v := 1) C dX2_recordNow_75 (by decide) 76 rfl ?_
      refine s_iadd C dX2_recordNow_76 77 rfl ?_
      refine s_bipush (v := 24) C dX2_recordNow_77 (by decide) 79 rfl ?_
      refine s_min C q781 q514 q129 q515 (by decide) (bl rfl) dX2_recordNow_79 82 rfl ?_
      refine s_put C hR hA fd_PatchCords_Panel_recordCount (Or.inl q201) dX2_recordNow_82 rfl rfl 85 rfl ?_
      refine s_iload_n C dX2_recordNow_85 86 rfl 2 rfl ?_
      refine s_cut (J := 131) (LJ := (fun (v18 : Unit) => [])) (SJ := (fun (v18 : Unit) => [])) (fun v18 => ?_) (fun _ _ hK19 => ?_)
      · exact s_vret C rfl dX2_recordNow_131
      · refine s_if_eq C dX2_recordNow_86 131 89 (by decide) rfl ?_ ?_
        · refine s_r ?_
          refine s_lv [] rfl ?_
          exact hK19 ()
        · refine s_aload_n C dX2_recordNow_89 90 rfl 0 rfl ?_
          refine s_aload_n C dX2_recordNow_90 91 rfl 0 rfl ?_
          refine s_getI C hR fd_PatchCords_Panel_crossings (Or.inl q203) dX2_recordNow_91 94 rfl (fun x20 => ?_)
          refine s_cut (J := 110) (LJ := (fun (v21 : Int32) => [(0, .ref a0)])) (SJ := (fun (v21 : Int32) => [.int v21, .ref a0])) (fun v21 => ?_) (fun _ _ hK22 => ?_)
          · refine s_put C hR hA fd_PatchCords_Panel_beat (Or.inl q206) dX2_recordNow_110 rfl rfl 113 rfl ?_
            refine s_aload_n C dX2_recordNow_113 114 rfl 0 rfl ?_
            refine s_aload_n C dX2_recordNow_114 115 rfl 0 rfl ?_
            refine s_getI C hR fd_PatchCords_Panel_steps (Or.inl q197) dX2_recordNow_115 118 rfl (fun x25 => ?_)
            refine s_put C hR hA fd_PatchCords_Panel_latestCrossing (Or.inl q205) dX2_recordNow_118 rfl rfl 121 rfl ?_
            refine s_aload_n C dX2_recordNow_121 122 rfl 0 rfl ?_
            refine s_dup C dX2_recordNow_122 rfl 123 rfl ?_
            refine s_getI C hR fd_PatchCords_Panel_crossings (Or.inl q203) dX2_recordNow_123 126 rfl (fun x26 => ?_)
            refine s_iconst (v := 1) C dX2_recordNow_126 (by decide) 127 rfl ?_
            refine s_iadd C dX2_recordNow_127 128 rfl ?_
            refine s_put C hR hA fd_PatchCords_Panel_crossings (Or.inl q203) dX2_recordNow_128 rfl rfl 131 rfl ?_
            refine s_r ?_
            refine s_lv [] rfl ?_
            exact hK19 ()
          · refine s_if_ne C dX2_recordNow_94 101 97 (by decide) rfl ?_ ?_
            · refine s_iconst (v := (-1)) C dX2_recordNow_97 (by decide) 98 rfl ?_
              refine s_goto C dX2_recordNow_98 110 (by decide) ?_
              refine s_r ?_
              refine s_lv [0] rfl ?_
              exact hK22 (-1)
            · refine s_aload_n C dX2_recordNow_101 102 rfl 0 rfl ?_
              refine s_getI C hR fd_PatchCords_Panel_steps (Or.inl q197) dX2_recordNow_102 105 rfl (fun x23 => ?_)
              refine s_aload_n C dX2_recordNow_105 106 rfl 0 rfl ?_
              refine s_getI C hR fd_PatchCords_Panel_latestCrossing (Or.inl q205) dX2_recordNow_106 109 rfl (fun x24 => ?_)
              refine s_isub C dX2_recordNow_109 110 rfl ?_
              refine s_r ?_
              refine s_lv [0] rfl ?_
              exact hK22 (x23 - x24)
    · refine s_iload_n C dX2_recordNow_39 40 rfl 3 rfl ?_
      refine s_if_le C dX2_recordNow_40 63 43 (by decide) rfl ?_ ?_
      · refine s_r ?_
        refine s_lv [0, 1, 2] rfl ?_
        exact hx11 ()
      · refine s_aload_n C dX2_recordNow_43 44 rfl 0 rfl ?_
        refine s_getR C hR fd_PatchCords_Panel_records (Or.inl q189) dX2_recordNow_44 47 rfl (fun x12 => ?_)
        refine s_iload_n C dX2_recordNow_47 48 rfl 3 rfl ?_
        refine s_aload_n C dX2_recordNow_48 49 rfl 0 rfl ?_
        refine s_getR C hR fd_PatchCords_Panel_records (Or.inl q189) dX2_recordNow_49 52 rfl (fun x13 => ?_)
        refine s_iload_n C dX2_recordNow_52 53 rfl 3 rfl ?_
        refine s_iconst (v := 1) C dX2_recordNow_53 (by decide) 54 rfl ?_
        refine s_isub C dX2_recordNow_54 55 rfl ?_
        refine s_iald C hR dX2_recordNow_55 56 rfl (fun x14 => ?_)
        refine s_iast C hR hA dX2_recordNow_56 57 rfl ?_
        refine s_iinc C dX2_recordNow_57 (s9 + (-1)) rfl 3 rfl (by decide) 60 rfl [(3, .int (s9 + (-1))), (0, .ref a0), (1, .int x3), (2, .int v5)] rfl ?_
        refine s_goto C dX2_recordNow_60 39 (by decide) ?_
        refine s_r ?_
        refine s_lv [1, 2, 3, 0] rfl ?_
        exact hk10 (s9 + (-1))
  · refine s_if_le C dX2_recordNow_14 34 17 (by decide) rfl ?_ ?_
    · refine s_iconst (v := 0) C dX2_recordNow_34 (by decide) 35 rfl ?_
      refine s_r ?_
      refine s_lv [1, 0] rfl ?_
      exact hK6 0
    · refine s_aload_n C dX2_recordNow_17 18 rfl 1 rfl ?_
      refine s_getR C hR fd_PatchCords_Panel_records (Or.inl q189) dX2_recordNow_18 21 rfl (fun x7 => ?_)
      refine s_iconst (v := 0) C dX2_recordNow_21 (by decide) 22 rfl ?_
      refine s_iald C hR dX2_recordNow_22 23 rfl (fun x8 => ?_)
      refine s_if_ge C dX2_recordNow_23 34 26 (by decide) rfl ?_ ?_
      · refine s_iconst (v := 0) C dX2_recordNow_34 (by decide) 35 rfl ?_
        refine s_r ?_
        refine s_lv [1, 0] rfl ?_
        exact hK6 0
      · refine s_iload_n C dX2_recordNow_26 27 rfl 0 rfl ?_
        refine s_if_lt C dX2_recordNow_27 34 30 (by decide) rfl ?_ ?_
        · refine s_iconst (v := 0) C dX2_recordNow_34 (by decide) 35 rfl ?_
          refine s_r ?_
          refine s_lv [1, 0] rfl ?_
          exact hK6 0
        · refine s_iconst (v := 1) C dX2_recordNow_30 (by decide) 31 rfl ?_
          refine s_goto C dX2_recordNow_31 35 (by decide) ?_
          refine s_r ?_
          refine s_lv [1, 0] rfl ?_
          exact hK6 1
theorem nv_X2_step : yX2_step.cls ≠ "java/lang/invoke/MethodHandle" ∧ yX2_step.cls ≠ "java/lang/invoke/VarHandle" ∧ (parseMethodDescriptor yX2_step.desc).map (fun d => d.parameters.length) = some 0 := by decide +kernel
theorem ct_X2_step {l : Launch} (g : sm_G) (TA : Nat → Prop) (a0 : Nat) : sm_CT l g (so_R g TA) (so_A g TA) yX2_step cX2_step 3 none 7 150 [.ref a0] em_v (f_X2_step g a0) := by
  refine sm_of (own := "PatchCords$Panel") rfl rfl (bl rfl) (fun Y C hR hA hl hm => ?_)
  subst hl
  refine s_lv (L' := [(0, .ref a0)]) [0] rfl ?_
  refine s_top ?_
  unfold f_X2_step
  refine s_iconst (v := 0) C dX2_step_0 (by decide) 1 rfl ?_
  refine s_istore_n C dX2_step_1 rfl (by decide) 2 rfl [(1, .int 0), (0, .ref a0)] rfl ?_
  refine s_lv [1, 0] rfl ?_
  refine s_loop (fun (s1 : Int32) => [(0, .ref a0), (1, .int s1)]) (fun (v12 : Unit) => [(0, .ref a0)]) 44 0 rfl (fun v12 => ?_) (fun _ s1 hk2 hx3 => ?_)
  · refine s_aload_n C dX2_step_44 45 rfl 0 rfl ?_
    refine s_getR C hR fd_PatchCords_Panel_way (Or.inl q191) dX2_step_45 48 rfl (fun x13 => ?_)
    refine s_aload_n C dX2_step_48 49 rfl 0 rfl ?_
    refine s_call_v (rn_W (fun hw => un_U (As := [.ref a0]) C (un_at hR hA (ct_X15_step g TA x13 a0)) (rv_W0 C hw) q740 q742 (va_Decl.abs (C.k.2.1 _ q741 rfl)) (C.w _ q743) q744  q745 ⟨by decide +kernel, by decide +kernel, (show (parseMethodDescriptor "(LPatchCords$Panel;)V").map (fun d => d.parameters.length) = some 1 by decide +kernel)⟩ ⟨by decide, by decide⟩ rfl (bl rfl) dX2_step_49) (fun hw => un_U (As := [.ref a0]) C (un_at hR hA (ct_X16_step g TA x13 a0)) (rv_W1 C hw) q740 q742 (va_Decl.abs (C.k.2.1 _ q741 rfl)) (C.w _ q770) q771  q772 ⟨by decide +kernel, by decide +kernel, (show (parseMethodDescriptor "(LPatchCords$Panel;)V").map (fun d => d.parameters.length) = some 1 by decide +kernel)⟩ ⟨by decide, by decide⟩ rfl (bl rfl) dX2_step_49)) 52 rfl ?_
    refine s_aload_n C dX2_step_52 53 rfl 0 rfl ?_
    refine s_dup C dX2_step_53 rfl 54 rfl ?_
    refine s_getI C hR fd_PatchCords_Panel_steps (Or.inl q197) dX2_step_54 57 rfl (fun x15 => ?_)
    refine s_iconst (v := 1) C dX2_step_57 (by decide) 58 rfl ?_
    refine s_iadd C dX2_step_58 59 rfl ?_
    refine s_put C hR hA fd_PatchCords_Panel_steps (Or.inl q197) dX2_step_59 rfl rfl 62 rfl ?_
    refine s_aload_n C dX2_step_62 63 rfl 0 rfl ?_
    refine s_call_v (rn_V (As := []) C (ct_at hR hA (ct_on (ct_X2_tellOutputs g TA a0))) (rv_on C hR (q := vw_1) rfl) (lw_V q597 q599 qs6 q102 q600) ⟨rfl, nv_X2_tellOutputs⟩ ⟨by decide, by decide⟩ rfl (bl rfl) dX2_step_63) 66 rfl ?_
    refine s_iconst (v := 0) C dX2_step_66 (by decide) 67 rfl ?_
    refine s_istore_n C dX2_step_67 rfl (by decide) 68 rfl [(1, .int 0), (0, .ref a0)] rfl ?_
    refine s_lv [1, 0] rfl ?_
    refine s_loop (fun (s17 : Int32) => [(0, .ref a0), (1, .int s17)]) (fun (v26 : Unit) => [(0, .ref a0)]) 110 0 rfl (fun v26 => ?_) (fun _ s17 hk18 hx19 => ?_)
    · refine s_aload_n C dX2_step_110 111 rfl 0 rfl ?_
      refine s_getI C hR fd_PatchCords_Panel_recorded (Or.inl q199) dX2_step_111 114 rfl (fun x27 => ?_)
      refine s_iconst (v := (-1)) C dX2_step_114 (by decide) 115 rfl ?_
      refine s_cut (J := 122) (LJ := (fun (v28 : Unit) => [(0, .ref a0)])) (SJ := (fun (v28 : Unit) => [])) (fun v28 => ?_) (fun _ _ hK29 => ?_)
      · refine s_aload_n C dX2_step_122 123 rfl 0 rfl ?_
        refine s_getI C hR fd_PatchCords_Panel_guarded (Or.inl q193) dX2_step_123 126 rfl (fun x31 => ?_)
        refine s_cut (J := 141) (LJ := (fun (v32 : Unit) => [])) (SJ := (fun (v32 : Unit) => [])) (fun v32 => ?_) (fun _ _ hK33 => ?_)
        · exact s_vret C rfl dX2_step_141
        · refine s_if_eq C dX2_step_126 141 129 (by decide) rfl ?_ ?_
          · refine s_r ?_
            refine s_lv [] rfl ?_
            exact hK33 ()
          · refine s_aload_n C dX2_step_129 130 rfl 0 rfl ?_
            refine s_call_i (rn_V (As := []) C (ct_at hR hA (ct_on (ct_X2_overloaded g TA a0))) (rv_on C hR (q := vw_1) rfl) (lw_V q734 q594 q595 q102 q596) ⟨rfl, nv_X2_overloaded⟩ ⟨by decide, by decide⟩ rfl (bl rfl) dX2_step_130) 133 rfl (fun x34 => ?_)
            refine s_if_eq C dX2_step_133 141 136 (by decide) rfl ?_ ?_
            · refine s_r ?_
              refine s_lv [] rfl ?_
              exact hK33 ()
            · refine s_aload_n C dX2_step_136 137 rfl 0 rfl ?_
              refine s_iconst (v := 2) C dX2_step_137 (by decide) 138 rfl ?_
              refine s_put C hR hA fd_PatchCords_Panel_mode (Or.inl q195) dX2_step_138 rfl rfl 141 rfl ?_
              refine s_r ?_
              refine s_lv [] rfl ?_
              exact hK33 ()
      · refine s_icmp_eq C dX2_step_115 122 118 (by decide) rfl ?_ ?_
        · refine s_r ?_
          refine s_lv [0] rfl ?_
          exact hK29 ()
        · refine s_aload_n C dX2_step_118 119 rfl 0 rfl ?_
          refine s_call_v (rn_V (As := []) C (ct_at hR hA (ct_on (ct_X2_recordNow g TA a0))) (rv_on C hR (q := vw_1) rfl) (lw_V q777 q779 qs12 q102 q780) ⟨rfl, nv_X2_recordNow⟩ ⟨by decide, by decide⟩ rfl (bl rfl) dX2_step_119) 122 rfl ?_
          refine s_r ?_
          refine s_lv [0] rfl ?_
          exact hK29 ()
    · refine s_iload_n C dX2_step_68 69 rfl 1 rfl ?_
      refine s_aload_n C dX2_step_69 70 rfl 0 rfl ?_
      refine s_call_i (rn_V (As := []) C (ct_at hR hA (ct_on (ct_X2_size g TA a0))) (rv_on C hR (q := vw_1) rfl) (lw_V q561 q526 q527 q102 q528) ⟨rfl, nv_X2_size⟩ ⟨by decide, by decide⟩ rfl (bl rfl) dX2_step_70) 73 rfl (fun x20 => ?_)
      refine s_icmp_ge C dX2_step_73 110 76 (by decide) rfl ?_ ?_
      · refine s_r ?_
        refine s_lv [0] rfl ?_
        exact hx19 ()
      · refine s_aload_n C dX2_step_76 77 rfl 0 rfl ?_
        refine s_iload_n C dX2_step_77 78 rfl 1 rfl ?_
        refine s_call_r (rn_V (As := [.int s17]) C (ct_at hR hA (ct_on (ct_X2_part g TA a0 s17))) (rv_on C hR (q := vw_1) rfl) (lw_V q562 q563 q564 q102 q565) ⟨rfl, nv_X2_part⟩ ⟨by decide, by decide⟩ rfl (bl rfl) dX2_step_78) 81 rfl (fun x21 => ?_)
        refine s_aload_n C dX2_step_81 82 rfl 0 rfl ?_
        refine s_iload_n C dX2_step_82 83 rfl 1 rfl ?_
        refine s_call_r (rn_V (As := [.int s17]) C (ct_at hR hA (ct_on (ct_X2_part g TA a0 s17))) (rv_on C hR (q := vw_1) rfl) (lw_V q562 q563 q564 q102 q565) ⟨rfl, nv_X2_part⟩ ⟨by decide, by decide⟩ rfl (bl rfl) dX2_step_83) 86 rfl (fun x22 => ?_)
        refine s_getI C hR fd_PatchCords_Part_peak (Or.inr (Or.inl ⟨_, q344⟩)) dX2_step_86 89 rfl (fun x23 => ?_)
        refine s_aload_n C dX2_step_89 90 rfl 0 rfl ?_
        refine s_getR C hR fd_PatchCords_Panel_outputs (Or.inl q185) dX2_step_90 93 rfl (fun x24 => ?_)
        refine s_iload_n C dX2_step_93 94 rfl 1 rfl ?_
        refine s_iald C hR dX2_step_94 95 rfl (fun x25 => ?_)
        refine s_abs C q775 q654 q129 q655 (by decide) (bl rfl) dX2_step_95 98 rfl ?_
        refine s_max C q776 q473 q129 q474 (by decide) (bl rfl) dX2_step_98 101 rfl ?_
        refine s_put C hR hA fd_PatchCords_Part_peak (Or.inr (Or.inl ⟨_, q344⟩)) dX2_step_101 rfl rfl 104 rfl ?_
        refine s_iinc C dX2_step_104 (s17 + 1) rfl 1 rfl (by decide) 107 rfl [(1, .int (s17 + 1)), (0, .ref a0)] rfl ?_
        refine s_goto C dX2_step_107 68 (by decide) ?_
        refine s_r ?_
        refine s_lv [1, 0] rfl ?_
        exact hk18 (s17 + 1)
  · refine s_iload_n C dX2_step_2 3 rfl 1 rfl ?_
    refine s_aload_n C dX2_step_3 4 rfl 0 rfl ?_
    refine s_call_i (rn_V (As := []) C (ct_at hR hA (ct_on (ct_X2_size g TA a0))) (rv_on C hR (q := vw_1) rfl) (lw_V q561 q526 q527 q102 q528) ⟨rfl, nv_X2_size⟩ ⟨by decide, by decide⟩ rfl (bl rfl) dX2_step_4) 7 rfl (fun x4 => ?_)
    refine s_icmp_ge C dX2_step_7 44 10 (by decide) rfl ?_ ?_
    · refine s_r ?_
      refine s_lv [0] rfl ?_
      exact hx3 ()
    · refine s_aload_n C dX2_step_10 11 rfl 0 rfl ?_
      refine s_iload_n C dX2_step_11 12 rfl 1 rfl ?_
      refine s_call_r (rn_V (As := [.int s1]) C (ct_at hR hA (ct_on (ct_X2_part g TA a0 s1))) (rv_on C hR (q := vw_1) rfl) (lw_V q562 q563 q564 q102 q565) ⟨rfl, nv_X2_part⟩ ⟨by decide, by decide⟩ rfl (bl rfl) dX2_step_12) 15 rfl (fun x5 => ?_)
      refine s_inst C hR q739 io_Integrator dX2_step_15 18 rfl (fun x6 => ?_)
      refine s_cut (J := 38) (LJ := (fun (v7 : Unit) => [(0, .ref a0), (1, .int s1)])) (SJ := (fun (v7 : Unit) => [])) (fun v7 => ?_) (fun _ _ hK8 => ?_)
      · refine s_iinc C dX2_step_38 (s1 + 1) rfl 1 rfl (by decide) 41 rfl [(1, .int (s1 + 1)), (0, .ref a0)] rfl ?_
        refine s_goto C dX2_step_41 2 (by decide) ?_
        refine s_r ?_
        refine s_lv [1, 0] rfl ?_
        exact hk2 (s1 + 1)
      · refine s_if_eq C dX2_step_18 38 21 (by decide) rfl ?_ ?_
        · refine s_r ?_
          refine s_lv [0, 1] rfl ?_
          exact hK8 ()
        · refine s_aload_n C dX2_step_21 22 rfl 0 rfl ?_
          refine s_iload_n C dX2_step_22 23 rfl 1 rfl ?_
          refine s_call_r (rn_V (As := [.int s1]) C (ct_at hR hA (ct_on (ct_X2_part g TA a0 s1))) (rv_on C hR (q := vw_1) rfl) (lw_V q562 q563 q564 q102 q565) ⟨rfl, nv_X2_part⟩ ⟨by decide, by decide⟩ rfl (bl rfl) dX2_step_23) 26 rfl (fun x9 => ?_)
          refine s_cast C hR q739 ca_PatchCords_Integrator dX2_step_26 (some x9) 29 rfl (fun x10 _ => ?_)
          refine s_astore_n C dX2_step_29 rfl (by decide) 30 rfl [(2, .ref x10), (0, .ref a0), (1, .int s1)] rfl ?_
          refine s_aload_n C dX2_step_30 31 rfl 0 rfl ?_
          refine s_aload_n C dX2_step_31 32 rfl 0 rfl ?_
          refine s_getI C hR fd_PatchCords_Integrator_charge (Or.inr (Or.inl ⟨_, q368⟩)) dX2_step_32 35 rfl (fun x11 => ?_)
          refine s_put C hR hA fd_PatchCords_Integrator_before (Or.inr (Or.inl ⟨_, q371⟩)) dX2_step_35 rfl rfl 38 rfl ?_
          refine s_r ?_
          refine s_lv [1, 2] rfl ?_
          exact hK8 ()
theorem nv_X2_untilOverload : yX2_untilOverload.cls ≠ "java/lang/invoke/MethodHandle" ∧ yX2_untilOverload.cls ≠ "java/lang/invoke/VarHandle" ∧ (parseMethodDescriptor yX2_untilOverload.desc).map (fun d => d.parameters.length) = some 0 := by decide +kernel
theorem ct_X2_untilOverload {l : Launch} (g : sm_G) (TA : Nat → Prop) (a0 : Nat) : sm_CT l g (so_R g TA) (so_A g TA) yX2_untilOverload cX2_untilOverload 3 (some .int) 9 203 [.ref a0] em_i (f_X2_untilOverload g a0) := by
  refine sm_of (own := "PatchCords$Panel") rfl rfl (bl rfl) (fun Y C hR hA hl hm => ?_)
  subst hl
  refine s_lv (L' := [(0, .ref a0)]) [0] rfl ?_
  refine s_top ?_
  unfold f_X2_untilOverload
  refine s_aload_n C dX2_untilOverload_0 1 rfl 0 rfl ?_
  refine s_call_r (rn_V (As := []) C (ct_at hR hA (ct_on (ct_X2_running g TA a0))) (rv_on C hR (q := vw_1) rfl) (lw_V q729 q731 qs8 q102 q732) ⟨rfl, nv_X2_running⟩ ⟨by decide, by decide⟩ rfl (bl rfl) dX2_untilOverload_1) 4 rfl (fun x1 => ?_)
  refine s_astore_n C dX2_untilOverload_4 rfl (by decide) 5 rfl [(1, .ref x1), (0, .ref a0)] rfl ?_
  refine s_iconst (v := 0) C dX2_untilOverload_5 (by decide) 6 rfl ?_
  refine s_istore_n C dX2_untilOverload_6 rfl (by decide) 7 rfl [(2, .int 0), (1, .ref x1), (0, .ref a0)] rfl ?_
  refine s_lv [1, 0] rfl ?_
  refine s_loop2 (fun (s2 : Int32) => [(1, .ref x1), (2, .int s2)]) (fun (v7 : Unit) => []) (fun (v8 : Int32) => [(2, .int v8)]) 33 21 0 rfl (fun v7 => ?_) (fun v8 => ?_) (fun _ s2 hk3 hx40 hx41 => ?_)
  · refine s_iconst (v := (-1)) C dX2_untilOverload_33 (by decide) 34 rfl ?_
    exact s_iret C rfl rfl dX2_untilOverload_34
  · refine s_iload_n C dX2_untilOverload_21 22 rfl 0 rfl ?_
    exact s_iret C rfl rfl dX2_untilOverload_22
  · refine s_iload_n C dX2_untilOverload_7 8 rfl 1 rfl ?_
    refine s_sipush (v := 200) C dX2_untilOverload_8 (by decide) 11 rfl ?_
    refine s_icmp_gt C dX2_untilOverload_11 33 14 (by decide) rfl ?_ ?_
    · refine s_r ?_
      refine s_lv [] rfl ?_
      exact hx40 ()
    · refine s_aload_n C dX2_untilOverload_14 15 rfl 0 rfl ?_
      refine s_call_i (rn_V (As := []) C (ct_at hR hA (ct_on (ct_X2_overloaded g TA x1))) (rv_on C hR (q := vw_1) rfl) (lw_V q734 q594 q595 q102 q596) ⟨rfl, nv_X2_overloaded⟩ ⟨by decide, by decide⟩ rfl (bl rfl) dX2_untilOverload_15) 18 rfl (fun x5 => ?_)
      refine s_if_eq C dX2_untilOverload_18 23 21 (by decide) rfl ?_ ?_
      · refine s_aload_n C dX2_untilOverload_23 24 rfl 0 rfl ?_
        refine s_call_v (rn_V (As := []) C (ct_at hR hA (ct_on (ct_X2_step g TA x1))) (rv_on C hR (q := vw_1) rfl) (lw_V q735 q737 qs9 q102 q738) ⟨rfl, nv_X2_step⟩ ⟨by decide, by decide⟩ rfl (bl rfl) dX2_untilOverload_24) 27 rfl ?_
        refine s_iinc C dX2_untilOverload_27 (s2 + 1) rfl 1 rfl (by decide) 30 rfl [(2, .int (s2 + 1)), (1, .ref x1)] rfl ?_
        refine s_goto C dX2_untilOverload_30 7 (by decide) ?_
        refine s_r ?_
        refine s_lv [1, 0] rfl ?_
        exact hk3 (s2 + 1)
      · refine s_r ?_
        refine s_lv [1] rfl ?_
        exact hx41 s2
theorem nv_X1_stepsUntilOverload : yX1_stepsUntilOverload.cls ≠ "java/lang/invoke/MethodHandle" ∧ yX1_stepsUntilOverload.cls ≠ "java/lang/invoke/VarHandle" ∧ (parseMethodDescriptor yX1_stepsUntilOverload.desc).map (fun d => d.parameters.length) = some 0 := by decide +kernel
theorem ct_X1_stepsUntilOverload {l : Launch} (g : sm_G) (TA : Nat → Prop) (a0 : Nat) : sm_CT l g (so_R g TA) (so_A g TA) yX1_stepsUntilOverload cX1_stepsUntilOverload 1 (some .int) 10 225 [.ref a0] em_i (f_X1_stepsUntilOverload g a0) := by
  refine sm_of (own := "PatchCords") rfl rfl (bl rfl) (fun Y C hR hA hl hm => ?_)
  subst hl
  refine s_lv (L' := [(0, .ref a0)]) [0] rfl ?_
  refine s_top ?_
  unfold f_X1_stepsUntilOverload
  refine s_aload_n C dX1_stepsUntilOverload_0 1 rfl 0 rfl ?_
  refine s_getR C hR fd_PatchCords_panel (Or.inl q273) dX1_stepsUntilOverload_1 4 rfl (fun x1 => ?_)
  refine s_call_i (rn_V (As := []) C (ct_at hR hA (ct_on (ct_X2_untilOverload g TA x1))) (rv_on C hR (q := vw_1) rfl) (lw_V q725 q726 q727 q102 q728) ⟨rfl, nv_X2_untilOverload⟩ ⟨by decide, by decide⟩ rfl (bl rfl) dX1_stepsUntilOverload_4) 7 rfl (fun x2 => ?_)
  exact s_iret C rfl rfl dX1_stepsUntilOverload_7
theorem nv_J4_length : yJ4_length.cls ≠ "java/lang/invoke/MethodHandle" ∧ yJ4_length.cls ≠ "java/lang/invoke/VarHandle" ∧ (parseMethodDescriptor yJ4_length.desc).map (fun d => d.parameters.length) = some 0 := by decide +kernel
theorem ct_J4_length {l : Launch} (g : sm_G) (TA : Nat → Prop) (a0 : Nat) : sm_CT l g (so_R g TA) (so_A g TA) yJ4_length cJ4_length 1 (some .int) 0 0 [.ref a0] em_i (f_J4_length g a0) := by
  refine sm_of (own := "java/lang/AbstractStringBuilder") rfl rfl (bl rfl) (fun Y C hR hA hl hm => ?_)
  subst hl
  refine s_lv (L' := [(0, .ref a0)]) [0] rfl ?_
  refine s_top ?_
  unfold f_J4_length
  refine s_aload_n C dJ4_length_0 1 rfl 0 rfl ?_
  refine s_getI C hR fd_AbstractStringBuilder_count (Or.inl q262) dJ4_length_1 4 rfl (fun x1 => ?_)
  exact s_iret C rfl rfl dJ4_length_4
theorem nv_J5_length : yJ5_length.cls ≠ "java/lang/invoke/MethodHandle" ∧ yJ5_length.cls ≠ "java/lang/invoke/VarHandle" ∧ (parseMethodDescriptor yJ5_length.desc).map (fun d => d.parameters.length) = some 0 := by decide +kernel
theorem ct_J5_length {l : Launch} (g : sm_G) (TA : Nat → Prop) (a0 : Nat) : sm_CT l g (so_R g TA) (so_A g TA) yJ5_length cJ5_length 1 (some .int) 1 20 [.ref a0] em_i (f_J5_length g a0) := by
  refine sm_of (own := "java/lang/StringBuilder") rfl rfl (bl rfl) (fun Y C hR hA hl hm => ?_)
  subst hl
  refine s_lv (L' := [(0, .ref a0)]) [0] rfl ?_
  refine s_top ?_
  unfold f_J5_length
  refine s_aload_n C dJ5_length_0 1 rfl 0 rfl ?_
  refine s_call_i (rn_SU (As := []) C ⟨_, (C.k.1.1 11 vw_11 rfl).2⟩ (ct_at hR hA (ct_on (ct_J4_length g TA a0))) (rv_on C hR (q := vw_11) rfl) (lw_SU q790 q2374 q271 q791 q108 q792) ⟨by decide +kernel, (show (parseMethodDescriptor "()I").map (fun d => d.parameters.length) = some 0 by decide +kernel)⟩ ⟨by decide, by decide⟩ rfl (bl rfl) dJ5_length_1) 4 rfl (fun x1 => ?_)
  exact s_iret C rfl rfl dJ5_length_4
theorem nv_J4_ensureCapacityInternal : yJ4_ensureCapacityInternal.cls ≠ "java/lang/invoke/MethodHandle" ∧ yJ4_ensureCapacityInternal.cls ≠ "java/lang/invoke/VarHandle" ∧ (parseMethodDescriptor yJ4_ensureCapacityInternal.desc).map (fun d => d.parameters.length) = some 1 := by decide +kernel
theorem ct_J4_ensureCapacityInternal {l : Launch} (g : sm_G) (TA : Nat → Prop) (a0 : Nat) (p0 : Int32) : sm_CT l g (so_R g TA) (so_A g TA) yJ4_ensureCapacityInternal cJ4_ensureCapacityInternal 3 none 0 0 [.ref a0, .int p0] em_v (f_J4_ensureCapacityInternal g a0 p0) := by
  refine sm_of (own := "java/lang/AbstractStringBuilder") rfl rfl (bl rfl) (fun Y C hR hA hl hm => ?_)
  subst hl
  refine s_lv (L' := [(0, .ref a0), (1, .int p0)]) [0, 1] rfl ?_
  refine s_top ?_
  unfold f_J4_ensureCapacityInternal
  refine s_aload_n C dJ4_ensureCapacityInternal_0 1 rfl 0 rfl ?_
  refine s_getR C hR fd_AbstractStringBuilder_value (Or.inl q258) dJ4_ensureCapacityInternal_1 4 rfl (fun x1 => ?_)
  refine s_alen C hR dJ4_ensureCapacityInternal_4 5 rfl (fun x2 => ?_)
  refine s_aload_n C dJ4_ensureCapacityInternal_5 6 rfl 0 rfl ?_
  refine s_getI C hR fd_AbstractStringBuilder_coder (Or.inl q259) dJ4_ensureCapacityInternal_6 9 rfl (fun x3 => ?_)
  refine s_ishr C dJ4_ensureCapacityInternal_9 10 rfl ?_
  refine s_topi (fun x4 => ?_)
  refine s_istore_n C dJ4_ensureCapacityInternal_10 rfl (by decide) 11 rfl [(2, .int x4), (0, .ref a0), (1, .int p0)] rfl ?_
  refine s_iload_n C dJ4_ensureCapacityInternal_11 12 rfl 2 rfl ?_
  refine s_iload_n C dJ4_ensureCapacityInternal_12 13 rfl 0 rfl ?_
  refine s_isub C dJ4_ensureCapacityInternal_13 14 rfl ?_
  refine s_cut (J := 38) (LJ := (fun (v5 : Unit) => [])) (SJ := (fun (v5 : Unit) => [])) (fun v5 => ?_) (fun _ _ hK6 => ?_)
  · exact s_vret C rfl dJ4_ensureCapacityInternal_38
  · refine s_if_le C dJ4_ensureCapacityInternal_14 38 17 (by decide) rfl ?_ ?_
    · refine s_r ?_
      refine s_lv [] rfl ?_
      exact hK6 ()
    · exact s_none1
theorem nv_J4_setLength : yJ4_setLength.cls ≠ "java/lang/invoke/MethodHandle" ∧ yJ4_setLength.cls ≠ "java/lang/invoke/VarHandle" ∧ (parseMethodDescriptor yJ4_setLength.desc).map (fun d => d.parameters.length) = some 1 := by decide +kernel
theorem ct_J4_setLength {l : Launch} (g : sm_G) (TA : Nat → Prop) (a0 : Nat) (p0 : Int32) : sm_CT l g (so_R g TA) (so_A g TA) yJ4_setLength cJ4_setLength 2 none 1 22 [.ref a0, .int p0] em_v (f_J4_setLength g a0 p0) := by
  refine sm_of (own := "java/lang/AbstractStringBuilder") rfl rfl (bl rfl) (fun Y C hR hA hl hm => ?_)
  subst hl
  refine s_lv (L' := [(0, .ref a0), (1, .int p0)]) [0, 1] rfl ?_
  refine s_top ?_
  unfold f_J4_setLength
  refine s_iload_n C dJ4_setLength_0 1 rfl 1 rfl ?_
  refine s_cut (J := 13) (LJ := (fun (v1 : Unit) => [(0, .ref a0), (1, .int p0)])) (SJ := (fun (v1 : Unit) => [])) (fun v1 => ?_) (fun _ _ hK2 => ?_)
  · refine s_aload_n C dJ4_setLength_13 14 rfl 0 rfl ?_
    refine s_iload_n C dJ4_setLength_14 15 rfl 1 rfl ?_
    refine s_call_v (rn_U (As := [.int p0]) C (ct_at hR hA (ct_on (ct_J4_ensureCapacityInternal g TA a0 p0))) (rv_on C hR (q := vw_11) rfl) q821 q2378 (va_Decl.of (C.w _ q823) (C.w _ q824)) (va_Nw.use rfl (C.k.2.2.2.2.2.2.2.2.2.2.2.2.2.2.2.2.2.2.2 _ List.mem_cons_self)) q823 q108 q824 ⟨by decide +kernel, by decide +kernel, (show (parseMethodDescriptor "(I)V").map (fun d => d.parameters.length) = some 1 by decide +kernel)⟩ ⟨by decide, by decide⟩ rfl (bl rfl) dJ4_setLength_15) 18 rfl ?_
    refine s_aload_n C dJ4_setLength_18 19 rfl 0 rfl ?_
    refine s_getI C hR fd_AbstractStringBuilder_count (Or.inl q262) dJ4_setLength_19 22 rfl (fun x4 => ?_)
    refine s_iload_n C dJ4_setLength_22 23 rfl 1 rfl ?_
    refine s_cut (J := 63) (LJ := (fun (v5 : Unit) => [(0, .ref a0), (1, .int p0)])) (SJ := (fun (v5 : Unit) => [])) (fun v5 => ?_) (fun _ _ hK6 => ?_)
    · refine s_aload_n C dJ4_setLength_63 64 rfl 0 rfl ?_
      refine s_getI C hR fd_AbstractStringBuilder_count (Or.inl q262) dJ4_setLength_64 67 rfl (fun x7 => ?_)
      refine s_iload_n C dJ4_setLength_67 68 rfl 1 rfl ?_
      refine s_cut (J := 76) (LJ := (fun (v8 : Unit) => [(0, .ref a0), (1, .int p0)])) (SJ := (fun (v8 : Unit) => [])) (fun v8 => ?_) (fun _ _ hK9 => ?_)
      · refine s_aload_n C dJ4_setLength_76 77 rfl 0 rfl ?_
        refine s_iload_n C dJ4_setLength_77 78 rfl 1 rfl ?_
        refine s_put C hR hA fd_AbstractStringBuilder_count (Or.inl q262) dJ4_setLength_78 rfl rfl 81 rfl ?_
        exact s_vret C rfl dJ4_setLength_81
      · refine s_icmp_le C dJ4_setLength_68 76 71 (by decide) rfl ?_ ?_
        · refine s_r ?_
          refine s_lv [0, 1] rfl ?_
          exact hK9 ()
        · refine s_aload_n C dJ4_setLength_71 72 rfl 0 rfl ?_
          refine s_iconst (v := 1) C dJ4_setLength_72 (by decide) 73 rfl ?_
          refine s_put C hR hA fd_AbstractStringBuilder_maybeLatin1 (Or.inl q260) dJ4_setLength_73 rfl rfl 76 rfl ?_
          refine s_r ?_
          refine s_lv [0, 1] rfl ?_
          exact hK9 ()
    · refine s_icmp_ge C dJ4_setLength_23 63 26 (by decide) rfl ?_ ?_
      · refine s_r ?_
        refine s_lv [0, 1] rfl ?_
        exact hK6 ()
      · exact s_none1
  · refine s_if_ge C dJ4_setLength_1 13 4 (by decide) rfl ?_ ?_
    · refine s_r ?_
      refine s_lv [0, 1] rfl ?_
      exact hK2 ()
    · exact s_none1
theorem nv_J5_setLength : yJ5_setLength.cls ≠ "java/lang/invoke/MethodHandle" ∧ yJ5_setLength.cls ≠ "java/lang/invoke/VarHandle" ∧ (parseMethodDescriptor yJ5_setLength.desc).map (fun d => d.parameters.length) = some 1 := by decide +kernel
theorem ct_J5_setLength {l : Launch} (g : sm_G) (TA : Nat → Prop) (a0 : Nat) (p0 : Int32) : sm_CT l g (so_R g TA) (so_A g TA) yJ5_setLength cJ5_setLength 2 none 2 43 [.ref a0, .int p0] em_v (f_J5_setLength g a0 p0) := by
  refine sm_of (own := "java/lang/StringBuilder") rfl rfl (bl rfl) (fun Y C hR hA hl hm => ?_)
  subst hl
  refine s_lv (L' := [(0, .ref a0), (1, .int p0)]) [0, 1] rfl ?_
  refine s_top ?_
  unfold f_J5_setLength
  refine s_aload_n C dJ5_setLength_0 1 rfl 0 rfl ?_
  refine s_iload_n C dJ5_setLength_1 2 rfl 1 rfl ?_
  refine s_call_v (rn_SU (As := [.int p0]) C ⟨_, (C.k.1.1 11 vw_11 rfl).2⟩ (ct_at hR hA (ct_on (ct_J4_setLength g TA a0 p0))) (rv_on C hR (q := vw_11) rfl) (lw_SU q797 q2375 q271 q798 q108 q799) ⟨by decide +kernel, (show (parseMethodDescriptor "(I)V").map (fun d => d.parameters.length) = some 1 by decide +kernel)⟩ ⟨by decide, by decide⟩ rfl (bl rfl) dJ5_setLength_2) 5 rfl ?_
  exact s_vret C rfl dJ5_setLength_5
theorem nv_X1_clearText : yX1_clearText.cls ≠ "java/lang/invoke/MethodHandle" ∧ yX1_clearText.cls ≠ "java/lang/invoke/VarHandle" ∧ (parseMethodDescriptor yX1_clearText.desc).map (fun d => d.parameters.length) = some 0 := by decide +kernel
theorem ct_X1_clearText {l : Launch} (g : sm_G) (TA : Nat → Prop) (a0 : Nat) : sm_CT l g (so_R g TA) (so_A g TA) yX1_clearText cX1_clearText 2 (some .int) 3 64 [.ref a0] em_i (f_X1_clearText g a0) := by
  refine sm_of (own := "PatchCords") rfl rfl (bl rfl) (fun Y C hR hA hl hm => ?_)
  subst hl
  refine s_lv (L' := [(0, .ref a0)]) [0] rfl ?_
  refine s_top ?_
  unfold f_X1_clearText
  refine s_aload_n C dX1_clearText_0 1 rfl 0 rfl ?_
  refine s_getR C hR fd_PatchCords_text (Or.inl q276) dX1_clearText_1 4 rfl (fun x1 => ?_)
  refine s_call_i (rn_V (As := []) C (ct_at hR hA (ct_on (ct_J5_length g TA x1))) (rv_on C hR (q := vw_11) rfl) (lw_V q786 q787 q788 q109 q789) ⟨rfl, nv_J5_length⟩ ⟨by decide, by decide⟩ rfl (bl rfl) dX1_clearText_4) 7 rfl (fun x2 => ?_)
  refine s_istore_n C dX1_clearText_7 rfl (by decide) 8 rfl [(1, .int x2), (0, .ref a0)] rfl ?_
  refine s_aload_n C dX1_clearText_8 9 rfl 1 rfl ?_
  refine s_getR C hR fd_PatchCords_text (Or.inl q276) dX1_clearText_9 12 rfl (fun x3 => ?_)
  refine s_iconst (v := 0) C dX1_clearText_12 (by decide) 13 rfl ?_
  refine s_call_v (rn_V (As := [.int 0]) C (ct_at hR hA (ct_on (ct_J5_setLength g TA x3 0))) (rv_on C hR (q := vw_11) rfl) (lw_V q793 q794 q795 q109 q796) ⟨rfl, nv_J5_setLength⟩ ⟨by decide, by decide⟩ rfl (bl rfl) dX1_clearText_13) 16 rfl ?_
  refine s_iload_n C dX1_clearText_16 17 rfl 0 rfl ?_
  exact s_iret C rfl rfl dX1_clearText_17
theorem nv_X13_init : yX13_init.cls ≠ "java/lang/invoke/MethodHandle" ∧ yX13_init.cls ≠ "java/lang/invoke/VarHandle" ∧ (parseMethodDescriptor yX13_init.desc).map (fun d => d.parameters.length) = some 1 := by decide +kernel
theorem ct_X13_init {l : Launch} (g : sm_G) (TA : Nat → Prop) (a0 : Nat) (p0 : Nat) : sm_CT l g (so_R g TA) (so_A g TA) yX13_init cX13_init 2 none 4 72 [.ref a0, .ref p0] em_v (f_X13_init g a0 p0) := by
  refine sm_of (own := "PatchCords$Reader") rfl rfl (bl rfl) (fun Y C hR hA hl hm => ?_)
  subst hl
  refine s_lv (L' := [(0, .ref a0), (1, .ref p0)]) [0, 1] rfl ?_
  refine s_top ?_
  unfold f_X13_init
  refine s_aload_n C dX13_init_0 1 rfl 0 rfl ?_
  refine s_objInit C q1126 q147 q148 (by decide) (bl rfl) dX13_init_1 4 rfl ?_
  refine s_aload_n C dX13_init_4 5 rfl 0 rfl ?_
  refine s_new C hR cd_10 rfl df_10 q1127 q156 q105 dX13_init_5 8 rfl (fun x1 => ?_)
  refine s_dup C dX13_init_8 rfl 9 rfl ?_
  refine s_call_v (rn_I (As := []) C (ct_at hR hA (ct_J2_init g TA x1)) q1128 q158 q105 q159 rfl nv_J2_init ⟨by decide, by decide⟩ rfl (bl rfl) dX13_init_9) 12 rfl ?_
  refine s_putF C hR hA fd_PatchCords_Reader_items q1130 dX13_init_12 hm rfl rfl 15 rfl ?_
  refine s_aload_n C dX13_init_15 16 rfl 0 rfl ?_
  refine s_aload_n C dX13_init_16 17 rfl 1 rfl ?_
  refine s_putF C hR hA fd_PatchCords_Reader_source q1129 dX13_init_17 hm rfl rfl 20 rfl ?_
  exact s_vret C rfl dX13_init_20
theorem nv_J6_checkIndex : yJ6_checkIndex.cls ≠ "java/lang/invoke/MethodHandle" ∧ yJ6_checkIndex.cls ≠ "java/lang/invoke/VarHandle" ∧ (parseMethodDescriptor yJ6_checkIndex.desc).map (fun d => d.parameters.length) = some 2 := by decide +kernel
theorem ct_J6_checkIndex {l : Launch} (g : sm_G) (TA : Nat → Prop) (p0 : Int32) (p1 : Int32) : sm_CT l g (so_R g TA) (so_A g TA) yJ6_checkIndex cJ6_checkIndex 2 none 1 22 [.int p0, .int p1] em_v (f_J6_checkIndex g p0 p1) := by
  refine sm_of (own := "java/lang/String") rfl rfl (bl rfl) (fun Y C hR hA hl hm => ?_)
  subst hl
  refine s_lv (L' := [(0, .int p0), (1, .int p1)]) [0, 1] rfl ?_
  refine s_top ?_
  unfold f_J6_checkIndex
  refine s_iload_n C dJ6_checkIndex_0 1 rfl 0 rfl ?_
  refine s_iload_n C dJ6_checkIndex_1 2 rfl 1 rfl ?_
  refine s_gets C C.k.2.2.2.2.2.2.2.2.2.2.2.2.2.2.2.2.2.1 q858 dJ6_checkIndex_2 5 rfl ?_
  refine s_call_i (rn_S (As := [.int p0, .int p1, va_rf (sa_io g)]) C (ct_at hR hA (ct_J14_checkIndex g TA p0 p1 (sa_io g))) (lw_S q1167 q308 q119 q309) nv_J14_checkIndex ⟨by decide, by decide⟩ rfl (bl rfl) dJ6_checkIndex_5) 8 rfl (fun x1 => ?_)
  refine s_pop C dJ6_checkIndex_8 rfl 9 rfl ?_
  exact s_vret C rfl dJ6_checkIndex_9
theorem nv_J4_charAt : yJ4_charAt.cls ≠ "java/lang/invoke/MethodHandle" ∧ yJ4_charAt.cls ≠ "java/lang/invoke/VarHandle" ∧ (parseMethodDescriptor yJ4_charAt.desc).map (fun d => d.parameters.length) = some 1 := by decide +kernel
theorem ct_J4_charAt {l : Launch} (g : sm_G) (TA : Nat → Prop) (a0 : Nat) (p0 : Int32) : sm_CT l g (so_R g TA) (so_A g TA) yJ4_charAt cJ4_charAt 5 (some .char) 2 43 [.ref a0, .int p0] em_i (f_J4_charAt g a0 p0) := by
  refine sm_of (own := "java/lang/AbstractStringBuilder") rfl rfl (bl rfl) (fun Y C hR hA hl hm => ?_)
  subst hl
  refine s_lv (L' := [(0, .ref a0), (1, .int p0)]) [0, 1] rfl ?_
  refine s_top ?_
  unfold f_J4_charAt
  refine s_aload_n C dJ4_charAt_0 1 rfl 0 rfl ?_
  refine s_getI C hR fd_AbstractStringBuilder_coder (Or.inl q259) dJ4_charAt_1 4 rfl (fun x1 => ?_)
  refine s_istore_n C dJ4_charAt_4 rfl (by decide) 5 rfl [(2, .int x1), (0, .ref a0), (1, .int p0)] rfl ?_
  refine s_aload_n C dJ4_charAt_5 6 rfl 1 rfl ?_
  refine s_getR C hR fd_AbstractStringBuilder_value (Or.inl q258) dJ4_charAt_6 9 rfl (fun x2 => ?_)
  refine s_astore_n C dJ4_charAt_9 rfl (by decide) 10 rfl [(3, .ref x2), (2, .int x1), (0, .ref a0), (1, .int p0)] rfl ?_
  refine s_aload_n C dJ4_charAt_10 11 rfl 2 rfl ?_
  refine s_getI C hR fd_AbstractStringBuilder_count (Or.inl q262) dJ4_charAt_11 14 rfl (fun x3 => ?_)
  refine s_aload_n C dJ4_charAt_14 15 rfl 0 rfl ?_
  refine s_alen C hR dJ4_charAt_15 16 rfl (fun x4 => ?_)
  refine s_iload_n C dJ4_charAt_16 17 rfl 1 rfl ?_
  refine s_ishr C dJ4_charAt_17 18 rfl ?_
  refine s_min C q1163 q514 q129 q515 (by decide) (bl rfl) dJ4_charAt_18 21 rfl ?_
  refine s_topi (fun x5 => ?_)
  refine s_istore C dJ4_charAt_21 (by decide) 23 rfl [(4, .int x5), (3, .ref x2), (2, .int x1), (0, .ref a0), (1, .int p0)] rfl ?_
  refine s_iload_n C dJ4_charAt_23 24 rfl 4 rfl ?_
  refine s_iload C dJ4_charAt_24 26 rfl 0 rfl ?_
  refine s_call_v (rn_S (As := [.int p0, .int x5]) C (ct_at hR hA (ct_J6_checkIndex g TA p0 x5)) (lw_S q1164 q1165 q110 q1166) nv_J6_checkIndex ⟨by decide, by decide⟩ rfl (bl rfl) dJ4_charAt_26) 29 rfl ?_
  refine s_iload_n C dJ4_charAt_29 30 rfl 2 rfl ?_
  refine s_cut (J := 33) (LJ := (fun (v7 : Unit) => [(1, .int p0), (3, .ref x2)])) (SJ := (fun (v7 : Unit) => [])) (fun v7 => ?_) (fun _ _ hK8 => ?_)
  · refine s_aload_n C dJ4_charAt_33 34 rfl 1 rfl ?_
    refine s_iload_n C dJ4_charAt_34 35 rfl 0 rfl ?_
    refine s_bald C hR dJ4_charAt_35 36 rfl (fun x9 => ?_)
    refine s_sipush (v := 255) C dJ4_charAt_36 (by decide) 39 rfl ?_
    refine s_iand C dJ4_charAt_39 40 rfl ?_
    refine s_i2c C dJ4_charAt_40 41 rfl ?_
    refine s_cb (fun h => ?_)
    exact s_iret C rfl (s_cn h) dJ4_charAt_41
  · refine s_if_ne C dJ4_charAt_30 42 33 (by decide) rfl ?_ ?_
    · refine s_r ?_
      refine s_lv [4, 1] rfl ?_
      exact hK8 ()
    · exact s_none1
theorem nv_J5_charAt : yJ5_charAt.cls ≠ "java/lang/invoke/MethodHandle" ∧ yJ5_charAt.cls ≠ "java/lang/invoke/VarHandle" ∧ (parseMethodDescriptor yJ5_charAt.desc).map (fun d => d.parameters.length) = some 1 := by decide +kernel
theorem ct_J5_charAt {l : Launch} (g : sm_G) (TA : Nat → Prop) (a0 : Nat) (p0 : Int32) : sm_CT l g (so_R g TA) (so_A g TA) yJ5_charAt cJ5_charAt 2 (some .char) 3 67 [.ref a0, .int p0] em_i (f_J5_charAt g a0 p0) := by
  refine sm_of (own := "java/lang/StringBuilder") rfl rfl (bl rfl) (fun Y C hR hA hl hm => ?_)
  subst hl
  refine s_lv (L' := [(0, .ref a0), (1, .int p0)]) [0, 1] rfl ?_
  refine s_top ?_
  unfold f_J5_charAt
  refine s_aload_n C dJ5_charAt_0 1 rfl 0 rfl ?_
  refine s_iload_n C dJ5_charAt_1 2 rfl 1 rfl ?_
  refine s_call_i (rn_SU (As := [.int p0]) C ⟨_, (C.k.1.1 11 vw_11 rfl).2⟩ (ct_at hR hA (ct_on (ct_J4_charAt g TA a0 p0))) (rv_on C hR (q := vw_11) rfl) (lw_SU q1160 q2386 q271 q1161 q108 q1162) ⟨by decide +kernel, (show (parseMethodDescriptor "(I)C").map (fun d => d.parameters.length) = some 1 by decide +kernel)⟩ ⟨by decide, by decide⟩ rfl (bl rfl) dJ5_charAt_2) 5 rfl (fun x1 => ?_)
  refine s_cb (fun h => ?_)
  exact s_iret C rfl (s_cn h) dJ5_charAt_5
theorem nv_X13_here : yX13_here.cls ≠ "java/lang/invoke/MethodHandle" ∧ yX13_here.cls ≠ "java/lang/invoke/VarHandle" ∧ (parseMethodDescriptor yX13_here.desc).map (fun d => d.parameters.length) = some 0 := by decide +kernel
theorem ct_X13_here {l : Launch} (g : sm_G) (TA : Nat → Prop) (a0 : Nat) : sm_CT l g (so_R g TA) (so_A g TA) yX13_here cX13_here 1 (some .char) 4 88 [.ref a0] em_i (f_X13_here g a0) := by
  refine sm_of (own := "PatchCords$Reader") rfl rfl (bl rfl) (fun Y C hR hA hl hm => ?_)
  subst hl
  refine s_lv (L' := [(0, .ref a0)]) [0] rfl ?_
  refine s_top ?_
  unfold f_X13_here
  refine s_aload_n C dX13_here_0 1 rfl 0 rfl ?_
  refine s_getI C hR fd_PatchCords_Reader_at (Or.inl q1132) dX13_here_1 4 rfl (fun x1 => ?_)
  refine s_aload_n C dX13_here_4 5 rfl 0 rfl ?_
  refine s_getR C hR fd_PatchCords_Reader_source (Or.inl q1129) dX13_here_5 8 rfl (fun x2 => ?_)
  refine s_call_i (rn_V (As := []) C (ct_at hR hA (ct_on (ct_J5_length g TA x2))) (rv_on C hR (q := vw_11) rfl) (lw_V q1155 q787 q788 q109 q789) ⟨rfl, nv_J5_length⟩ ⟨by decide, by decide⟩ rfl (bl rfl) dX13_here_8) 11 rfl (fun x3 => ?_)
  refine s_cut (J := 30) (LJ := (fun (v4 : Int32) => [])) (SJ := (fun (v4 : Int32) => [.int v4])) (fun v4 => ?_) (fun _ _ hK5 => ?_)
  · refine s_cb (fun h => ?_)
    exact s_iret C rfl (s_cn h) dX13_here_30
  · refine s_icmp_ge C dX13_here_11 28 14 (by decide) rfl ?_ ?_
    · refine s_bipush (v := 32) C dX13_here_28 (by decide) 30 rfl ?_
      refine s_r ?_
      refine s_lv [] rfl ?_
      exact hK5 32
    · refine s_aload_n C dX13_here_14 15 rfl 0 rfl ?_
      refine s_getR C hR fd_PatchCords_Reader_source (Or.inl q1129) dX13_here_15 18 rfl (fun x6 => ?_)
      refine s_aload_n C dX13_here_18 19 rfl 0 rfl ?_
      refine s_getI C hR fd_PatchCords_Reader_at (Or.inl q1132) dX13_here_19 22 rfl (fun x7 => ?_)
      refine s_call_i (rn_V (As := [.int x7]) C (ct_at hR hA (ct_on (ct_J5_charAt g TA x6 x7))) (rv_on C hR (q := vw_11) rfl) (lw_V q1156 q1157 q1158 q109 q1159) ⟨rfl, nv_J5_charAt⟩ ⟨by decide, by decide⟩ rfl (bl rfl) dX13_here_22) 25 rfl (fun x8 => ?_)
      refine s_goto C dX13_here_25 30 (by decide) ?_
      refine s_r ?_
      refine s_lv [] rfl ?_
      exact hK5 x8
theorem nv_X13_step : yX13_step.cls ≠ "java/lang/invoke/MethodHandle" ∧ yX13_step.cls ≠ "java/lang/invoke/VarHandle" ∧ (parseMethodDescriptor yX13_step.desc).map (fun d => d.parameters.length) = some 1 := by decide +kernel
theorem ct_X13_step {l : Launch} (g : sm_G) (TA : Nat → Prop) (a0 : Nat) (p0 : Int32) : sm_CT l g (so_R g TA) (so_A g TA) yX13_step cX13_step 2 none 0 0 [.ref a0, .int p0] em_v (f_X13_step g a0 p0) := by
  refine sm_of (own := "PatchCords$Reader") rfl rfl (bl rfl) (fun Y C hR hA hl hm => ?_)
  subst hl
  refine s_lv (L' := [(0, .ref a0), (1, .int p0)]) [0, 1] rfl ?_
  refine s_top ?_
  unfold f_X13_step
  refine s_aload_n C dX13_step_0 1 rfl 0 rfl ?_
  refine s_aload_n C dX13_step_1 2 rfl 0 rfl ?_
  refine s_getI C hR fd_PatchCords_Reader_failed (Or.inl q1133) dX13_step_2 5 rfl (fun x1 => ?_)
  refine s_cut (J := 17) (LJ := (fun (v2 : Int32) => [(0, .ref a0)])) (SJ := (fun (v2 : Int32) => [.int v2, .ref a0])) (fun v2 => ?_) (fun _ _ hK3 => ?_)
  · refine s_zb (fun h5 => ?_)
    refine s_put C hR hA fd_PatchCords_Reader_failed (Or.inl q1133) dX13_step_17 (s_zn h5) (s_zf h5) 20 rfl ?_
    refine s_aload_n C dX13_step_20 21 rfl 0 rfl ?_
    refine s_dup C dX13_step_21 rfl 22 rfl ?_
    refine s_getI C hR fd_PatchCords_Reader_at (Or.inl q1132) dX13_step_22 25 rfl (fun x6 => ?_)
    refine s_aload_n C dX13_step_25 26 rfl 0 rfl ?_
    refine s_getI C hR fd_PatchCords_Reader_failed (Or.inl q1133) dX13_step_26 29 rfl (fun x7 => ?_)
    refine s_cut (J := 37) (LJ := (fun (v8 : Int32) => [])) (SJ := (fun (v8 : Int32) => [.int v8, .int x6, .ref a0])) (fun v8 => ?_) (fun _ _ hK9 => ?_)
    · refine s_iadd C dX13_step_37 38 rfl ?_
      refine s_put C hR hA fd_PatchCords_Reader_at (Or.inl q1132) dX13_step_38 rfl rfl 41 rfl ?_
      exact s_vret C rfl dX13_step_41
    · refine s_if_eq C dX13_step_29 36 32 (by decide) rfl ?_ ?_
      · refine s_iconst (v := 1) C dX13_step_36 (by decide) 37 rfl ?_
        refine s_r ?_
        refine s_lv [] rfl ?_
        exact hK9 1
      · refine s_iconst (v := 0) C dX13_step_32 (by decide) 33 rfl ?_
        refine s_goto C dX13_step_33 37 (by decide) ?_
        refine s_r ?_
        refine s_lv [] rfl ?_
        exact hK9 0
  · refine s_if_ne C dX13_step_5 12 8 (by decide) rfl ?_ ?_
    · refine s_iload_n C dX13_step_8 9 rfl 1 rfl ?_
      refine s_if_ne C dX13_step_9 16 12 (by decide) rfl ?_ ?_
      · refine s_iconst (v := 1) C dX13_step_12 (by decide) 13 rfl ?_
        refine s_goto C dX13_step_13 17 (by decide) ?_
        refine s_r ?_
        refine s_lv [0] rfl ?_
        exact hK3 1
      · refine s_iconst (v := 0) C dX13_step_16 (by decide) 17 rfl ?_
        refine s_r ?_
        refine s_lv [0] rfl ?_
        exact hK3 0
    · refine s_iconst (v := 1) C dX13_step_12 (by decide) 13 rfl ?_
      refine s_goto C dX13_step_13 17 (by decide) ?_
      refine s_r ?_
      refine s_lv [0] rfl ?_
      exact hK3 1
theorem nv_X13_number : yX13_number.cls ≠ "java/lang/invoke/MethodHandle" ∧ yX13_number.cls ≠ "java/lang/invoke/VarHandle" ∧ (parseMethodDescriptor yX13_number.desc).map (fun d => d.parameters.length) = some 2 := by decide +kernel
theorem ct_X13_number {l : Launch} (g : sm_G) (TA : Nat → Prop) (a0 : Nat) (p0 : Int32) (p1 : Int32) : sm_CT l g (so_R g TA) (so_A g TA) yX13_number cX13_number 4 (some .int) 5 108 [.ref a0, .int p0, .int p1] em_i (f_X13_number g a0 p0 p1) := by
  refine sm_of (own := "PatchCords$Reader") rfl rfl (bl rfl) (fun Y C hR hA hl hm => ?_)
  subst hl
  refine s_lv (L' := [(0, .ref a0), (1, .int p0), (2, .int p1)]) [0, 1, 2] rfl ?_
  refine s_top ?_
  unfold f_X13_number
  refine s_aload_n C dX13_number_0 1 rfl 0 rfl ?_
  refine s_call_i (rn_V (As := []) C (ct_at hR hA (ct_on (ct_X13_here g TA a0))) (rv_on C hR (q := vw_8) rfl) (lw_V q1151 q1153 qs15 q138 q1154) ⟨rfl, nv_X13_here⟩ ⟨by decide, by decide⟩ rfl (bl rfl) dX13_number_1) 4 rfl (fun x1 => ?_)
  refine s_bipush (v := 48) C dX13_number_4 (by decide) 6 rfl ?_
  refine s_isub C dX13_number_6 7 rfl ?_
  refine s_topi (fun x2 => ?_)
  refine s_istore_n C dX13_number_7 rfl (by decide) 8 rfl [(3, .int x2), (0, .ref a0), (1, .int p0), (2, .int p1)] rfl ?_
  refine s_aload_n C dX13_number_8 9 rfl 1 rfl ?_
  refine s_iload_n C dX13_number_9 10 rfl 0 rfl ?_
  refine s_iload_n C dX13_number_10 11 rfl 2 rfl ?_
  refine s_iconst (v := 1) C dX13_number_11 (by decide) 12 rfl ?_
  refine s_min C q1184 q514 q129 q515 (by decide) (bl rfl) dX13_number_12 15 rfl ?_
  refine s_iload_n C dX13_number_15 16 rfl 3 rfl ?_
  refine s_bipush (v := 9) C dX13_number_16 (by decide) 18 rfl ?_
  refine s_min C q1184 q514 q129 q515 (by decide) (bl rfl) dX13_number_18 21 rfl ?_
  refine s_call_i (rn_SN (As := [.int x2, .int (j_min p0 1), .int (j_min p1 9)]) C (ct_at hR hA (ct_X1_isWithin g TA x2 (j_min p0 1) (j_min p1 9))) q1169 q664 q101 q665 nv_X1_isWithin ⟨by decide, by decide⟩ rfl (bl rfl) dX13_number_21) 24 rfl (fun x3 => ?_)
  refine s_call_v (rn_V (As := [.int x3]) C (ct_at hR hA (ct_on (ct_X13_step g TA a0 x3))) (rv_on C hR (q := vw_8) rfl) (lw_V q1170 q1172 qs16 q138 q1173) ⟨rfl, nv_X13_step⟩ ⟨by decide, by decide⟩ rfl (bl rfl) dX13_number_24) 27 rfl ?_
  refine s_lv [1, 3, 0] rfl ?_
  refine s_loop (fun (s5 : Int32) => [(0, .ref a0), (2, .int p1), (3, .int s5)]) (fun (v16 : Int32) => [(3, .int v16)]) 90 x2 rfl (fun v16 => ?_) (fun _ s5 hk6 hx7 => ?_)
  · refine s_iload_n C dX13_number_90 91 rfl 0 rfl ?_
    exact s_iret C rfl rfl dX13_number_91
  · refine s_aload_n C dX13_number_27 28 rfl 0 rfl ?_
    refine s_getI C hR fd_PatchCords_Reader_failed (Or.inl q1133) dX13_number_28 31 rfl (fun x8 => ?_)
    refine s_if_ne C dX13_number_31 90 34 (by decide) rfl ?_ ?_
    · refine s_iload_n C dX13_number_34 35 rfl 2 rfl ?_
      refine s_if_le C dX13_number_35 90 38 (by decide) rfl ?_ ?_
      · refine s_r ?_
        refine s_lv [2] rfl ?_
        exact hx7 s5
      · refine s_bipush (v := 10) C dX13_number_38 (by decide) 40 rfl ?_
        refine s_iload_n C dX13_number_40 41 rfl 2 rfl ?_
        refine s_imul C dX13_number_41 42 rfl ?_
        refine s_iload_n C dX13_number_42 43 rfl 1 rfl ?_
        refine s_icmp_gt C dX13_number_43 90 46 (by decide) rfl ?_ ?_
        · refine s_r ?_
          refine s_lv [2] rfl ?_
          exact hx7 s5
        · refine s_aload_n C dX13_number_46 47 rfl 0 rfl ?_
          refine s_call_i (rn_V (As := []) C (ct_at hR hA (ct_on (ct_X13_here g TA a0))) (rv_on C hR (q := vw_8) rfl) (lw_V q1151 q1153 qs15 q138 q1154) ⟨rfl, nv_X13_here⟩ ⟨by decide, by decide⟩ rfl (bl rfl) dX13_number_47) 50 rfl (fun x9 => ?_)
          refine s_bipush (v := 48) C dX13_number_50 (by decide) 52 rfl ?_
          refine s_bipush (v := 57) C dX13_number_52 (by decide) 54 rfl ?_
          refine s_call_i (rn_SN (As := [.int x9, .int 48, .int 57]) C (ct_at hR hA (ct_X1_isWithin g TA x9 48 57)) q1169 q664 q101 q665 nv_X1_isWithin ⟨by decide, by decide⟩ rfl (bl rfl) dX13_number_54) 57 rfl (fun x10 => ?_)
          refine s_if_eq C dX13_number_57 90 60 (by decide) rfl ?_ ?_
          · refine s_r ?_
            refine s_lv [2] rfl ?_
            exact hx7 s5
          · refine s_bipush (v := 10) C dX13_number_60 (by decide) 62 rfl ?_
            refine s_iload_n C dX13_number_62 63 rfl 2 rfl ?_
            refine s_imul C dX13_number_63 64 rfl ?_
            refine s_aload_n C dX13_number_64 65 rfl 0 rfl ?_
            refine s_call_i (rn_V (As := []) C (ct_at hR hA (ct_on (ct_X13_here g TA a0))) (rv_on C hR (q := vw_8) rfl) (lw_V q1151 q1153 qs15 q138 q1154) ⟨rfl, nv_X13_here⟩ ⟨by decide, by decide⟩ rfl (bl rfl) dX13_number_65) 68 rfl (fun x11 => ?_)
            refine s_iadd C dX13_number_68 69 rfl ?_
            refine s_bipush (v := 48) C dX13_number_69 (by decide) 71 rfl ?_
            refine s_isub C dX13_number_71 72 rfl ?_
            refine s_topi (fun x12 => ?_)
            refine s_istore_n C dX13_number_72 rfl (by decide) 73 rfl [(3, .int x12), (0, .ref a0), (2, .int p1)] rfl ?_
            refine s_aload_n C dX13_number_73 74 rfl 1 rfl ?_
            refine s_iload_n C dX13_number_74 75 rfl 0 rfl ?_
            refine s_iload_n C dX13_number_75 76 rfl 2 rfl ?_
            refine s_cut (J := 84) (LJ := (fun (v13 : Int32) => [(0, .ref a0), (2, .int p1), (3, .int x12)])) (SJ := (fun (v13 : Int32) => [.int v13, .ref a0])) (fun v13 => ?_) (fun _ _ hK14 => ?_)
            · refine s_call_v (rn_V (As := [.int v13]) C (ct_at hR hA (ct_on (ct_X13_step g TA a0 v13))) (rv_on C hR (q := vw_8) rfl) (lw_V q1170 q1172 qs16 q138 q1173) ⟨rfl, nv_X13_step⟩ ⟨by decide, by decide⟩ rfl (bl rfl) dX13_number_84) 87 rfl ?_
              refine s_goto C dX13_number_87 27 (by decide) ?_
              refine s_r ?_
              refine s_lv [0, 1, 2] rfl ?_
              exact hk6 x12
            · refine s_icmp_gt C dX13_number_76 83 79 (by decide) rfl ?_ ?_
              · refine s_iconst (v := 0) C dX13_number_83 (by decide) 84 rfl ?_
                refine s_r ?_
                refine s_lv [1, 2, 0] rfl ?_
                exact hK14 0
              · refine s_iconst (v := 1) C dX13_number_79 (by decide) 80 rfl ?_
                refine s_goto C dX13_number_80 84 (by decide) ?_
                refine s_r ?_
                refine s_lv [1, 2, 0] rfl ?_
                exact hK14 1
    · refine s_r ?_
      refine s_lv [2] rfl ?_
      exact hx7 s5
theorem nv_X13_module : yX13_module.cls ≠ "java/lang/invoke/MethodHandle" ∧ yX13_module.cls ≠ "java/lang/invoke/VarHandle" ∧ (parseMethodDescriptor yX13_module.desc).map (fun d => d.parameters.length) = some 0 := by decide +kernel
theorem ct_X13_module {l : Launch} (g : sm_G) (TA : Nat → Prop) (a0 : Nat) : sm_CT l g (so_R g TA) (so_A g TA) yX13_module cX13_module 1 (some .int) 6 131 [.ref a0] em_i (f_X13_module g a0) := by
  refine sm_of (own := "PatchCords$Reader") rfl rfl (bl rfl) (fun Y C hR hA hl hm => ?_)
  subst hl
  refine s_lv (L' := [(0, .ref a0)]) [0] rfl ?_
  refine s_top ?_
  unfold f_X13_module
  refine s_aload_n C dX13_module_0 1 rfl 0 rfl ?_
  refine s_iconst (v := 0) C dX13_module_1 (by decide) 2 rfl ?_
  refine s_bipush (v := 15) C dX13_module_2 (by decide) 4 rfl ?_
  refine s_call_i (rn_V (As := [.int 0, .int 15]) C (ct_at hR hA (ct_on (ct_X13_number g TA a0 0 15))) (rv_on C hR (q := vw_8) rfl) (lw_V q1180 q1182 qs18 q138 q1183) ⟨rfl, nv_X13_number⟩ ⟨by decide, by decide⟩ rfl (bl rfl) dX13_module_4) 7 rfl (fun x1 => ?_)
  exact s_iret C rfl rfl dX13_module_7
theorem nv_X13_input : yX13_input.cls ≠ "java/lang/invoke/MethodHandle" ∧ yX13_input.cls ≠ "java/lang/invoke/VarHandle" ∧ (parseMethodDescriptor yX13_input.desc).map (fun d => d.parameters.length) = some 0 := by decide +kernel
theorem ct_X13_input {l : Launch} (g : sm_G) (TA : Nat → Prop) (a0 : Nat) : sm_CT l g (so_R g TA) (so_A g TA) yX13_input cX13_input 1 (some .int) 6 131 [.ref a0] em_i (f_X13_input g a0) := by
  refine sm_of (own := "PatchCords$Reader") rfl rfl (bl rfl) (fun Y C hR hA hl hm => ?_)
  subst hl
  refine s_lv (L' := [(0, .ref a0)]) [0] rfl ?_
  refine s_top ?_
  unfold f_X13_input
  refine s_aload_n C dX13_input_0 1 rfl 0 rfl ?_
  refine s_aload_n C dX13_input_1 2 rfl 0 rfl ?_
  refine s_call_i (rn_V (As := []) C (ct_at hR hA (ct_on (ct_X13_here g TA a0))) (rv_on C hR (q := vw_8) rfl) (lw_V q1151 q1153 qs15 q138 q1154) ⟨rfl, nv_X13_here⟩ ⟨by decide, by decide⟩ rfl (bl rfl) dX13_input_2) 5 rfl (fun x1 => ?_)
  refine s_bipush (v := 46) C dX13_input_5 (by decide) 7 rfl ?_
  refine s_cut (J := 15) (LJ := (fun (v2 : Int32) => [(0, .ref a0)])) (SJ := (fun (v2 : Int32) => [.int v2, .ref a0])) (fun v2 => ?_) (fun _ _ hK3 => ?_)
  · refine s_call_v (rn_V (As := [.int v2]) C (ct_at hR hA (ct_on (ct_X13_step g TA a0 v2))) (rv_on C hR (q := vw_8) rfl) (lw_V q1170 q1172 qs16 q138 q1173) ⟨rfl, nv_X13_step⟩ ⟨by decide, by decide⟩ rfl (bl rfl) dX13_input_15) 18 rfl ?_
    refine s_aload_n C dX13_input_18 19 rfl 0 rfl ?_
    refine s_iconst (v := 0) C dX13_input_19 (by decide) 20 rfl ?_
    refine s_iconst (v := 3) C dX13_input_20 (by decide) 21 rfl ?_
    refine s_call_i (rn_V (As := [.int 0, .int 3]) C (ct_at hR hA (ct_on (ct_X13_number g TA a0 0 3))) (rv_on C hR (q := vw_8) rfl) (lw_V q1180 q1182 qs18 q138 q1183) ⟨rfl, nv_X13_number⟩ ⟨by decide, by decide⟩ rfl (bl rfl) dX13_input_21) 24 rfl (fun x5 => ?_)
    exact s_iret C rfl rfl dX13_input_24
  · refine s_icmp_ne C dX13_input_7 14 10 (by decide) rfl ?_ ?_
    · refine s_iconst (v := 1) C dX13_input_10 (by decide) 11 rfl ?_
      refine s_goto C dX13_input_11 15 (by decide) ?_
      refine s_r ?_
      refine s_lv [0] rfl ?_
      exact hK3 1
    · refine s_iconst (v := 0) C dX13_input_14 (by decide) 15 rfl ?_
      refine s_r ?_
      refine s_lv [0] rfl ?_
      exact hK3 0
theorem nv_X14_init : yX14_init.cls ≠ "java/lang/invoke/MethodHandle" ∧ yX14_init.cls ≠ "java/lang/invoke/VarHandle" ∧ (parseMethodDescriptor yX14_init.desc).map (fun d => d.parameters.length) = some 4 := by decide +kernel
theorem ct_X14_init {l : Launch} (g : sm_G) (TA : Nat → Prop) (a0 : Nat) (p0 : Int32) (p1 : Int32) (p2 : Int32) (p3 : Int32) : sm_CT l g (so_R g TA) (so_A g TA) yX14_init cX14_init 5 none 1 12 [.ref a0, .int p0, .int p1, .int p2, .int p3] em_v (f_X14_init g a0 p0 p1 p2 p3) := by
  refine sm_of (own := "PatchCords$Item") rfl rfl (bl rfl) (fun Y C hR hA hl hm => ?_)
  subst hl
  refine s_lv (L' := [(0, .ref a0), (1, .int p0), (2, .int p1), (3, .int p2), (4, .int p3)]) [0, 1, 2, 3, 4] rfl ?_
  refine s_top ?_
  unfold f_X14_init
  refine s_aload_n C dX14_init_0 1 rfl 0 rfl ?_
  refine s_objInit C q1188 q147 q148 (by decide) (bl rfl) dX14_init_1 4 rfl ?_
  refine s_aload_n C dX14_init_4 5 rfl 0 rfl ?_
  refine s_iload_n C dX14_init_5 6 rfl 1 rfl ?_
  refine s_cb (fun h2 => ?_)
  refine s_putF C hR hA fd_PatchCords_Item_sign q1189 dX14_init_6 hm (s_cn h2) (s_cf h2) 9 rfl ?_
  refine s_aload_n C dX14_init_9 10 rfl 0 rfl ?_
  refine s_iload_n C dX14_init_10 11 rfl 2 rfl ?_
  refine s_putF C hR hA fd_PatchCords_Item_one q1191 dX14_init_11 hm rfl rfl 14 rfl ?_
  refine s_aload_n C dX14_init_14 15 rfl 0 rfl ?_
  refine s_iload_n C dX14_init_15 16 rfl 3 rfl ?_
  refine s_putF C hR hA fd_PatchCords_Item_other q1193 dX14_init_16 hm rfl rfl 19 rfl ?_
  refine s_aload_n C dX14_init_19 20 rfl 0 rfl ?_
  refine s_iload C dX14_init_20 22 rfl 4 rfl ?_
  refine s_putF C hR hA fd_PatchCords_Item_input q1195 dX14_init_22 hm rfl rfl 25 rfl ?_
  exact s_vret C rfl dX14_init_25
theorem nv_X13_voltage : yX13_voltage.cls ≠ "java/lang/invoke/MethodHandle" ∧ yX13_voltage.cls ≠ "java/lang/invoke/VarHandle" ∧ (parseMethodDescriptor yX13_voltage.desc).map (fun d => d.parameters.length) = some 0 := by decide +kernel
theorem ct_X13_voltage {l : Launch} (g : sm_G) (TA : Nat → Prop) (a0 : Nat) : sm_CT l g (so_R g TA) (so_A g TA) yX13_voltage cX13_voltage 3 (some .int) 6 131 [.ref a0] em_i (f_X13_voltage g a0) := by
  refine sm_of (own := "PatchCords$Reader") rfl rfl (bl rfl) (fun Y C hR hA hl hm => ?_)
  subst hl
  refine s_lv (L' := [(0, .ref a0)]) [0] rfl ?_
  refine s_top ?_
  unfold f_X13_voltage
  refine s_aload_n C dX13_voltage_0 1 rfl 0 rfl ?_
  refine s_call_i (rn_V (As := []) C (ct_at hR hA (ct_on (ct_X13_here g TA a0))) (rv_on C hR (q := vw_8) rfl) (lw_V q1151 q1153 qs15 q138 q1154) ⟨rfl, nv_X13_here⟩ ⟨by decide, by decide⟩ rfl (bl rfl) dX13_voltage_1) 4 rfl (fun x1 => ?_)
  refine s_bipush (v := 45) C dX13_voltage_4 (by decide) 6 rfl ?_
  refine s_cut (J := 14) (LJ := (fun (v2 : Int32) => [(0, .ref a0)])) (SJ := (fun (v2 : Int32) => [.int v2])) (fun v2 => ?_) (fun _ _ hK3 => ?_)
  · refine s_istore_n C dX13_voltage_14 rfl (by decide) 15 rfl [(1, .int v2), (0, .ref a0)] rfl ?_
    refine s_iload_n C dX13_voltage_15 16 rfl 0 rfl ?_
    refine s_cut (J := 24) (LJ := (fun (v4 : Unit) => [(0, .ref a0), (1, .int v2)])) (SJ := (fun (v4 : Unit) => [])) (fun v4 => ?_) (fun _ _ hK5 => ?_)
    · refine s_aload_n C dX13_voltage_24 25 rfl 0 rfl ?_
      refine s_iconst (v := 0) C dX13_voltage_25 (by decide) 26 rfl ?_
      refine s_sipush (v := 10000) C dX13_voltage_26 (by decide) 29 rfl ?_
      refine s_call_i (rn_V (As := [.int 0, .int 10000]) C (ct_at hR hA (ct_on (ct_X13_number g TA a0 0 10000))) (rv_on C hR (q := vw_8) rfl) (lw_V q1180 q1182 qs18 q138 q1183) ⟨rfl, nv_X13_number⟩ ⟨by decide, by decide⟩ rfl (bl rfl) dX13_voltage_29) 32 rfl (fun x7 => ?_)
      refine s_istore_n C dX13_voltage_32 rfl (by decide) 33 rfl [(2, .int x7), (0, .ref a0), (1, .int v2)] rfl ?_
      refine s_iload_n C dX13_voltage_33 34 rfl 2 rfl ?_
      refine s_cut (J := 43) (LJ := (fun (v8 : Int32) => [])) (SJ := (fun (v8 : Int32) => [.int v8])) (fun v8 => ?_) (fun _ _ hK9 => ?_)
      · exact s_iret C rfl rfl dX13_voltage_43
      · refine s_if_eq C dX13_voltage_34 42 37 (by decide) rfl ?_ ?_
        · refine s_iload_n C dX13_voltage_42 43 rfl 0 rfl ?_
          refine s_r ?_
          refine s_lv [] rfl ?_
          exact hK9 x7
        · refine s_iload_n C dX13_voltage_37 38 rfl 0 rfl ?_
          refine s_ineg C dX13_voltage_38 39 rfl ?_
          refine s_goto C dX13_voltage_39 43 (by decide) ?_
          refine s_r ?_
          refine s_lv [] rfl ?_
          exact hK9 (-x7)
    · refine s_if_eq C dX13_voltage_16 24 19 (by decide) rfl ?_ ?_
      · refine s_r ?_
        refine s_lv [1, 0] rfl ?_
        exact hK5 ()
      · refine s_aload_n C dX13_voltage_19 20 rfl 1 rfl ?_
        refine s_iconst (v := 1) C dX13_voltage_20 (by decide) 21 rfl ?_
        refine s_call_v (rn_V (As := [.int 1]) C (ct_at hR hA (ct_on (ct_X13_step g TA a0 1))) (rv_on C hR (q := vw_8) rfl) (lw_V q1170 q1172 qs16 q138 q1173) ⟨rfl, nv_X13_step⟩ ⟨by decide, by decide⟩ rfl (bl rfl) dX13_voltage_21) 24 rfl ?_
        refine s_r ?_
        refine s_lv [1, 0] rfl ?_
        exact hK5 ()
  · refine s_icmp_ne C dX13_voltage_6 13 9 (by decide) rfl ?_ ?_
    · refine s_iconst (v := 1) C dX13_voltage_9 (by decide) 10 rfl ?_
      refine s_goto C dX13_voltage_10 14 (by decide) ?_
      refine s_r ?_
      refine s_lv [0] rfl ?_
      exact hK3 1
    · refine s_iconst (v := 0) C dX13_voltage_13 (by decide) 14 rfl ?_
      refine s_r ?_
      refine s_lv [0] rfl ?_
      exact hK3 0
theorem nv_X13_setting : yX13_setting.cls ≠ "java/lang/invoke/MethodHandle" ∧ yX13_setting.cls ≠ "java/lang/invoke/VarHandle" ∧ (parseMethodDescriptor yX13_setting.desc).map (fun d => d.parameters.length) = some 1 := by decide +kernel
theorem ct_X13_setting {l : Launch} (g : sm_G) (TA : Nat → Prop) (a0 : Nat) (p0 : Int32) : sm_CT l g (so_R g TA) (so_A g TA) yX13_setting cX13_setting 4 (some (.object "PatchCords$Item")) 7 153 [.ref a0, .int p0] em_r (f_X13_setting g a0 p0) := by
  refine sm_of (own := "PatchCords$Reader") rfl rfl (bl rfl) (fun Y C hR hA hl hm => ?_)
  subst hl
  refine s_lv (L' := [(0, .ref a0), (1, .int p0)]) [0, 1] rfl ?_
  refine s_top ?_
  unfold f_X13_setting
  refine s_iload_n C dX13_setting_0 1 rfl 1 rfl ?_
  refine s_lku C dX13_setting_1 43 (52) 53 (by decide) (by decide) (by decide) ?_ (fun hc22 => ?_)
  · refine s_new C hR cd_9 rfl df_9 q1178 q1179 q139 dX13_setting_53 56 rfl (fun x1 => ?_)
    refine s_dup C dX13_setting_56 rfl 57 rfl ?_
    refine s_iload_n C dX13_setting_57 58 rfl 1 rfl ?_
    refine s_aload_n C dX13_setting_58 59 rfl 0 rfl ?_
    refine s_iconst (v := 1) C dX13_setting_59 (by decide) 60 rfl ?_
    refine s_sipush (v := 999) C dX13_setting_60 (by decide) 63 rfl ?_
    refine s_call_i (rn_V (As := [.int 1, .int 999]) C (ct_at hR hA (ct_on (ct_X13_number g TA a0 1 999))) (rv_on C hR (q := vw_8) rfl) (lw_V q1180 q1182 qs18 q138 q1183) ⟨rfl, nv_X13_number⟩ ⟨by decide, by decide⟩ rfl (bl rfl) dX13_setting_63) 66 rfl (fun x2 => ?_)
    refine s_iconst (v := 0) C dX13_setting_66 (by decide) 67 rfl ?_
    refine s_iconst (v := 0) C dX13_setting_67 (by decide) 68 rfl ?_
    refine s_call_v (rn_I (As := [.int p0, .int x2, .int 0, .int 0]) C (ct_at hR hA (ct_X14_init g TA x1 p0 x2 0 0)) q1185 q1186 q139 q1187 rfl nv_X14_init ⟨by decide, by decide⟩ rfl (bl rfl) dX13_setting_68) 71 rfl ?_
    exact s_aret C rfl (Or.inl ⟨_, rfl⟩) dX13_setting_71
  refine s_lku C dX13_setting_1 110 (35) 36 (by decide) (by decide) (by decide) ?_ (fun hc23 => ?_)
  · refine s_new C hR cd_9 rfl df_9 q1178 q1179 q139 dX13_setting_36 39 rfl (fun x4 => ?_)
    refine s_dup C dX13_setting_39 rfl 40 rfl ?_
    refine s_iload_n C dX13_setting_40 41 rfl 1 rfl ?_
    refine s_aload_n C dX13_setting_41 42 rfl 0 rfl ?_
    refine s_iconst (v := 0) C dX13_setting_42 (by decide) 43 rfl ?_
    refine s_iconst (v := 5) C dX13_setting_43 (by decide) 44 rfl ?_
    refine s_call_i (rn_V (As := [.int 0, .int 5]) C (ct_at hR hA (ct_on (ct_X13_number g TA a0 0 5))) (rv_on C hR (q := vw_8) rfl) (lw_V q1180 q1182 qs18 q138 q1183) ⟨rfl, nv_X13_number⟩ ⟨by decide, by decide⟩ rfl (bl rfl) dX13_setting_44) 47 rfl (fun x5 => ?_)
    refine s_iconst (v := 0) C dX13_setting_47 (by decide) 48 rfl ?_
    refine s_iconst (v := 0) C dX13_setting_48 (by decide) 49 rfl ?_
    refine s_call_v (rn_I (As := [.int p0, .int x5, .int 0, .int 0]) C (ct_at hR hA (ct_X14_init g TA x4 p0 x5 0 0)) q1185 q1186 q139 q1187 rfl nv_X14_init ⟨by decide, by decide⟩ rfl (bl rfl) dX13_setting_49) 52 rfl ?_
    exact s_aret C rfl (Or.inl ⟨_, rfl⟩) dX13_setting_52
  refine s_lku C dX13_setting_1 120 (71) 72 (by decide) (by decide) (by decide) ?_ (fun hc24 => ?_)
  · refine s_aload_n C dX13_setting_72 73 rfl 0 rfl ?_
    refine s_call_i (rn_V (As := []) C (ct_at hR hA (ct_on (ct_X13_module g TA a0))) (rv_on C hR (q := vw_8) rfl) (lw_V q1206 q1208 qs19 q138 q1209) ⟨rfl, nv_X13_module⟩ ⟨by decide, by decide⟩ rfl (bl rfl) dX13_setting_73) 76 rfl (fun x7 => ?_)
    refine s_istore_n C dX13_setting_76 rfl (by decide) 77 rfl [(2, .int x7), (0, .ref a0), (1, .int p0)] rfl ?_
    refine s_new C hR cd_9 rfl df_9 q1178 q1179 q139 dX13_setting_77 80 rfl (fun x8 => ?_)
    refine s_dup C dX13_setting_80 rfl 81 rfl ?_
    refine s_iload_n C dX13_setting_81 82 rfl 2 rfl ?_
    refine s_iload_n C dX13_setting_82 83 rfl 0 rfl ?_
    refine s_iconst (v := 0) C dX13_setting_83 (by decide) 84 rfl ?_
    refine s_aload_n C dX13_setting_84 85 rfl 1 rfl ?_
    refine s_call_i (rn_V (As := []) C (ct_at hR hA (ct_on (ct_X13_input g TA a0))) (rv_on C hR (q := vw_8) rfl) (lw_V q1210 q1212 qs20 q138 q1213) ⟨rfl, nv_X13_input⟩ ⟨by decide, by decide⟩ rfl (bl rfl) dX13_setting_85) 88 rfl (fun x9 => ?_)
    refine s_call_v (rn_I (As := [.int p0, .int x7, .int 0, .int x9]) C (ct_at hR hA (ct_X14_init g TA x8 p0 x7 0 x9)) q1185 q1186 q139 q1187 rfl nv_X14_init ⟨by decide, by decide⟩ rfl (bl rfl) dX13_setting_88) 91 rfl ?_
    exact s_aret C rfl (Or.inl ⟨_, rfl⟩) dX13_setting_91
  refine s_lkuD C dX13_setting_1 92 (by decide) (by
      intro q hq
      simp only [List.map_cons, List.map_nil, List.mem_cons, List.not_mem_nil, or_false] at hq
      rcases hq with rfl | rfl | rfl
      · exact sw_ne hc22
      · exact sw_ne hc23
      · exact sw_ne hc24) (by decide) ?_
  refine s_aload_n C dX13_setting_92 93 rfl 0 rfl ?_
  refine s_call_i (rn_V (As := []) C (ct_at hR hA (ct_on (ct_X13_module g TA a0))) (rv_on C hR (q := vw_8) rfl) (lw_V q1206 q1208 qs19 q138 q1209) ⟨rfl, nv_X13_module⟩ ⟨by decide, by decide⟩ rfl (bl rfl) dX13_setting_93) 96 rfl (fun x11 => ?_)
  refine s_istore_n C dX13_setting_96 rfl (by decide) 97 rfl [(3, .int x11), (0, .ref a0), (1, .int p0)] rfl ?_
  refine s_aload_n C dX13_setting_97 98 rfl 1 rfl ?_
  refine s_aload_n C dX13_setting_98 99 rfl 1 rfl ?_
  refine s_call_i (rn_V (As := []) C (ct_at hR hA (ct_on (ct_X13_here g TA a0))) (rv_on C hR (q := vw_8) rfl) (lw_V q1151 q1153 qs15 q138 q1154) ⟨rfl, nv_X13_here⟩ ⟨by decide, by decide⟩ rfl (bl rfl) dX13_setting_99) 102 rfl (fun x12 => ?_)
  refine s_bipush (v := 58) C dX13_setting_102 (by decide) 104 rfl ?_
  refine s_cut (J := 112) (LJ := (fun (v13 : Int32) => [(0, .ref a0), (1, .int p0), (3, .int x11)])) (SJ := (fun (v13 : Int32) => [.int v13, .ref a0])) (fun v13 => ?_) (fun _ _ hK14 => ?_)
  · refine s_call_v (rn_V (As := [.int v13]) C (ct_at hR hA (ct_on (ct_X13_step g TA a0 v13))) (rv_on C hR (q := vw_8) rfl) (lw_V q1170 q1172 qs16 q138 q1173) ⟨rfl, nv_X13_step⟩ ⟨by decide, by decide⟩ rfl (bl rfl) dX13_setting_112) 115 rfl ?_
    refine s_new C hR cd_9 rfl df_9 q1178 q1179 q139 dX13_setting_115 118 rfl (fun x16 => ?_)
    refine s_dup C dX13_setting_118 rfl 119 rfl ?_
    refine s_iload_n C dX13_setting_119 120 rfl 1 rfl ?_
    refine s_iload_n C dX13_setting_120 121 rfl 2 rfl ?_
    refine s_iload_n C dX13_setting_121 122 rfl 1 rfl ?_
    refine s_bipush (v := 118) C dX13_setting_122 (by decide) 124 rfl ?_
    refine s_cut (J := 142) (LJ := (fun (v17 : Int32) => [])) (SJ := (fun (v17 : Int32) => [.int v17, .int x11, .int p0, .ref x16, .ref x16])) (fun v17 => ?_) (fun _ _ hK18 => ?_)
    · refine s_iconst (v := 0) C dX13_setting_142 (by decide) 143 rfl ?_
      refine s_call_v (rn_I (As := [.int p0, .int x11, .int v17, .int 0]) C (ct_at hR hA (ct_X14_init g TA x16 p0 x11 v17 0)) q1185 q1186 q139 q1187 rfl nv_X14_init ⟨by decide, by decide⟩ rfl (bl rfl) dX13_setting_143) 146 rfl ?_
      exact s_aret C rfl (Or.inl ⟨_, rfl⟩) dX13_setting_146
    · refine s_icmp_ne C dX13_setting_124 134 127 (by decide) rfl ?_ ?_
      · refine s_aload_n C dX13_setting_127 128 rfl 0 rfl ?_
        refine s_call_i (rn_V (As := []) C (ct_at hR hA (ct_on (ct_X13_voltage g TA a0))) (rv_on C hR (q := vw_8) rfl) (lw_V q1214 q1216 qs21 q138 q1217) ⟨rfl, nv_X13_voltage⟩ ⟨by decide, by decide⟩ rfl (bl rfl) dX13_setting_128) 131 rfl (fun x20 => ?_)
        refine s_goto C dX13_setting_131 142 (by decide) ?_
        refine s_r ?_
        refine s_lv [] rfl ?_
        exact hK18 x20
      · refine s_aload_n C dX13_setting_134 135 rfl 0 rfl ?_
        refine s_iconst (v := 0) C dX13_setting_135 (by decide) 136 rfl ?_
        refine s_sipush (v := 1000) C dX13_setting_136 (by decide) 139 rfl ?_
        refine s_call_i (rn_V (As := [.int 0, .int 1000]) C (ct_at hR hA (ct_on (ct_X13_number g TA a0 0 1000))) (rv_on C hR (q := vw_8) rfl) (lw_V q1180 q1182 qs18 q138 q1183) ⟨rfl, nv_X13_number⟩ ⟨by decide, by decide⟩ rfl (bl rfl) dX13_setting_139) 142 rfl (fun x19 => ?_)
        refine s_r ?_
        refine s_lv [] rfl ?_
        exact hK18 x19
  · refine s_icmp_ne C dX13_setting_104 111 107 (by decide) rfl ?_ ?_
    · refine s_iconst (v := 1) C dX13_setting_107 (by decide) 108 rfl ?_
      refine s_goto C dX13_setting_108 112 (by decide) ?_
      refine s_r ?_
      refine s_lv [1, 2, 0] rfl ?_
      exact hK14 1
    · refine s_iconst (v := 0) C dX13_setting_111 (by decide) 112 rfl ?_
      refine s_r ?_
      refine s_lv [1, 2, 0] rfl ?_
      exact hK14 0
theorem nv_X13_item : yX13_item.cls ≠ "java/lang/invoke/MethodHandle" ∧ yX13_item.cls ≠ "java/lang/invoke/VarHandle" ∧ (parseMethodDescriptor yX13_item.desc).map (fun d => d.parameters.length) = some 0 := by decide +kernel
theorem ct_X13_item {l : Launch} (g : sm_G) (TA : Nat → Prop) (a0 : Nat) : sm_CT l g (so_R g TA) (so_A g TA) yX13_item cX13_item 4 (some (.object "PatchCords$Item")) 8 176 [.ref a0] em_r (f_X13_item g a0) := by
  refine sm_of (own := "PatchCords$Reader") rfl rfl (bl rfl) (fun Y C hR hA hl hm => ?_)
  subst hl
  refine s_lv (L' := [(0, .ref a0)]) [0] rfl ?_
  refine s_top ?_
  unfold f_X13_item
  refine s_aload_n C dX13_item_0 1 rfl 0 rfl ?_
  refine s_call_i (rn_V (As := []) C (ct_at hR hA (ct_on (ct_X13_here g TA a0))) (rv_on C hR (q := vw_8) rfl) (lw_V q1151 q1153 qs15 q138 q1154) ⟨rfl, nv_X13_here⟩ ⟨by decide, by decide⟩ rfl (bl rfl) dX13_item_1) 4 rfl (fun x1 => ?_)
  refine s_istore_n C dX13_item_4 rfl (by decide) 5 rfl [(1, .int x1), (0, .ref a0)] rfl ?_
  refine s_iload_n C dX13_item_5 6 rfl 0 rfl ?_
  refine s_bipush (v := 48) C dX13_item_6 (by decide) 8 rfl ?_
  refine s_bipush (v := 57) C dX13_item_8 (by decide) 10 rfl ?_
  refine s_call_i (rn_SN (As := [.int x1, .int 48, .int 57]) C (ct_at hR hA (ct_X1_isWithin g TA x1 48 57)) q1169 q664 q101 q665 nv_X1_isWithin ⟨by decide, by decide⟩ rfl (bl rfl) dX13_item_10) 13 rfl (fun x2 => ?_)
  refine s_if_ne C dX13_item_13 61 16 (by decide) rfl ?_ ?_
  · refine s_aload_n C dX13_item_16 17 rfl 1 rfl ?_
    refine s_iload_n C dX13_item_17 18 rfl 0 rfl ?_
    refine s_bipush (v := 110) C dX13_item_18 (by decide) 20 rfl ?_
    refine s_cut (J := 52) (LJ := (fun (v12 : Int32) => [(0, .ref a0), (1, .int x1)])) (SJ := (fun (v12 : Int32) => [.int v12, .ref a0])) (fun v12 => ?_) (fun _ _ hK13 => ?_)
    · refine s_call_v (rn_V (As := [.int v12]) C (ct_at hR hA (ct_on (ct_X13_step g TA a0 v12))) (rv_on C hR (q := vw_8) rfl) (lw_V q1170 q1172 qs16 q138 q1173) ⟨rfl, nv_X13_step⟩ ⟨by decide, by decide⟩ rfl (bl rfl) dX13_item_52) 55 rfl ?_
      refine s_aload_n C dX13_item_55 56 rfl 0 rfl ?_
      refine s_iload_n C dX13_item_56 57 rfl 1 rfl ?_
      refine s_call_r (rn_V (As := [.int x1]) C (ct_at hR hA (ct_on (ct_X13_setting g TA a0 x1))) (rv_on C hR (q := vw_8) rfl) (lw_V q1174 q1176 qs17 q138 q1177) ⟨rfl, nv_X13_setting⟩ ⟨by decide, by decide⟩ rfl (bl rfl) dX13_item_57) 60 rfl (fun x15 => ?_)
      exact s_aret C rfl (Or.inl ⟨_, rfl⟩) dX13_item_60
    · refine s_icmp_eq C dX13_item_20 47 23 (by decide) rfl ?_ ?_
      · refine s_iconst (v := 1) C dX13_item_47 (by decide) 48 rfl ?_
        refine s_goto C dX13_item_48 52 (by decide) ?_
        refine s_r ?_
        refine s_lv [1, 0] rfl ?_
        exact hK13 1
      · refine s_iload_n C dX13_item_23 24 rfl 0 rfl ?_
        refine s_bipush (v := 120) C dX13_item_24 (by decide) 26 rfl ?_
        refine s_icmp_eq C dX13_item_26 47 29 (by decide) rfl ?_ ?_
        · refine s_iconst (v := 1) C dX13_item_47 (by decide) 48 rfl ?_
          refine s_goto C dX13_item_48 52 (by decide) ?_
          refine s_r ?_
          refine s_lv [1, 0] rfl ?_
          exact hK13 1
        · refine s_iload_n C dX13_item_29 30 rfl 0 rfl ?_
          refine s_bipush (v := 118) C dX13_item_30 (by decide) 32 rfl ?_
          refine s_icmp_eq C dX13_item_32 47 35 (by decide) rfl ?_ ?_
          · refine s_iconst (v := 1) C dX13_item_47 (by decide) 48 rfl ?_
            refine s_goto C dX13_item_48 52 (by decide) ?_
            refine s_r ?_
            refine s_lv [1, 0] rfl ?_
            exact hK13 1
          · refine s_iload_n C dX13_item_35 36 rfl 0 rfl ?_
            refine s_bipush (v := 102) C dX13_item_36 (by decide) 38 rfl ?_
            refine s_icmp_eq C dX13_item_38 47 41 (by decide) rfl ?_ ?_
            · refine s_iconst (v := 1) C dX13_item_47 (by decide) 48 rfl ?_
              refine s_goto C dX13_item_48 52 (by decide) ?_
              refine s_r ?_
              refine s_lv [1, 0] rfl ?_
              exact hK13 1
            · refine s_iload_n C dX13_item_41 42 rfl 0 rfl ?_
              refine s_bipush (v := 43) C dX13_item_42 (by decide) 44 rfl ?_
              refine s_icmp_ne C dX13_item_44 51 47 (by decide) rfl ?_ ?_
              · refine s_iconst (v := 1) C dX13_item_47 (by decide) 48 rfl ?_
                refine s_goto C dX13_item_48 52 (by decide) ?_
                refine s_r ?_
                refine s_lv [1, 0] rfl ?_
                exact hK13 1
              · refine s_iconst (v := 0) C dX13_item_51 (by decide) 52 rfl ?_
                refine s_r ?_
                refine s_lv [1, 0] rfl ?_
                exact hK13 0
  · refine s_aload_n C dX13_item_61 62 rfl 1 rfl ?_
    refine s_call_i (rn_V (As := []) C (ct_at hR hA (ct_on (ct_X13_module g TA a0))) (rv_on C hR (q := vw_8) rfl) (lw_V q1206 q1208 qs19 q138 q1209) ⟨rfl, nv_X13_module⟩ ⟨by decide, by decide⟩ rfl (bl rfl) dX13_item_62) 65 rfl (fun x3 => ?_)
    refine s_istore_n C dX13_item_65 rfl (by decide) 66 rfl [(2, .int x3), (1, .int x1), (0, .ref a0)] rfl ?_
    refine s_aload_n C dX13_item_66 67 rfl 2 rfl ?_
    refine s_aload_n C dX13_item_67 68 rfl 2 rfl ?_
    refine s_call_i (rn_V (As := []) C (ct_at hR hA (ct_on (ct_X13_here g TA a0))) (rv_on C hR (q := vw_8) rfl) (lw_V q1151 q1153 qs15 q138 q1154) ⟨rfl, nv_X13_here⟩ ⟨by decide, by decide⟩ rfl (bl rfl) dX13_item_68) 71 rfl (fun x4 => ?_)
    refine s_bipush (v := 62) C dX13_item_71 (by decide) 73 rfl ?_
    refine s_cut (J := 81) (LJ := (fun (v5 : Int32) => [(0, .ref a0), (2, .int x3)])) (SJ := (fun (v5 : Int32) => [.int v5, .ref a0])) (fun v5 => ?_) (fun _ _ hK6 => ?_)
    · refine s_call_v (rn_V (As := [.int v5]) C (ct_at hR hA (ct_on (ct_X13_step g TA a0 v5))) (rv_on C hR (q := vw_8) rfl) (lw_V q1170 q1172 qs16 q138 q1173) ⟨rfl, nv_X13_step⟩ ⟨by decide, by decide⟩ rfl (bl rfl) dX13_item_81) 84 rfl ?_
      refine s_aload_n C dX13_item_84 85 rfl 0 rfl ?_
      refine s_call_i (rn_V (As := []) C (ct_at hR hA (ct_on (ct_X13_module g TA a0))) (rv_on C hR (q := vw_8) rfl) (lw_V q1206 q1208 qs19 q138 q1209) ⟨rfl, nv_X13_module⟩ ⟨by decide, by decide⟩ rfl (bl rfl) dX13_item_85) 88 rfl (fun x8 => ?_)
      refine s_istore_n C dX13_item_88 rfl (by decide) 89 rfl [(3, .int x8), (0, .ref a0), (2, .int x3)] rfl ?_
      refine s_new C hR cd_9 rfl df_9 q1178 q1179 q139 dX13_item_89 92 rfl (fun x9 => ?_)
      refine s_dup C dX13_item_92 rfl 93 rfl ?_
      refine s_bipush (v := 62) C dX13_item_93 (by decide) 95 rfl ?_
      refine s_iload_n C dX13_item_95 96 rfl 2 rfl ?_
      refine s_iload_n C dX13_item_96 97 rfl 0 rfl ?_
      refine s_aload_n C dX13_item_97 98 rfl 1 rfl ?_
      refine s_call_i (rn_V (As := []) C (ct_at hR hA (ct_on (ct_X13_input g TA a0))) (rv_on C hR (q := vw_8) rfl) (lw_V q1210 q1212 qs20 q138 q1213) ⟨rfl, nv_X13_input⟩ ⟨by decide, by decide⟩ rfl (bl rfl) dX13_item_98) 101 rfl (fun x10 => ?_)
      refine s_call_v (rn_I (As := [.int 62, .int x3, .int x8, .int x10]) C (ct_at hR hA (ct_X14_init g TA x9 62 x3 x8 x10)) q1185 q1186 q139 q1187 rfl nv_X14_init ⟨by decide, by decide⟩ rfl (bl rfl) dX13_item_101) 104 rfl ?_
      exact s_aret C rfl (Or.inl ⟨_, rfl⟩) dX13_item_104
    · refine s_icmp_ne C dX13_item_73 80 76 (by decide) rfl ?_ ?_
      · refine s_iconst (v := 1) C dX13_item_76 (by decide) 77 rfl ?_
        refine s_goto C dX13_item_77 81 (by decide) ?_
        refine s_r ?_
        refine s_lv [2, 0] rfl ?_
        exact hK6 1
      · refine s_iconst (v := 0) C dX13_item_80 (by decide) 81 rfl ?_
        refine s_r ?_
        refine s_lv [2, 0] rfl ?_
        exact hK6 0
theorem nv_X13_read : yX13_read.cls ≠ "java/lang/invoke/MethodHandle" ∧ yX13_read.cls ≠ "java/lang/invoke/VarHandle" ∧ (parseMethodDescriptor yX13_read.desc).map (fun d => d.parameters.length) = some 0 := by decide +kernel
theorem ct_X13_read {l : Launch} (g : sm_G) (TA : Nat → Prop) (a0 : Nat) : sm_CT l g (so_R g TA) (so_A g TA) yX13_read cX13_read 1 (some .int) 9 199 [.ref a0] em_i (f_X13_read g a0) := by
  refine sm_of (own := "PatchCords$Reader") rfl rfl (bl rfl) (fun Y C hR hA hl hm => ?_)
  subst hl
  refine s_lv (L' := [(0, .ref a0)]) [0] rfl ?_
  refine s_top ?_
  unfold f_X13_read
  refine s_aload_n C dX13_read_0 1 rfl 0 rfl ?_
  refine s_getR C hR fd_PatchCords_Reader_items (Or.inl q1130) dX13_read_1 4 rfl (fun x1 => ?_)
  refine s_aload_n C dX13_read_4 5 rfl 0 rfl ?_
  refine s_call_r (rn_V (As := []) C (ct_at hR hA (ct_on (ct_X13_item g TA a0))) (rv_on C hR (q := vw_8) rfl) (lw_V q1147 q1149 qs14 q138 q1150) ⟨rfl, nv_X13_item⟩ ⟨by decide, by decide⟩ rfl (bl rfl) dX13_read_5) 8 rfl (fun x2 => ?_)
  refine s_call_i (rn_V (As := [.ref x2]) C (ct_at hR hA (ct_on (ct_J2_add g TA x1 x2))) (rv_on C hR (q := vw_10) rfl) (lw_V q1218 q454 q455 q105 q456) ⟨rfl, nv_J2_add⟩ ⟨by decide, by decide⟩ rfl (bl rfl) dX13_read_8) 11 rfl (fun x3 => ?_)
  refine s_pop C dX13_read_11 rfl 12 rfl ?_
  refine s_lv [0] rfl ?_
  refine s_loop (fun (s4 : Unit) => [(0, .ref a0)]) (fun (v19 : Unit) => [(0, .ref a0)]) 73 () rfl (fun v19 => ?_) (fun _ s4 hk5 hx6 => ?_)
  · refine s_aload_n C dX13_read_73 74 rfl 0 rfl ?_
    refine s_getI C hR fd_PatchCords_Reader_failed (Or.inl q1133) dX13_read_74 77 rfl (fun x20 => ?_)
    refine s_cut (J := 88) (LJ := (fun (v21 : Int32) => [])) (SJ := (fun (v21 : Int32) => [.int v21])) (fun v21 => ?_) (fun _ _ hK22 => ?_)
    · exact s_iret C rfl rfl dX13_read_88
    · refine s_if_eq C dX13_read_77 87 80 (by decide) rfl ?_ ?_
      · refine s_iconst (v := (-1)) C dX13_read_87 (by decide) 88 rfl ?_
        refine s_r ?_
        refine s_lv [] rfl ?_
        exact hK22 (-1)
      · refine s_aload_n C dX13_read_80 81 rfl 0 rfl ?_
        refine s_getI C hR fd_PatchCords_Reader_at (Or.inl q1132) dX13_read_81 84 rfl (fun x23 => ?_)
        refine s_goto C dX13_read_84 88 (by decide) ?_
        refine s_r ?_
        refine s_lv [] rfl ?_
        exact hK22 x23
  · refine s_aload_n C dX13_read_12 13 rfl 0 rfl ?_
    refine s_getI C hR fd_PatchCords_Reader_failed (Or.inl q1133) dX13_read_13 16 rfl (fun x7 => ?_)
    refine s_if_ne C dX13_read_16 73 19 (by decide) rfl ?_ ?_
    · refine s_aload_n C dX13_read_19 20 rfl 0 rfl ?_
      refine s_getI C hR fd_PatchCords_Reader_at (Or.inl q1132) dX13_read_20 23 rfl (fun x8 => ?_)
      refine s_aload_n C dX13_read_23 24 rfl 0 rfl ?_
      refine s_getR C hR fd_PatchCords_Reader_source (Or.inl q1129) dX13_read_24 27 rfl (fun x9 => ?_)
      refine s_call_i (rn_V (As := []) C (ct_at hR hA (ct_on (ct_J5_length g TA x9))) (rv_on C hR (q := vw_11) rfl) (lw_V q1155 q787 q788 q109 q789) ⟨rfl, nv_J5_length⟩ ⟨by decide, by decide⟩ rfl (bl rfl) dX13_read_27) 30 rfl (fun x10 => ?_)
      refine s_icmp_ge C dX13_read_30 73 33 (by decide) rfl ?_ ?_
      · refine s_r ?_
        refine s_lv [0] rfl ?_
        exact hx6 ()
      · refine s_aload_n C dX13_read_33 34 rfl 0 rfl ?_
        refine s_aload_n C dX13_read_34 35 rfl 0 rfl ?_
        refine s_call_i (rn_V (As := []) C (ct_at hR hA (ct_on (ct_X13_here g TA a0))) (rv_on C hR (q := vw_8) rfl) (lw_V q1151 q1153 qs15 q138 q1154) ⟨rfl, nv_X13_here⟩ ⟨by decide, by decide⟩ rfl (bl rfl) dX13_read_35) 38 rfl (fun x11 => ?_)
        refine s_bipush (v := 59) C dX13_read_38 (by decide) 40 rfl ?_
        refine s_cut (J := 48) (LJ := (fun (v12 : Int32) => [(0, .ref a0)])) (SJ := (fun (v12 : Int32) => [.int v12, .ref a0])) (fun v12 => ?_) (fun _ _ hK13 => ?_)
        · refine s_call_v (rn_V (As := [.int v12]) C (ct_at hR hA (ct_on (ct_X13_step g TA a0 v12))) (rv_on C hR (q := vw_8) rfl) (lw_V q1170 q1172 qs16 q138 q1173) ⟨rfl, nv_X13_step⟩ ⟨by decide, by decide⟩ rfl (bl rfl) dX13_read_48) 51 rfl ?_
          refine s_aload_n C dX13_read_51 52 rfl 0 rfl ?_
          refine s_getI C hR fd_PatchCords_Reader_failed (Or.inl q1133) dX13_read_52 55 rfl (fun x15 => ?_)
          refine s_if_ne C dX13_read_55 12 58 (by decide) rfl ?_ ?_
          · refine s_aload_n C dX13_read_58 59 rfl 0 rfl ?_
            refine s_getR C hR fd_PatchCords_Reader_items (Or.inl q1130) dX13_read_59 62 rfl (fun x16 => ?_)
            refine s_aload_n C dX13_read_62 63 rfl 0 rfl ?_
            refine s_call_r (rn_V (As := []) C (ct_at hR hA (ct_on (ct_X13_item g TA a0))) (rv_on C hR (q := vw_8) rfl) (lw_V q1147 q1149 qs14 q138 q1150) ⟨rfl, nv_X13_item⟩ ⟨by decide, by decide⟩ rfl (bl rfl) dX13_read_63) 66 rfl (fun x17 => ?_)
            refine s_call_i (rn_V (As := [.ref x17]) C (ct_at hR hA (ct_on (ct_J2_add g TA x16 x17))) (rv_on C hR (q := vw_10) rfl) (lw_V q1218 q454 q455 q105 q456) ⟨rfl, nv_J2_add⟩ ⟨by decide, by decide⟩ rfl (bl rfl) dX13_read_66) 69 rfl (fun x18 => ?_)
            refine s_pop C dX13_read_69 rfl 70 rfl ?_
            refine s_goto C dX13_read_70 12 (by decide) ?_
            refine s_r ?_
            refine s_lv [0] rfl ?_
            exact hk5 ()
          · refine s_r ?_
            refine s_lv [0] rfl ?_
            exact hk5 ()
        · refine s_icmp_ne C dX13_read_40 47 43 (by decide) rfl ?_ ?_
          · refine s_iconst (v := 1) C dX13_read_43 (by decide) 44 rfl ?_
            refine s_goto C dX13_read_44 48 (by decide) ?_
            refine s_r ?_
            refine s_lv [0] rfl ?_
            exact hK13 1
          · refine s_iconst (v := 0) C dX13_read_47 (by decide) 48 rfl ?_
            refine s_r ?_
            refine s_lv [0] rfl ?_
            exact hK13 0
    · refine s_r ?_
      refine s_lv [0] rfl ?_
      exact hx6 ()
theorem nv_X1_firstError : yX1_firstError.cls ≠ "java/lang/invoke/MethodHandle" ∧ yX1_firstError.cls ≠ "java/lang/invoke/VarHandle" ∧ (parseMethodDescriptor yX1_firstError.desc).map (fun d => d.parameters.length) = some 0 := by decide +kernel
theorem ct_X1_firstError {l : Launch} (g : sm_G) (TA : Nat → Prop) (a0 : Nat) : sm_CT l g (so_R g TA) (so_A g TA) yX1_firstError cX1_firstError 1 (some .int) 10 219 [.ref a0] em_i (f_X1_firstError g a0) := by
  refine sm_of (own := "PatchCords") rfl rfl (bl rfl) (fun Y C hR hA hl hm => ?_)
  subst hl
  refine s_lv (L' := [(0, .ref a0)]) [0] rfl ?_
  refine s_top ?_
  unfold f_X1_firstError
  refine s_new C hR cd_8 rfl df_8 q1121 q1122 q138 dX1_firstError_0 3 rfl (fun x1 => ?_)
  refine s_dup C dX1_firstError_3 rfl 4 rfl ?_
  refine s_aload_n C dX1_firstError_4 5 rfl 0 rfl ?_
  refine s_getR C hR fd_PatchCords_text (Or.inl q276) dX1_firstError_5 8 rfl (fun x2 => ?_)
  refine s_call_v (rn_I (As := [.ref x2]) C (ct_at hR hA (ct_X13_init g TA x1 x2)) q1123 q1124 q138 q1125 rfl nv_X13_init ⟨by decide, by decide⟩ rfl (bl rfl) dX1_firstError_8) 11 rfl ?_
  refine s_call_i (rn_V (As := []) C (ct_at hR hA (ct_on (ct_X13_read g TA x1))) (rv_on C hR (q := vw_8) rfl) (lw_V q1143 q1144 q1145 q138 q1146) ⟨rfl, nv_X13_read⟩ ⟨by decide, by decide⟩ rfl (bl rfl) dX1_firstError_11) 14 rfl (fun x4 => ?_)
  exact s_iret C rfl rfl dX1_firstError_14
theorem nv_X1_add : yX1_add.cls ≠ "java/lang/invoke/MethodHandle" ∧ yX1_add.cls ≠ "java/lang/invoke/VarHandle" ∧ (parseMethodDescriptor yX1_add.desc).map (fun d => d.parameters.length) = some 2 := by decide +kernel
theorem ct_X1_add {l : Launch} (g : sm_G) (TA : Nat → Prop) (p0 : Int64) (p1 : Nat) : sm_CT l g (so_R g TA) (so_A g TA) yX1_add cX1_add 6 (some .long) 0 0 [.long p0, .ref p1] em_l (f_X1_add g p0 p1) := by
  refine sm_of (own := "PatchCords") rfl rfl (bl rfl) (fun Y C hR hA hl hm => ?_)
  subst hl
  refine s_lv (L' := [(0, .long p0), (2, .ref p1)]) [0, 1] rfl ?_
  refine s_top ?_
  unfold f_X1_add
  refine s_lload_n C dX1_add_0 1 rfl 0 rfl ?_
  refine s_lstore_n C dX1_add_1 rfl (by decide) 2 rfl [(3, .long p0), (0, .long p0), (2, .ref p1)] rfl ?_
  refine s_iconst (v := 0) C dX1_add_2 (by decide) 3 rfl ?_
  refine s_istore C dX1_add_3 (by decide) 5 rfl [(5, .int 0), (3, .long p0), (0, .long p0), (2, .ref p1)] rfl ?_
  refine s_lv [3, 1, 0] rfl ?_
  refine s_loop (fun (s1 : Int64 × Int32) => [(2, .ref p1), (3, .long s1.1), (5, .int s1.2)]) (fun (v7 : Int64) => [(3, .long v7)]) 30 (p0, 0) rfl (fun v7 => ?_) (fun _ s1 hk2 hx3 => ?_)
  · refine s_lload_n C dX1_add_30 31 rfl 0 rfl ?_
    exact s_lret C rfl dX1_add_31
  · refine s_iload C dX1_add_5 7 rfl 2 rfl ?_
    refine s_aload_n C dX1_add_7 8 rfl 0 rfl ?_
    refine s_alen C hR dX1_add_8 9 rfl (fun x4 => ?_)
    refine s_icmp_ge C dX1_add_9 30 12 (by decide) rfl ?_ ?_
    · refine s_r ?_
      refine s_lv [1] rfl ?_
      exact hx3 s1.1
    · refine s_ldc2 (v := 31) C q1228 dX1_add_12 15 rfl ?_
      refine s_lload_n C dX1_add_15 16 rfl 1 rfl ?_
      refine s_lmul C dX1_add_16 17 rfl ?_
      refine s_aload_n C dX1_add_17 18 rfl 0 rfl ?_
      refine s_iload C dX1_add_18 20 rfl 2 rfl ?_
      refine s_iald C hR dX1_add_20 21 rfl (fun x5 => ?_)
      refine s_i2l C dX1_add_21 22 rfl ?_
      refine s_ladd C dX1_add_22 23 rfl ?_
      refine s_topl (fun x6 => ?_)
      refine s_lstore_n C dX1_add_23 rfl (by decide) 24 rfl [(3, .long x6), (2, .ref p1), (5, .int s1.2)] rfl ?_
      refine s_iinc C dX1_add_24 (s1.2 + 1) rfl 2 rfl (by decide) 27 rfl [(5, .int (s1.2 + 1)), (3, .long x6), (2, .ref p1)] rfl ?_
      refine s_goto C dX1_add_27 5 (by decide) ?_
      refine s_r ?_
      refine s_lv [2, 1, 0] rfl ?_
      exact hk2 (x6, s1.2 + 1)
theorem nv_X5_isSource : yX5_isSource.cls ≠ "java/lang/invoke/MethodHandle" ∧ yX5_isSource.cls ≠ "java/lang/invoke/VarHandle" ∧ (parseMethodDescriptor yX5_isSource.desc).map (fun d => d.parameters.length) = some 0 := by decide +kernel
theorem ct_X5_isSource {l : Launch} (g : sm_G) (TA : Nat → Prop) (a0 : Nat) : sm_CT l g (so_R g TA) (so_A g TA) yX5_isSource cX5_isSource 1 (some .boolean) 0 0 [.ref a0] em_i (f_X5_isSource g a0) := by
  refine sm_of (own := "PatchCords$Part") rfl rfl (bl rfl) (fun Y C hR hA hl hm => ?_)
  subst hl
  refine s_lv (L' := []) [] rfl ?_
  refine s_top ?_
  unfold f_X5_isSource
  refine s_iconst (v := 0) C dX5_isSource_0 (by decide) 1 rfl ?_
  exact s_iret C rfl rfl dX5_isSource_1
theorem nv_X8_isSource : yX8_isSource.cls ≠ "java/lang/invoke/MethodHandle" ∧ yX8_isSource.cls ≠ "java/lang/invoke/VarHandle" ∧ (parseMethodDescriptor yX8_isSource.desc).map (fun d => d.parameters.length) = some 0 := by decide +kernel
theorem ct_X8_isSource {l : Launch} (g : sm_G) (TA : Nat → Prop) (a0 : Nat) : sm_CT l g (so_R g TA) (so_A g TA) yX8_isSource cX8_isSource 1 (some .boolean) 0 0 [.ref a0] em_i (f_X8_isSource g a0) := by
  refine sm_of (own := "PatchCords$Integrator") rfl rfl (bl rfl) (fun Y C hR hA hl hm => ?_)
  subst hl
  refine s_lv (L' := []) [] rfl ?_
  refine s_top ?_
  unfold f_X8_isSource
  refine s_iconst (v := 1) C dX8_isSource_0 (by decide) 1 rfl ?_
  exact s_iret C rfl rfl dX8_isSource_1
theorem nv_X11_isSource : yX11_isSource.cls ≠ "java/lang/invoke/MethodHandle" ∧ yX11_isSource.cls ≠ "java/lang/invoke/VarHandle" ∧ (parseMethodDescriptor yX11_isSource.desc).map (fun d => d.parameters.length) = some 0 := by decide +kernel
theorem ct_X11_isSource {l : Launch} (g : sm_G) (TA : Nat → Prop) (a0 : Nat) : sm_CT l g (so_R g TA) (so_A g TA) yX11_isSource cX11_isSource 1 (some .boolean) 0 0 [.ref a0] em_i (f_X11_isSource g a0) := by
  refine sm_of (own := "PatchCords$Steady") rfl rfl (bl rfl) (fun Y C hR hA hl hm => ?_)
  subst hl
  refine s_lv (L' := []) [] rfl ?_
  refine s_top ?_
  unfold f_X11_isSource
  refine s_iconst (v := 1) C dX11_isSource_0 (by decide) 1 rfl ?_
  exact s_iret C rfl rfl dX11_isSource_1
theorem nv_X2_highest : yX2_highest.cls ≠ "java/lang/invoke/MethodHandle" ∧ yX2_highest.cls ≠ "java/lang/invoke/VarHandle" ∧ (parseMethodDescriptor yX2_highest.desc).map (fun d => d.parameters.length) = some 2 := by decide +kernel
theorem ct_X2_highest {l : Launch} (g : sm_G) (TA : Nat → Prop) (p0 : Nat) (p1 : Nat) : sm_CT l g (so_R g TA) (so_A g TA) yX2_highest cX2_highest 4 (some .int) 1 13 [.ref p0, .ref p1] em_i (f_X2_highest g p0 p1) := by
  refine sm_of (own := "PatchCords$Panel") rfl rfl (bl rfl) (fun Y C hR hA hl hm => ?_)
  subst hl
  refine s_lv (L' := [(0, .ref p0), (1, .ref p1)]) [0, 1] rfl ?_
  refine s_top ?_
  unfold f_X2_highest
  refine s_iconst (v := 0) C dX2_highest_0 (by decide) 1 rfl ?_
  refine s_istore_n C dX2_highest_1 rfl (by decide) 2 rfl [(2, .int 0), (0, .ref p0), (1, .ref p1)] rfl ?_
  refine s_iconst (v := 0) C dX2_highest_2 (by decide) 3 rfl ?_
  refine s_istore_n C dX2_highest_3 rfl (by decide) 4 rfl [(3, .int 0), (2, .int 0), (0, .ref p0), (1, .ref p1)] rfl ?_
  refine s_lv [2, 3, 1, 0] rfl ?_
  refine s_loop (fun (s1 : Int32 × Int32) => [(0, .ref p0), (1, .ref p1), (2, .int s1.1), (3, .int s1.2)]) (fun (v13 : Int32) => [(2, .int v13)]) 46 (0, 0) rfl (fun v13 => ?_) (fun _ s1 hk2 hx3 => ?_)
  · refine s_iload_n C dX2_highest_46 47 rfl 0 rfl ?_
    exact s_iret C rfl rfl dX2_highest_47
  · refine s_iload_n C dX2_highest_4 5 rfl 3 rfl ?_
    refine s_aload_n C dX2_highest_5 6 rfl 1 rfl ?_
    refine s_getR C hR fd_PatchCords_Part_cords (Or.inr (Or.inl ⟨_, q341⟩)) dX2_highest_6 9 rfl (fun x4 => ?_)
    refine s_alen C hR dX2_highest_9 10 rfl (fun x5 => ?_)
    refine s_icmp_ge C dX2_highest_10 46 13 (by decide) rfl ?_ ?_
    · refine s_r ?_
      refine s_lv [2] rfl ?_
      exact hx3 s1.1
    · refine s_aload_n C dX2_highest_13 14 rfl 1 rfl ?_
      refine s_getR C hR fd_PatchCords_Part_cords (Or.inr (Or.inl ⟨_, q341⟩)) dX2_highest_14 17 rfl (fun x6 => ?_)
      refine s_iload_n C dX2_highest_17 18 rfl 3 rfl ?_
      refine s_iald C hR dX2_highest_18 19 rfl (fun x7 => ?_)
      refine s_iconst (v := (-1)) C dX2_highest_19 (by decide) 20 rfl ?_
      refine s_cut (J := 39) (LJ := (fun (v8 : Int32) => [(0, .ref p0), (1, .ref p1), (3, .int s1.2)])) (SJ := (fun (v8 : Int32) => [.int v8])) (fun v8 => ?_) (fun _ _ hK9 => ?_)
      · refine s_istore_n C dX2_highest_39 rfl (by decide) 40 rfl [(2, .int v8), (0, .ref p0), (1, .ref p1), (3, .int s1.2)] rfl ?_
        refine s_iinc C dX2_highest_40 (s1.2 + 1) rfl 3 rfl (by decide) 43 rfl [(3, .int (s1.2 + 1)), (2, .int v8), (0, .ref p0), (1, .ref p1)] rfl ?_
        refine s_goto C dX2_highest_43 4 (by decide) ?_
        refine s_r ?_
        refine s_lv [2, 3, 1, 0] rfl ?_
        exact hk2 (v8, s1.2 + 1)
      · refine s_icmp_ne C dX2_highest_20 27 23 (by decide) rfl ?_ ?_
        · refine s_iload_n C dX2_highest_23 24 rfl 2 rfl ?_
          refine s_goto C dX2_highest_24 39 (by decide) ?_
          refine s_r ?_
          refine s_lv [0, 1, 3] rfl ?_
          exact hK9 s1.1
        · refine s_iload_n C dX2_highest_27 28 rfl 2 rfl ?_
          refine s_aload_n C dX2_highest_28 29 rfl 0 rfl ?_
          refine s_aload_n C dX2_highest_29 30 rfl 1 rfl ?_
          refine s_getR C hR fd_PatchCords_Part_cords (Or.inr (Or.inl ⟨_, q341⟩)) dX2_highest_30 33 rfl (fun x10 => ?_)
          refine s_iload_n C dX2_highest_33 34 rfl 3 rfl ?_
          refine s_iald C hR dX2_highest_34 35 rfl (fun x11 => ?_)
          refine s_iald C hR dX2_highest_35 36 rfl (fun x12 => ?_)
          refine s_max C q776 q473 q129 q474 (by decide) (bl rfl) dX2_highest_36 39 rfl ?_
          refine s_r ?_
          refine s_lv [0, 1, 3] rfl ?_
          exact hK9 (j_max s1.1 x12)
theorem nv_X2_levels : yX2_levels.cls ≠ "java/lang/invoke/MethodHandle" ∧ yX2_levels.cls ≠ "java/lang/invoke/VarHandle" ∧ (parseMethodDescriptor yX2_levels.desc).map (fun d => d.parameters.length) = some 0 := by decide +kernel
theorem ct_X2_levels {l : Launch} (g : sm_G) (TA : Nat → Prop) (a0 : Nat) : sm_CT l g (so_R g TA) (so_A g TA) yX2_levels cX2_levels 5 (some (.array .int)) 4 85 [.ref a0] em_r (f_X2_levels g a0) := by
  refine sm_of (own := "PatchCords$Panel") rfl rfl (bl rfl) (fun Y C hR hA hl hm => ?_)
  subst hl
  refine s_lv (L' := [(0, .ref a0)]) [0] rfl ?_
  refine s_top ?_
  unfold f_X2_levels
  refine s_bipush (v := 16) C dX2_levels_0 (by decide) 2 rfl ?_
  refine s_newa C hR 0 .int rfl (fun _ => rfl) (fun _ h => by cases h) (by decide) q237 dX2_levels_2 4 rfl (fun x1 => ?_)
  refine s_astore_n C dX2_levels_4 rfl (by decide) 5 rfl [(1, .ref x1), (0, .ref a0)] rfl ?_
  refine s_iconst (v := 1) C dX2_levels_5 (by decide) 6 rfl ?_
  refine s_istore_n C dX2_levels_6 rfl (by decide) 7 rfl [(2, .int 1), (1, .ref x1), (0, .ref a0)] rfl ?_
  refine s_lv [2, 1, 0] rfl ?_
  refine s_loop (fun (s2 : Int32) => [(0, .ref a0), (1, .ref x1), (2, .int s2)]) (fun (v19 : Unit) => [(1, .ref x1)]) 83 1 rfl (fun v19 => ?_) (fun _ s2 hk3 hx4 => ?_)
  · refine s_aload_n C dX2_levels_83 84 rfl 0 rfl ?_
    exact s_aret C rfl (Or.inr ⟨_, rfl⟩) dX2_levels_84
  · refine s_iload_n C dX2_levels_7 8 rfl 2 rfl ?_
    refine s_if_eq C dX2_levels_8 83 11 (by decide) rfl ?_ ?_
    · refine s_r ?_
      refine s_lv [1] rfl ?_
      exact hx4 ()
    · refine s_iconst (v := 0) C dX2_levels_11 (by decide) 12 rfl ?_
      refine s_istore_n C dX2_levels_12 rfl (by decide) 13 rfl [(2, .int 0), (0, .ref a0), (1, .ref x1)] rfl ?_
      refine s_iconst (v := 0) C dX2_levels_13 (by decide) 14 rfl ?_
      refine s_istore_n C dX2_levels_14 rfl (by decide) 15 rfl [(3, .int 0), (2, .int 0), (0, .ref a0), (1, .ref x1)] rfl ?_
      refine s_lv [2, 3, 1, 0] rfl ?_
      refine s_loop (fun (s5 : Int32 × Int32) => [(0, .ref a0), (1, .ref x1), (2, .int s5.1), (3, .int s5.2)]) (fun (v18 : Int32) => [(0, .ref a0), (1, .ref x1), (2, .int v18)]) 80 (0, 0) rfl (fun v18 => ?_) (fun _ s5 hk6 hx7 => ?_)
      · refine s_goto C dX2_levels_80 7 (by decide) ?_
        refine s_r ?_
        refine s_lv [0, 1, 2] rfl ?_
        exact hk3 v18
      · refine s_iload_n C dX2_levels_15 16 rfl 3 rfl ?_
        refine s_aload_n C dX2_levels_16 17 rfl 0 rfl ?_
        refine s_call_i (rn_V (As := []) C (ct_at hR hA (ct_on (ct_X2_size g TA a0))) (rv_on C hR (q := vw_1) rfl) (lw_V q561 q526 q527 q102 q528) ⟨rfl, nv_X2_size⟩ ⟨by decide, by decide⟩ rfl (bl rfl) dX2_levels_17) 20 rfl (fun x8 => ?_)
        refine s_icmp_ge C dX2_levels_20 80 23 (by decide) rfl ?_ ?_
        · refine s_r ?_
          refine s_lv [0, 1, 2] rfl ?_
          exact hx7 s5.1
        · refine s_aload_n C dX2_levels_23 24 rfl 0 rfl ?_
          refine s_iload_n C dX2_levels_24 25 rfl 3 rfl ?_
          refine s_call_r (rn_V (As := [.int s5.2]) C (ct_at hR hA (ct_on (ct_X2_part g TA a0 s5.2))) (rv_on C hR (q := vw_1) rfl) (lw_V q562 q563 q564 q102 q565) ⟨rfl, nv_X2_part⟩ ⟨by decide, by decide⟩ rfl (bl rfl) dX2_levels_25) 28 rfl (fun x9 => ?_)
          refine s_call_i (rn_D (by
              intro ci hci
              simp only [List.mem_cons, List.not_mem_nil, or_false] at hci
              rcases hci with rfl | rfl | rfl | rfl | rfl | rfl
              · exact (rn_U (As := []) C (ct_at hR hA (ct_on (ct_X5_isSource g TA x9))) (rv_on C hR (q := vw_2) rfl) q1237 q1239 (va_Decl.of (C.w _ q1238) (C.w _ q1250)) (C.w _ q1249) q1238 q120 q1250 ⟨by decide +kernel, by decide +kernel, (show (parseMethodDescriptor "()Z").map (fun d => d.parameters.length) = some 0 by decide +kernel)⟩ ⟨by decide, by decide⟩ rfl (bl rfl) dX2_levels_28)
              · exact (rn_U (As := []) C (ct_at hR hA (ct_on (ct_X8_isSource g TA x9))) (rv_on C hR (q := vw_3) rfl) q1237 q1239 (va_Decl.of (C.w _ q1238) (C.w _ q1250)) (C.w _ q1241) q1242 q123 q1243 ⟨by decide +kernel, by decide +kernel, (show (parseMethodDescriptor "()Z").map (fun d => d.parameters.length) = some 0 by decide +kernel)⟩ ⟨by decide, by decide⟩ rfl (bl rfl) dX2_levels_28)
              · exact (rn_U (As := []) C (ct_at hR hA (ct_on (ct_X5_isSource g TA x9))) (rv_on C hR (q := vw_4) rfl) q1237 q1239 (va_Decl.of (C.w _ q1238) (C.w _ q1250)) (C.w _ q1244) q1238 q120 q1250 ⟨by decide +kernel, by decide +kernel, (show (parseMethodDescriptor "()Z").map (fun d => d.parameters.length) = some 0 by decide +kernel)⟩ ⟨by decide, by decide⟩ rfl (bl rfl) dX2_levels_28)
              · exact (rn_U (As := []) C (ct_at hR hA (ct_on (ct_X5_isSource g TA x9))) (rv_on C hR (q := vw_5) rfl) q1237 q1239 (va_Decl.of (C.w _ q1238) (C.w _ q1250)) (C.w _ q1245) q1238 q120 q1250 ⟨by decide +kernel, by decide +kernel, (show (parseMethodDescriptor "()Z").map (fun d => d.parameters.length) = some 0 by decide +kernel)⟩ ⟨by decide, by decide⟩ rfl (bl rfl) dX2_levels_28)
              · exact (rn_U (As := []) C (ct_at hR hA (ct_on (ct_X5_isSource g TA x9))) (rv_on C hR (q := vw_6) rfl) q1237 q1239 (va_Decl.of (C.w _ q1238) (C.w _ q1250)) (C.w _ q1240) q1238 q120 q1250 ⟨by decide +kernel, by decide +kernel, (show (parseMethodDescriptor "()Z").map (fun d => d.parameters.length) = some 0 by decide +kernel)⟩ ⟨by decide, by decide⟩ rfl (bl rfl) dX2_levels_28)
              · exact (rn_U (As := []) C (ct_at hR hA (ct_on (ct_X11_isSource g TA x9))) (rv_on C hR (q := vw_7) rfl) q1237 q1239 (va_Decl.of (C.w _ q1238) (C.w _ q1250)) (C.w _ q1246) q1247 q126 q1248 ⟨by decide +kernel, by decide +kernel, (show (parseMethodDescriptor "()Z").map (fun d => d.parameters.length) = some 0 by decide +kernel)⟩ ⟨by decide, by decide⟩ rfl (bl rfl) dX2_levels_28))) 31 rfl (fun x10 => ?_)
          refine s_cut (J := 49) (LJ := (fun (v11 : Int32) => [(0, .ref a0), (1, .ref x1), (2, .int s5.1), (3, .int s5.2)])) (SJ := (fun (v11 : Int32) => [.int v11])) (fun v11 => ?_) (fun _ _ hK12 => ?_)
          · refine s_istore C dX2_levels_49 (by decide) 51 rfl [(4, .int v11), (0, .ref a0), (1, .ref x1), (2, .int s5.1), (3, .int s5.2)] rfl ?_
            refine s_iload_n C dX2_levels_51 52 rfl 3 rfl ?_
            refine s_cut (J := 68) (LJ := (fun (v15 : Int32) => [(0, .ref a0), (1, .ref x1), (3, .int s5.2), (4, .int v11)])) (SJ := (fun (v15 : Int32) => [.int v15])) (fun v15 => ?_) (fun _ _ hK16 => ?_)
            · refine s_istore_n C dX2_levels_68 rfl (by decide) 69 rfl [(2, .int v15), (0, .ref a0), (1, .ref x1), (3, .int s5.2), (4, .int v11)] rfl ?_
              refine s_aload_n C dX2_levels_69 70 rfl 2 rfl ?_
              refine s_iload_n C dX2_levels_70 71 rfl 3 rfl ?_
              refine s_iload C dX2_levels_71 73 rfl 4 rfl ?_
              refine s_iast C hR hA dX2_levels_73 74 rfl ?_
              refine s_iinc C dX2_levels_74 (s5.2 + 1) rfl 3 rfl (by decide) 77 rfl [(3, .int (s5.2 + 1)), (2, .int v15), (0, .ref a0), (1, .ref x1), (4, .int v11)] rfl ?_
              refine s_goto C dX2_levels_77 15 (by decide) ?_
              refine s_r ?_
              refine s_lv [2, 3, 1, 0] rfl ?_
              exact hk6 (v15, s5.2 + 1)
            · refine s_if_ne C dX2_levels_52 63 55 (by decide) rfl ?_ ?_
              · refine s_iload C dX2_levels_55 57 rfl 0 rfl ?_
                refine s_aload_n C dX2_levels_57 58 rfl 2 rfl ?_
                refine s_iload_n C dX2_levels_58 59 rfl 4 rfl ?_
                refine s_iald C hR dX2_levels_59 60 rfl (fun x17 => ?_)
                refine s_icmp_le C dX2_levels_60 67 63 (by decide) rfl ?_ ?_
                · refine s_iconst (v := 0) C dX2_levels_67 (by decide) 68 rfl ?_
                  refine s_r ?_
                  refine s_lv [1, 2, 4, 0] rfl ?_
                  exact hK16 0
                · refine s_iconst (v := 1) C dX2_levels_63 (by decide) 64 rfl ?_
                  refine s_goto C dX2_levels_64 68 (by decide) ?_
                  refine s_r ?_
                  refine s_lv [1, 2, 4, 0] rfl ?_
                  exact hK16 1
              · refine s_iconst (v := 1) C dX2_levels_63 (by decide) 64 rfl ?_
                refine s_goto C dX2_levels_64 68 (by decide) ?_
                refine s_r ?_
                refine s_lv [1, 2, 4, 0] rfl ?_
                exact hK16 1
          · refine s_if_eq C dX2_levels_31 38 34 (by decide) rfl ?_ ?_
            · refine s_iconst (v := 1) C dX2_levels_38 (by decide) 39 rfl ?_
              refine s_aload_n C dX2_levels_39 40 rfl 1 rfl ?_
              refine s_aload_n C dX2_levels_40 41 rfl 0 rfl ?_
              refine s_iload_n C dX2_levels_41 42 rfl 3 rfl ?_
              refine s_call_r (rn_V (As := [.int s5.2]) C (ct_at hR hA (ct_on (ct_X2_part g TA a0 s5.2))) (rv_on C hR (q := vw_1) rfl) (lw_V q562 q563 q564 q102 q565) ⟨rfl, nv_X2_part⟩ ⟨by decide, by decide⟩ rfl (bl rfl) dX2_levels_42) 45 rfl (fun x13 => ?_)
              refine s_call_i (rn_S (As := [.ref x1, .ref x13]) C (ct_at hR hA (ct_X2_highest g TA x1 x13)) (lw_S q1251 q1252 q102 q1253) nv_X2_highest ⟨by decide, by decide⟩ rfl (bl rfl) dX2_levels_45) 48 rfl (fun x14 => ?_)
              refine s_iadd C dX2_levels_48 49 rfl ?_
              refine s_r ?_
              refine s_lv [0, 1, 2, 3] rfl ?_
              exact hK12 (1 + x14)
            · refine s_iconst (v := 0) C dX2_levels_34 (by decide) 35 rfl ?_
              refine s_goto C dX2_levels_35 49 (by decide) ?_
              refine s_r ?_
              refine s_lv [0, 1, 2, 3] rfl ?_
              exact hK12 0
