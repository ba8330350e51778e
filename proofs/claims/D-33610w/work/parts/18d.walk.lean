/-! THE WALKS -/
theorem nv_X2_pass : yX2_pass.cls ≠ "java/lang/invoke/MethodHandle" ∧ yX2_pass.cls ≠ "java/lang/invoke/VarHandle" ∧ (parseMethodDescriptor yX2_pass.desc).map (fun d => d.parameters.length) = some 1 := by decide +kernel
theorem ct_X2_pass {l : Launch} (g : sm_G) (TA : Nat → Prop) (a0 : Nat) (p0 : Int32) : sm_CT l g (so_R g TA) (so_A g TA) yX2_pass cX2_pass 3 (some .int) 8 172 [.ref a0, .int p0] em_i (f_X2_pass g a0 p0) := by
  refine sm_of (own := "PatchCords$Panel") rfl rfl (bl rfl) (fun Y C hR hA hl hm => ?_)
  subst hl
  refine s_lv (L' := [(0, .ref a0), (1, .int p0)]) [0, 1] rfl ?_
  refine s_top ?_
  unfold f_X2_pass
  refine s_iconst (v := 0) C dX2_pass_0 (by decide) 1 rfl ?_
  refine s_istore_n C dX2_pass_1 rfl (by decide) 2 rfl [(2, .int 0), (0, .ref a0), (1, .int p0)] rfl ?_
  refine s_lv [1, 2, 0] rfl ?_
  refine s_loop (fun (s1 : Int32) => [(0, .ref a0), (1, .int p0), (2, .int s1)]) (fun (v6 : Int32) => [(2, .int v6)]) 25 0 rfl (fun v6 => ?_) (fun _ s1 hk2 hx3 => ?_)
  · refine s_iload_n C dX2_pass_25 26 rfl 0 rfl ?_
    exact s_iret C rfl rfl dX2_pass_26
  · refine s_iload_n C dX2_pass_2 3 rfl 2 rfl ?_
    refine s_iload_n C dX2_pass_3 4 rfl 1 rfl ?_
    refine s_icmp_ge C dX2_pass_4 25 7 (by decide) rfl ?_ ?_
    · refine s_r ?_
      refine s_lv [2] rfl ?_
      exact hx3 s1
    · refine s_aload_n C dX2_pass_7 8 rfl 0 rfl ?_
      refine s_getI C hR fd_PatchCords_Panel_mode (Or.inl q195) dX2_pass_8 11 rfl (fun x4 => ?_)
      refine s_iconst (v := 1) C dX2_pass_11 (by decide) 12 rfl ?_
      refine s_icmp_ne C dX2_pass_12 25 15 (by decide) rfl ?_ ?_
      · refine s_aload_n C dX2_pass_15 16 rfl 0 rfl ?_
        refine s_call_v (rn_V (As := []) C (ct_at hR hA (ct_on (ct_X2_step g TA a0))) (rv_on C hR (q := vw_1) rfl) (lw_V q735 q737 qs9 q102 q738) ⟨rfl, nv_X2_step⟩ ⟨by decide, by decide⟩ rfl (bl rfl) dX2_pass_16) 19 rfl ?_
        refine s_iinc C dX2_pass_19 (s1 + 1) rfl 2 rfl (by decide) 22 rfl [(2, .int (s1 + 1)), (0, .ref a0), (1, .int p0)] rfl ?_
        refine s_goto C dX2_pass_22 2 (by decide) ?_
        refine s_r ?_
        refine s_lv [1, 2, 0] rfl ?_
        exact hk2 (s1 + 1)
      · refine s_r ?_
        refine s_lv [2] rfl ?_
        exact hx3 s1
theorem nv_X12_kind : yX12_kind.cls ≠ "java/lang/invoke/MethodHandle" ∧ yX12_kind.cls ≠ "java/lang/invoke/VarHandle" ∧ (parseMethodDescriptor yX12_kind.desc).map (fun d => d.parameters.length) = some 0 := by decide +kernel
theorem ct_X12_kind {l : Launch} (g : sm_G) (TA : Nat → Prop) (a0 : Nat) : sm_CT l g (so_R g TA) (so_A g TA) yX12_kind cX12_kind 1 (some .int) 0 0 [.ref a0] em_i (f_X12_kind g a0) := by
  refine sm_of (own := "PatchCords$Summer") rfl rfl (bl rfl) (fun Y C hR hA hl hm => ?_)
  subst hl
  refine s_lv (L' := []) [] rfl ?_
  refine s_top ?_
  unfold f_X12_kind
  refine s_iconst (v := 0) C dX12_kind_0 (by decide) 1 rfl ?_
  exact s_iret C rfl rfl dX12_kind_1
theorem nv_X8_kind : yX8_kind.cls ≠ "java/lang/invoke/MethodHandle" ∧ yX8_kind.cls ≠ "java/lang/invoke/VarHandle" ∧ (parseMethodDescriptor yX8_kind.desc).map (fun d => d.parameters.length) = some 0 := by decide +kernel
theorem ct_X8_kind {l : Launch} (g : sm_G) (TA : Nat → Prop) (a0 : Nat) : sm_CT l g (so_R g TA) (so_A g TA) yX8_kind cX8_kind 1 (some .int) 0 0 [.ref a0] em_i (f_X8_kind g a0) := by
  refine sm_of (own := "PatchCords$Integrator") rfl rfl (bl rfl) (fun Y C hR hA hl hm => ?_)
  subst hl
  refine s_lv (L' := []) [] rfl ?_
  refine s_top ?_
  unfold f_X8_kind
  refine s_iconst (v := 1) C dX8_kind_0 (by decide) 1 rfl ?_
  exact s_iret C rfl rfl dX8_kind_1
theorem nv_X9_kind : yX9_kind.cls ≠ "java/lang/invoke/MethodHandle" ∧ yX9_kind.cls ≠ "java/lang/invoke/VarHandle" ∧ (parseMethodDescriptor yX9_kind.desc).map (fun d => d.parameters.length) = some 0 := by decide +kernel
theorem ct_X9_kind {l : Launch} (g : sm_G) (TA : Nat → Prop) (a0 : Nat) : sm_CT l g (so_R g TA) (so_A g TA) yX9_kind cX9_kind 1 (some .int) 0 0 [.ref a0] em_i (f_X9_kind g a0) := by
  refine sm_of (own := "PatchCords$Pot") rfl rfl (bl rfl) (fun Y C hR hA hl hm => ?_)
  subst hl
  refine s_lv (L' := []) [] rfl ?_
  refine s_top ?_
  unfold f_X9_kind
  refine s_iconst (v := 2) C dX9_kind_0 (by decide) 1 rfl ?_
  exact s_iret C rfl rfl dX9_kind_1
theorem nv_X10_kind : yX10_kind.cls ≠ "java/lang/invoke/MethodHandle" ∧ yX10_kind.cls ≠ "java/lang/invoke/VarHandle" ∧ (parseMethodDescriptor yX10_kind.desc).map (fun d => d.parameters.length) = some 0 := by decide +kernel
theorem ct_X10_kind {l : Launch} (g : sm_G) (TA : Nat → Prop) (a0 : Nat) : sm_CT l g (so_R g TA) (so_A g TA) yX10_kind cX10_kind 1 (some .int) 0 0 [.ref a0] em_i (f_X10_kind g a0) := by
  refine sm_of (own := "PatchCords$Product") rfl rfl (bl rfl) (fun Y C hR hA hl hm => ?_)
  subst hl
  refine s_lv (L' := []) [] rfl ?_
  refine s_top ?_
  unfold f_X10_kind
  refine s_iconst (v := 3) C dX10_kind_0 (by decide) 1 rfl ?_
  exact s_iret C rfl rfl dX10_kind_1
theorem nv_X6_kind : yX6_kind.cls ≠ "java/lang/invoke/MethodHandle" ∧ yX6_kind.cls ≠ "java/lang/invoke/VarHandle" ∧ (parseMethodDescriptor yX6_kind.desc).map (fun d => d.parameters.length) = some 0 := by decide +kernel
theorem ct_X6_kind {l : Launch} (g : sm_G) (TA : Nat → Prop) (a0 : Nat) : sm_CT l g (so_R g TA) (so_A g TA) yX6_kind cX6_kind 1 (some .int) 0 0 [.ref a0] em_i (f_X6_kind g a0) := by
  refine sm_of (own := "PatchCords$Choice") rfl rfl (bl rfl) (fun Y C hR hA hl hm => ?_)
  subst hl
  refine s_lv (L' := []) [] rfl ?_
  refine s_top ?_
  unfold f_X6_kind
  refine s_iconst (v := 4) C dX6_kind_0 (by decide) 1 rfl ?_
  exact s_iret C rfl rfl dX6_kind_1
theorem nv_X11_kind : yX11_kind.cls ≠ "java/lang/invoke/MethodHandle" ∧ yX11_kind.cls ≠ "java/lang/invoke/VarHandle" ∧ (parseMethodDescriptor yX11_kind.desc).map (fun d => d.parameters.length) = some 0 := by decide +kernel
theorem ct_X11_kind {l : Launch} (g : sm_G) (TA : Nat → Prop) (a0 : Nat) : sm_CT l g (so_R g TA) (so_A g TA) yX11_kind cX11_kind 1 (some .int) 0 0 [.ref a0] em_i (f_X11_kind g a0) := by
  refine sm_of (own := "PatchCords$Steady") rfl rfl (bl rfl) (fun Y C hR hA hl hm => ?_)
  subst hl
  refine s_lv (L' := []) [] rfl ?_
  refine s_top ?_
  unfold f_X11_kind
  refine s_iconst (v := 5) C dX11_kind_0 (by decide) 1 rfl ?_
  exact s_iret C rfl rfl dX11_kind_1
theorem nv_X5_setting : yX5_setting.cls ≠ "java/lang/invoke/MethodHandle" ∧ yX5_setting.cls ≠ "java/lang/invoke/VarHandle" ∧ (parseMethodDescriptor yX5_setting.desc).map (fun d => d.parameters.length) = some 0 := by decide +kernel
theorem ct_X5_setting {l : Launch} (g : sm_G) (TA : Nat → Prop) (a0 : Nat) : sm_CT l g (so_R g TA) (so_A g TA) yX5_setting cX5_setting 1 (some .int) 0 0 [.ref a0] em_i (f_X5_setting g a0) := by
  refine sm_of (own := "PatchCords$Part") rfl rfl (bl rfl) (fun Y C hR hA hl hm => ?_)
  subst hl
  refine s_lv (L' := []) [] rfl ?_
  refine s_top ?_
  unfold f_X5_setting
  refine s_iconst (v := 0) C dX5_setting_0 (by decide) 1 rfl ?_
  exact s_iret C rfl rfl dX5_setting_1
theorem nv_X8_setting : yX8_setting.cls ≠ "java/lang/invoke/MethodHandle" ∧ yX8_setting.cls ≠ "java/lang/invoke/VarHandle" ∧ (parseMethodDescriptor yX8_setting.desc).map (fun d => d.parameters.length) = some 0 := by decide +kernel
theorem ct_X8_setting {l : Launch} (g : sm_G) (TA : Nat → Prop) (a0 : Nat) : sm_CT l g (so_R g TA) (so_A g TA) yX8_setting cX8_setting 1 (some .int) 0 0 [.ref a0] em_i (f_X8_setting g a0) := by
  refine sm_of (own := "PatchCords$Integrator") rfl rfl (bl rfl) (fun Y C hR hA hl hm => ?_)
  subst hl
  refine s_lv (L' := [(0, .ref a0)]) [0] rfl ?_
  refine s_top ?_
  unfold f_X8_setting
  refine s_aload_n C dX8_setting_0 1 rfl 0 rfl ?_
  refine s_getI C hR fd_PatchCords_Integrator_initial (Or.inl q363) dX8_setting_1 4 rfl (fun x1 => ?_)
  exact s_iret C rfl rfl dX8_setting_4
theorem nv_X9_setting : yX9_setting.cls ≠ "java/lang/invoke/MethodHandle" ∧ yX9_setting.cls ≠ "java/lang/invoke/VarHandle" ∧ (parseMethodDescriptor yX9_setting.desc).map (fun d => d.parameters.length) = some 0 := by decide +kernel
theorem ct_X9_setting {l : Launch} (g : sm_G) (TA : Nat → Prop) (a0 : Nat) : sm_CT l g (so_R g TA) (so_A g TA) yX9_setting cX9_setting 1 (some .int) 0 0 [.ref a0] em_i (f_X9_setting g a0) := by
  refine sm_of (own := "PatchCords$Pot") rfl rfl (bl rfl) (fun Y C hR hA hl hm => ?_)
  subst hl
  refine s_lv (L' := [(0, .ref a0)]) [0] rfl ?_
  refine s_top ?_
  unfold f_X9_setting
  refine s_aload_n C dX9_setting_0 1 rfl 0 rfl ?_
  refine s_getI C hR fd_PatchCords_Pot_factor (Or.inl q399) dX9_setting_1 4 rfl (fun x1 => ?_)
  exact s_iret C rfl rfl dX9_setting_4
theorem nv_X11_setting : yX11_setting.cls ≠ "java/lang/invoke/MethodHandle" ∧ yX11_setting.cls ≠ "java/lang/invoke/VarHandle" ∧ (parseMethodDescriptor yX11_setting.desc).map (fun d => d.parameters.length) = some 0 := by decide +kernel
theorem ct_X11_setting {l : Launch} (g : sm_G) (TA : Nat → Prop) (a0 : Nat) : sm_CT l g (so_R g TA) (so_A g TA) yX11_setting cX11_setting 1 (some .int) 0 0 [.ref a0] em_i (f_X11_setting g a0) := by
  refine sm_of (own := "PatchCords$Steady") rfl rfl (bl rfl) (fun Y C hR hA hl hm => ?_)
  subst hl
  refine s_lv (L' := [(0, .ref a0)]) [0] rfl ?_
  refine s_top ?_
  unfold f_X11_setting
  refine s_aload_n C dX11_setting_0 1 rfl 0 rfl ?_
  refine s_getI C hR fd_PatchCords_Steady_voltage (Or.inl q428) dX11_setting_1 4 rfl (fun x1 => ?_)
  exact s_iret C rfl rfl dX11_setting_4
theorem nv_X1_scaleFor : yX1_scaleFor.cls ≠ "java/lang/invoke/MethodHandle" ∧ yX1_scaleFor.cls ≠ "java/lang/invoke/VarHandle" ∧ (parseMethodDescriptor yX1_scaleFor.desc).map (fun d => d.parameters.length) = some 1 := by decide +kernel
theorem ct_X1_scaleFor {l : Launch} (g : sm_G) (TA : Nat → Prop) (p0 : Int32) : sm_CT l g (so_R g TA) (so_A g TA) yX1_scaleFor cX1_scaleFor 1 (some .int) 0 0 [.int p0] em_i (f_X1_scaleFor g p0) := by
  refine sm_of (own := "PatchCords") rfl rfl (bl rfl) (fun Y C hR hA hl hm => ?_)
  subst hl
  refine s_lv (L' := [(0, .int p0)]) [0] rfl ?_
  refine s_top ?_
  unfold f_X1_scaleFor
  refine s_iload_n C dX1_scaleFor_0 1 rfl 0 rfl ?_
  refine s_cut (J := 13) (LJ := (fun (v1 : Int32) => [])) (SJ := (fun (v1 : Int32) => [.int v1])) (fun v1 => ?_) (fun _ _ hK2 => ?_)
  · exact s_iret C rfl rfl dX1_scaleFor_13
  · refine s_if_ne C dX1_scaleFor_1 8 4 (by decide) rfl ?_ ?_
    · refine s_iconst (v := (-1)) C dX1_scaleFor_4 (by decide) 5 rfl ?_
      refine s_goto C dX1_scaleFor_5 13 (by decide) ?_
      refine s_r ?_
      refine s_lv [] rfl ?_
      exact hK2 (-1)
    · refine s_ldc_w (v := 10000000) C q1301 dX1_scaleFor_8 11 rfl ?_
      refine s_iload_n C dX1_scaleFor_11 12 rfl 0 rfl ?_
      refine s_idv C dX1_scaleFor_12 13 rfl (fun x3 => ?_)
      refine s_r ?_
      refine s_lv [] rfl ?_
      exact hK2 x3
theorem nv_X1_addParts : yX1_addParts.cls ≠ "java/lang/invoke/MethodHandle" ∧ yX1_addParts.cls ≠ "java/lang/invoke/VarHandle" ∧ (parseMethodDescriptor yX1_addParts.desc).map (fun d => d.parameters.length) = some 1 := by decide +kernel
theorem ct_X1_addParts {l : Launch} (g : sm_G) (TA : Nat → Prop) (a0 : Nat) (p0 : Int64) : sm_CT l g (so_R g TA) (so_A g TA) yX1_addParts cX1_addParts 11 (some .long) 9 203 [.ref a0, .long p0] em_l (f_X1_addParts g a0 p0) := by
  refine sm_of (own := "PatchCords") rfl rfl (bl rfl) (fun Y C hR hA hl hm => ?_)
  subst hl
  refine s_lv (L' := [(0, .ref a0), (1, .long p0)]) [0, 1] rfl ?_
  refine s_top ?_
  unfold f_X1_addParts
  refine s_lload_n C dX1_addParts_0 1 rfl 1 rfl ?_
  refine s_lstore_n C dX1_addParts_1 rfl (by decide) 2 rfl [(3, .long p0), (0, .ref a0), (1, .long p0)] rfl ?_
  refine s_aload_n C dX1_addParts_2 3 rfl 1 rfl ?_
  refine s_call_i (rn_V (As := []) C (ct_at hR hA (ct_on (ct_X1_modules g TA a0))) (rv_on C hR (q := vw_0) rfl) (lw_V q521 q522 q523 q101 q524) ⟨rfl, nv_X1_modules⟩ ⟨by decide, by decide⟩ rfl (bl rfl) dX1_addParts_3) 6 rfl (fun x1 => ?_)
  refine s_istore C dX1_addParts_6 (by decide) 8 rfl [(5, .int x1), (3, .long p0), (0, .ref a0), (1, .long p0)] rfl ?_
  refine s_aload_n C dX1_addParts_8 9 rfl 2 rfl ?_
  refine s_getR C hR fd_PatchCords_panel (Or.inl q273) dX1_addParts_9 12 rfl (fun x2 => ?_)
  refine s_call_r (rn_V (As := []) C (ct_at hR hA (ct_on (ct_X2_levels g TA x2))) (rv_on C hR (q := vw_1) rfl) (lw_V q1233 q1234 q1235 q102 q1236) ⟨rfl, nv_X2_levels⟩ ⟨by decide, by decide⟩ rfl (bl rfl) dX1_addParts_12) 15 rfl (fun x3 => ?_)
  refine s_astore C dX1_addParts_15 (by decide) 17 rfl [(6, .ref x3), (5, .int x1), (3, .long p0), (0, .ref a0), (1, .long p0)] rfl ?_
  refine s_aload_n C dX1_addParts_17 18 rfl 3 rfl ?_
  refine s_getR C hR fd_PatchCords_panel (Or.inl q273) dX1_addParts_18 21 rfl (fun x4 => ?_)
  refine s_call_r (rn_VN (As := []) C (ct_at hR hA (ct_on (ct_X2_running g TA x4))) (rv_on C hR (q := vw_1) rfl) q1254 q731 qs8 q102 q732 nv_X2_running ⟨by decide, by decide⟩ rfl (bl rfl) dX1_addParts_21) 24 rfl (fun x5 => ?_)
  refine s_astore C dX1_addParts_24 (by decide) 26 rfl [(7, .ref x5), (6, .ref x3), (5, .int x1), (3, .long p0), (0, .ref a0), (1, .long p0)] rfl ?_
  refine s_aload C dX1_addParts_26 28 rfl 0 rfl ?_
  refine s_bipush (v := 10) C dX1_addParts_28 (by decide) 30 rfl ?_
  refine s_call_i (rn_V (As := [.int 10]) C (ct_at hR hA (ct_on (ct_X2_pass g TA x5 10))) (rv_on C hR (q := vw_1) rfl) (lw_V q1255 q1256 q1257 q102 q1258) ⟨rfl, nv_X2_pass⟩ ⟨by decide, by decide⟩ rfl (bl rfl) dX1_addParts_30) 33 rfl (fun x6 => ?_)
  refine s_pop C dX1_addParts_33 rfl 34 rfl ?_
  refine s_aload C dX1_addParts_34 36 rfl 0 rfl ?_
  refine s_call_v (rn_VN (As := []) C (ct_at hR hA (ct_on (ct_X2_tellOutputs g TA x5))) (rv_on C hR (q := vw_1) rfl) q1259 q599 qs6 q102 q600 nv_X2_tellOutputs ⟨by decide, by decide⟩ rfl (bl rfl) dX1_addParts_36) 39 rfl ?_
  refine s_aload_n C dX1_addParts_39 40 rfl 4 rfl ?_
  refine s_getR C hR fd_PatchCords_panel (Or.inl q273) dX1_addParts_40 43 rfl (fun x8 => ?_)
  refine s_call_v (rn_VN (As := []) C (ct_at hR hA (ct_on (ct_X2_tellOutputs g TA x8))) (rv_on C hR (q := vw_1) rfl) q1259 q599 qs6 q102 q600 nv_X2_tellOutputs ⟨by decide, by decide⟩ rfl (bl rfl) dX1_addParts_43) 46 rfl ?_
  refine s_iconst (v := 0) C dX1_addParts_46 (by decide) 47 rfl ?_
  refine s_istore C dX1_addParts_47 (by decide) 49 rfl [(8, .int 0), (7, .ref x5), (6, .ref x3), (5, .int x1), (3, .long p0), (0, .ref a0), (1, .long p0)] rfl ?_
  refine s_lv [5, 4, 3, 2, 1, 0] rfl ?_
  refine s_loop (fun (s10 : Int64 × Int32) => [(0, .ref a0), (3, .long s10.1), (5, .int x1), (6, .ref x3), (7, .ref x5), (8, .int s10.2)]) (fun (v45 : Int64) => [(3, .long v45)]) 224 (p0, 0) rfl (fun v45 => ?_) (fun _ s10 hk11 hx12 => ?_)
  · refine s_lload_n C dX1_addParts_224 225 rfl 0 rfl ?_
    exact s_lret C rfl dX1_addParts_225
  · refine s_iload C dX1_addParts_49 51 rfl 5 rfl ?_
    refine s_iload C dX1_addParts_51 53 rfl 2 rfl ?_
    refine s_icmp_ge C dX1_addParts_53 224 56 (by decide) rfl ?_ ?_
    · refine s_r ?_
      refine s_lv [1] rfl ?_
      exact hx12 s10.1
    · refine s_aload_n C dX1_addParts_56 57 rfl 0 rfl ?_
      refine s_getR C hR fd_PatchCords_panel (Or.inl q273) dX1_addParts_57 60 rfl (fun x13 => ?_)
      refine s_iload C dX1_addParts_60 62 rfl 5 rfl ?_
      refine s_call_r (rn_V (As := [.int s10.2]) C (ct_at hR hA (ct_on (ct_X2_part g TA x13 s10.2))) (rv_on C hR (q := vw_1) rfl) (lw_V q1260 q563 q564 q102 q565) ⟨rfl, nv_X2_part⟩ ⟨by decide, by decide⟩ rfl (bl rfl) dX1_addParts_62) 65 rfl (fun x14 => ?_)
      refine s_astore C dX1_addParts_65 (by decide) 67 rfl [(9, .ref x14), (0, .ref a0), (3, .long s10.1), (5, .int x1), (6, .ref x3), (7, .ref x5), (8, .int s10.2)] rfl ?_
      refine s_lload_n C dX1_addParts_67 68 rfl 2 rfl ?_
      refine s_bipush (v := 8) C dX1_addParts_68 (by decide) 70 rfl ?_
      refine s_newa C hR 0 .int rfl (fun _ => rfl) (fun _ h => by cases h) (by decide) q237 dX1_addParts_70 72 rfl (fun x15 => ?_)
      refine s_dup C dX1_addParts_72 rfl 73 rfl ?_
      refine s_iconst (v := 0) C dX1_addParts_73 (by decide) 74 rfl ?_
      refine s_aload C dX1_addParts_74 76 rfl 0 rfl ?_
      refine s_call_i (rn_D (by
          intro ci hci
          simp only [List.mem_cons, List.not_mem_nil, or_false] at hci
          rcases hci with rfl | rfl | rfl | rfl | rfl | rfl
          · exact (rn_U (As := []) C (ct_at hR hA (ct_on (ct_X12_kind g TA x14))) (rv_on C hR (q := vw_2) rfl) q1261 q1263 (va_Decl.abs (C.k.2.1 _ q1262 rfl)) (C.w _ q1279) q1280 q127 q1281 ⟨by decide +kernel, by decide +kernel, (show (parseMethodDescriptor "()I").map (fun d => d.parameters.length) = some 0 by decide +kernel)⟩ ⟨by decide, by decide⟩ rfl (bl rfl) dX1_addParts_76)
          · exact (rn_U (As := []) C (ct_at hR hA (ct_on (ct_X8_kind g TA x14))) (rv_on C hR (q := vw_3) rfl) q1261 q1263 (va_Decl.abs (C.k.2.1 _ q1262 rfl)) (C.w _ q1267) q1268 q123 q1269 ⟨by decide +kernel, by decide +kernel, (show (parseMethodDescriptor "()I").map (fun d => d.parameters.length) = some 0 by decide +kernel)⟩ ⟨by decide, by decide⟩ rfl (bl rfl) dX1_addParts_76)
          · exact (rn_U (As := []) C (ct_at hR hA (ct_on (ct_X9_kind g TA x14))) (rv_on C hR (q := vw_4) rfl) q1261 q1263 (va_Decl.abs (C.k.2.1 _ q1262 rfl)) (C.w _ q1270) q1271 q124 q1272 ⟨by decide +kernel, by decide +kernel, (show (parseMethodDescriptor "()I").map (fun d => d.parameters.length) = some 0 by decide +kernel)⟩ ⟨by decide, by decide⟩ rfl (bl rfl) dX1_addParts_76)
          · exact (rn_U (As := []) C (ct_at hR hA (ct_on (ct_X10_kind g TA x14))) (rv_on C hR (q := vw_5) rfl) q1261 q1263 (va_Decl.abs (C.k.2.1 _ q1262 rfl)) (C.w _ q1273) q1274 q125 q1275 ⟨by decide +kernel, by decide +kernel, (show (parseMethodDescriptor "()I").map (fun d => d.parameters.length) = some 0 by decide +kernel)⟩ ⟨by decide, by decide⟩ rfl (bl rfl) dX1_addParts_76)
          · exact (rn_U (As := []) C (ct_at hR hA (ct_on (ct_X6_kind g TA x14))) (rv_on C hR (q := vw_6) rfl) q1261 q1263 (va_Decl.abs (C.k.2.1 _ q1262 rfl)) (C.w _ q1264) q1265 q121 q1266 ⟨by decide +kernel, by decide +kernel, (show (parseMethodDescriptor "()I").map (fun d => d.parameters.length) = some 0 by decide +kernel)⟩ ⟨by decide, by decide⟩ rfl (bl rfl) dX1_addParts_76)
          · exact (rn_U (As := []) C (ct_at hR hA (ct_on (ct_X11_kind g TA x14))) (rv_on C hR (q := vw_7) rfl) q1261 q1263 (va_Decl.abs (C.k.2.1 _ q1262 rfl)) (C.w _ q1276) q1277 q126 q1278 ⟨by decide +kernel, by decide +kernel, (show (parseMethodDescriptor "()I").map (fun d => d.parameters.length) = some 0 by decide +kernel)⟩ ⟨by decide, by decide⟩ rfl (bl rfl) dX1_addParts_76))) 79 rfl (fun x16 => ?_)
      refine s_iast C hR hA dX1_addParts_79 80 rfl ?_
      refine s_dup C dX1_addParts_80 rfl 81 rfl ?_
      refine s_iconst (v := 1) C dX1_addParts_81 (by decide) 82 rfl ?_
      refine s_aload C dX1_addParts_82 84 rfl 0 rfl ?_
      refine s_call_i (rn_D (by
          intro ci hci
          simp only [List.mem_cons, List.not_mem_nil, or_false] at hci
          rcases hci with rfl | rfl | rfl | rfl | rfl | rfl
          · exact (rn_U (As := []) C (ct_at hR hA (ct_on (ct_X5_setting g TA x14))) (rv_on C hR (q := vw_2) rfl) q1282 q1284 (va_Decl.of (C.w _ q1283) (C.w _ q1297)) (C.w _ q1296) q1283 q120 q1297 ⟨by decide +kernel, by decide +kernel, (show (parseMethodDescriptor "()I").map (fun d => d.parameters.length) = some 0 by decide +kernel)⟩ ⟨by decide, by decide⟩ rfl (bl rfl) dX1_addParts_84)
          · exact (rn_U (As := []) C (ct_at hR hA (ct_on (ct_X8_setting g TA x14))) (rv_on C hR (q := vw_3) rfl) q1282 q1284 (va_Decl.of (C.w _ q1283) (C.w _ q1297)) (C.w _ q1286) q1287 q123 q1288 ⟨by decide +kernel, by decide +kernel, (show (parseMethodDescriptor "()I").map (fun d => d.parameters.length) = some 0 by decide +kernel)⟩ ⟨by decide, by decide⟩ rfl (bl rfl) dX1_addParts_84)
          · exact (rn_U (As := []) C (ct_at hR hA (ct_on (ct_X9_setting g TA x14))) (rv_on C hR (q := vw_4) rfl) q1282 q1284 (va_Decl.of (C.w _ q1283) (C.w _ q1297)) (C.w _ q1289) q1290 q124 q1291 ⟨by decide +kernel, by decide +kernel, (show (parseMethodDescriptor "()I").map (fun d => d.parameters.length) = some 0 by decide +kernel)⟩ ⟨by decide, by decide⟩ rfl (bl rfl) dX1_addParts_84)
          · exact (rn_U (As := []) C (ct_at hR hA (ct_on (ct_X5_setting g TA x14))) (rv_on C hR (q := vw_5) rfl) q1282 q1284 (va_Decl.of (C.w _ q1283) (C.w _ q1297)) (C.w _ q1292) q1283 q120 q1297 ⟨by decide +kernel, by decide +kernel, (show (parseMethodDescriptor "()I").map (fun d => d.parameters.length) = some 0 by decide +kernel)⟩ ⟨by decide, by decide⟩ rfl (bl rfl) dX1_addParts_84)
          · exact (rn_U (As := []) C (ct_at hR hA (ct_on (ct_X5_setting g TA x14))) (rv_on C hR (q := vw_6) rfl) q1282 q1284 (va_Decl.of (C.w _ q1283) (C.w _ q1297)) (C.w _ q1285) q1283 q120 q1297 ⟨by decide +kernel, by decide +kernel, (show (parseMethodDescriptor "()I").map (fun d => d.parameters.length) = some 0 by decide +kernel)⟩ ⟨by decide, by decide⟩ rfl (bl rfl) dX1_addParts_84)
          · exact (rn_U (As := []) C (ct_at hR hA (ct_on (ct_X11_setting g TA x14))) (rv_on C hR (q := vw_7) rfl) q1282 q1284 (va_Decl.of (C.w _ q1283) (C.w _ q1297)) (C.w _ q1293) q1294 q126 q1295 ⟨by decide +kernel, by decide +kernel, (show (parseMethodDescriptor "()I").map (fun d => d.parameters.length) = some 0 by decide +kernel)⟩ ⟨by decide, by decide⟩ rfl (bl rfl) dX1_addParts_84))) 87 rfl (fun x17 => ?_)
      refine s_iast C hR hA dX1_addParts_87 88 rfl ?_
      refine s_dup C dX1_addParts_88 rfl 89 rfl ?_
      refine s_iconst (v := 2) C dX1_addParts_89 (by decide) 90 rfl ?_
      refine s_aload_n C dX1_addParts_90 91 rfl 1 rfl ?_
      refine s_getR C hR fd_PatchCords_panel (Or.inl q273) dX1_addParts_91 94 rfl (fun x18 => ?_)
      refine s_getR C hR fd_PatchCords_Panel_outputs (Or.inr (Or.inl ⟨_, q186⟩)) dX1_addParts_94 97 rfl (fun x19 => ?_)
      refine s_iload C dX1_addParts_97 99 rfl 6 rfl ?_
      refine s_iald C hR dX1_addParts_99 100 rfl (fun x20 => ?_)
      refine s_iast C hR hA dX1_addParts_100 101 rfl ?_
      refine s_dup C dX1_addParts_101 rfl 102 rfl ?_
      refine s_iconst (v := 3) C dX1_addParts_102 (by decide) 103 rfl ?_
      refine s_aload C dX1_addParts_103 105 rfl 0 rfl ?_
      refine s_getI C hR fd_PatchCords_Part_peak (Or.inr (Or.inl ⟨_, q345⟩)) dX1_addParts_105 108 rfl (fun x21 => ?_)
      refine s_iast C hR hA dX1_addParts_108 109 rfl ?_
      refine s_dup C dX1_addParts_109 rfl 110 rfl ?_
      refine s_iconst (v := 4) C dX1_addParts_110 (by decide) 111 rfl ?_
      refine s_aload C dX1_addParts_111 113 rfl 0 rfl ?_
      refine s_getI C hR fd_PatchCords_Part_peak (Or.inr (Or.inl ⟨_, q345⟩)) dX1_addParts_113 116 rfl (fun x22 => ?_)
      refine s_call_i (rn_S (As := [.int x22]) C (ct_at hR hA (ct_X1_scaleFor g TA x22)) (lw_S q1298 q1299 q101 q1300) nv_X1_scaleFor ⟨by decide, by decide⟩ rfl (bl rfl) dX1_addParts_116) 119 rfl (fun x23 => ?_)
      refine s_iast C hR hA dX1_addParts_119 120 rfl ?_
      refine s_dup C dX1_addParts_120 rfl 121 rfl ?_
      refine s_iconst (v := 5) C dX1_addParts_121 (by decide) 122 rfl ?_
      refine s_aload C dX1_addParts_122 124 rfl 4 rfl ?_
      refine s_iload C dX1_addParts_124 126 rfl 6 rfl ?_
      refine s_iald C hR dX1_addParts_126 127 rfl (fun x24 => ?_)
      refine s_iast C hR hA dX1_addParts_127 128 rfl ?_
      refine s_dup C dX1_addParts_128 rfl 129 rfl ?_
      refine s_bipush (v := 6) C dX1_addParts_129 (by decide) 131 rfl ?_
      refine s_aload_n C dX1_addParts_131 132 rfl 1 rfl ?_
      refine s_getR C hR fd_PatchCords_panel (Or.inl q273) dX1_addParts_132 135 rfl (fun x25 => ?_)
      refine s_iload C dX1_addParts_135 137 rfl 6 rfl ?_
      refine s_call_i (rn_V (As := [.int s10.2]) C (ct_at hR hA (ct_on (ct_X2_dependsOn g TA x25 s10.2))) (rv_on C hR (q := vw_1) rfl) (lw_V q1302 q675 q676 q102 q677) ⟨rfl, nv_X2_dependsOn⟩ ⟨by decide, by decide⟩ rfl (bl rfl) dX1_addParts_137) 140 rfl (fun x26 => ?_)
      refine s_iast C hR hA dX1_addParts_140 141 rfl ?_
      refine s_dup C dX1_addParts_141 rfl 142 rfl ?_
      refine s_bipush (v := 7) C dX1_addParts_142 (by decide) 144 rfl ?_
      refine s_aload C dX1_addParts_144 146 rfl 5 rfl ?_
      refine s_getR C hR fd_PatchCords_Panel_outputs (Or.inr (Or.inl ⟨_, q186⟩)) dX1_addParts_146 149 rfl (fun x27 => ?_)
      refine s_iload C dX1_addParts_149 151 rfl 6 rfl ?_
      refine s_iald C hR dX1_addParts_151 152 rfl (fun x28 => ?_)
      refine s_iast C hR hA dX1_addParts_152 153 rfl ?_
      refine s_call_l (rn_S (As := [.long s10.1, .ref x15]) C (ct_at hR hA (ct_X1_add g TA s10.1 x15)) (lw_S q1225 q1226 q101 q1227) nv_X1_add ⟨by decide, by decide⟩ rfl (bl rfl) dX1_addParts_153) 156 rfl (fun x29 => ?_)
      refine s_lstore_n C dX1_addParts_156 rfl (by decide) 157 rfl [(3, .long x29), (9, .ref x14), (0, .ref a0), (5, .int x1), (6, .ref x3), (7, .ref x5), (8, .int s10.2)] rfl ?_
      refine s_aload_n C dX1_addParts_157 158 rfl 2 rfl ?_
      refine s_getR C hR fd_PatchCords_panel (Or.inl q273) dX1_addParts_158 161 rfl (fun x30 => ?_)
      refine s_aload C dX1_addParts_161 163 rfl 1 rfl ?_
      refine s_call_v (rn_VN (As := [.ref x14]) C (ct_at hR hA (ct_on (ct_X2_tellInputs g TA x30 x14))) (rv_on C hR (q := vw_1) rfl) q1303 q603 qs7 q102 q604 nv_X2_tellInputs ⟨by decide, by decide⟩ rfl (bl rfl) dX1_addParts_163) 166 rfl ?_
      refine s_iconst (v := 0) C dX1_addParts_166 (by decide) 167 rfl ?_
      refine s_istore C dX1_addParts_167 (by decide) 169 rfl [(10, .int 0), (3, .long x29), (9, .ref x14), (0, .ref a0), (5, .int x1), (6, .ref x3), (7, .ref x5), (8, .int s10.2)] rfl ?_
      refine s_lv [3, 1, 4, 5, 6, 7, 2, 0] rfl ?_
      refine s_loop (fun (s32 : Int64 × Int32) => [(0, .ref a0), (3, .long s32.1), (5, .int x1), (6, .ref x3), (7, .ref x5), (8, .int s10.2), (9, .ref x14), (10, .int s32.2)]) (fun (v44 : Int64) => [(0, .ref a0), (3, .long v44), (5, .int x1), (6, .ref x3), (7, .ref x5), (8, .int s10.2)]) 218 (x29, 0) rfl (fun v44 => ?_) (fun _ s32 hk33 hx34 => ?_)
      · refine s_iinc C dX1_addParts_218 (s10.2 + 1) rfl 5 rfl (by decide) 221 rfl [(8, .int (s10.2 + 1)), (0, .ref a0), (3, .long v44), (5, .int x1), (6, .ref x3), (7, .ref x5)] rfl ?_
        refine s_goto C dX1_addParts_221 49 (by decide) ?_
        refine s_r ?_
        refine s_lv [1, 2, 3, 4, 5, 0] rfl ?_
        exact hk11 (v44, s10.2 + 1)
      · refine s_iload C dX1_addParts_169 171 rfl 7 rfl ?_
        refine s_aload C dX1_addParts_171 173 rfl 6 rfl ?_
        refine s_getR C hR fd_PatchCords_Part_cords (Or.inr (Or.inl ⟨_, q342⟩)) dX1_addParts_173 176 rfl (fun x35 => ?_)
        refine s_alen C hR dX1_addParts_176 177 rfl (fun x36 => ?_)
        refine s_icmp_ge C dX1_addParts_177 218 180 (by decide) rfl ?_ ?_
        · refine s_r ?_
          refine s_lv [0, 1, 2, 3, 4, 5] rfl ?_
          exact hx34 s32.1
        · refine s_lload_n C dX1_addParts_180 181 rfl 1 rfl ?_
          refine s_iconst (v := 2) C dX1_addParts_181 (by decide) 182 rfl ?_
          refine s_newa C hR 0 .int rfl (fun _ => rfl) (fun _ h => by cases h) (by decide) q237 dX1_addParts_182 184 rfl (fun x37 => ?_)
          refine s_dup C dX1_addParts_184 rfl 185 rfl ?_
          refine s_iconst (v := 0) C dX1_addParts_185 (by decide) 186 rfl ?_
          refine s_aload C dX1_addParts_186 188 rfl 6 rfl ?_
          refine s_getR C hR fd_PatchCords_Part_cords (Or.inr (Or.inl ⟨_, q342⟩)) dX1_addParts_188 191 rfl (fun x38 => ?_)
          refine s_iload C dX1_addParts_191 193 rfl 7 rfl ?_
          refine s_iald C hR dX1_addParts_193 194 rfl (fun x39 => ?_)
          refine s_iast C hR hA dX1_addParts_194 195 rfl ?_
          refine s_dup C dX1_addParts_195 rfl 196 rfl ?_
          refine s_iconst (v := 1) C dX1_addParts_196 (by decide) 197 rfl ?_
          refine s_aload_n C dX1_addParts_197 198 rfl 0 rfl ?_
          refine s_getR C hR fd_PatchCords_panel (Or.inl q273) dX1_addParts_198 201 rfl (fun x40 => ?_)
          refine s_getR C hR fd_PatchCords_Panel_in (Or.inr (Or.inl ⟨_, q188⟩)) dX1_addParts_201 204 rfl (fun x41 => ?_)
          refine s_iload C dX1_addParts_204 206 rfl 7 rfl ?_
          refine s_iald C hR dX1_addParts_206 207 rfl (fun x42 => ?_)
          refine s_iast C hR hA dX1_addParts_207 208 rfl ?_
          refine s_call_l (rn_S (As := [.long s32.1, .ref x37]) C (ct_at hR hA (ct_X1_add g TA s32.1 x37)) (lw_S q1225 q1226 q101 q1227) nv_X1_add ⟨by decide, by decide⟩ rfl (bl rfl) dX1_addParts_208) 211 rfl (fun x43 => ?_)
          refine s_lstore_n C dX1_addParts_211 rfl (by decide) 212 rfl [(3, .long x43), (0, .ref a0), (5, .int x1), (6, .ref x3), (7, .ref x5), (8, .int s10.2), (9, .ref x14), (10, .int s32.2)] rfl ?_
          refine s_iinc C dX1_addParts_212 (s32.2 + 1) rfl 7 rfl (by decide) 215 rfl [(10, .int (s32.2 + 1)), (3, .long x43), (0, .ref a0), (5, .int x1), (6, .ref x3), (7, .ref x5), (8, .int s10.2), (9, .ref x14)] rfl ?_
          refine s_goto C dX1_addParts_215 169 (by decide) ?_
          refine s_r ?_
          refine s_lv [2, 1, 3, 4, 5, 6, 7, 0] rfl ?_
          exact hk33 (x43, s32.2 + 1)
theorem nv_X2_rate : yX2_rate.cls ≠ "java/lang/invoke/MethodHandle" ∧ yX2_rate.cls ≠ "java/lang/invoke/VarHandle" ∧ (parseMethodDescriptor yX2_rate.desc).map (fun d => d.parameters.length) = some 1 := by decide +kernel
theorem ct_X2_rate {l : Launch} (g : sm_G) (TA : Nat → Prop) (a0 : Nat) (p0 : Nat) : sm_CT l g (so_R g TA) (so_A g TA) yX2_rate cX2_rate 2 (some .int) 5 108 [.ref a0, .ref p0] em_i (f_X2_rate g a0 p0) := by
  refine sm_of (own := "PatchCords$Panel") rfl rfl (bl rfl) (fun Y C hR hA hl hm => ?_)
  subst hl
  refine s_lv (L' := [(0, .ref a0), (1, .ref p0)]) [0, 1] rfl ?_
  refine s_top ?_
  unfold f_X2_rate
  refine s_aload_n C dX2_rate_0 1 rfl 0 rfl ?_
  refine s_call_v (rn_V (As := []) C (ct_at hR hA (ct_on (ct_X2_tellOutputs g TA a0))) (rv_on C hR (q := vw_1) rfl) (lw_V q597 q599 qs6 q102 q600) ⟨rfl, nv_X2_tellOutputs⟩ ⟨by decide, by decide⟩ rfl (bl rfl) dX2_rate_1) 4 rfl ?_
  refine s_aload_n C dX2_rate_4 5 rfl 0 rfl ?_
  refine s_aload_n C dX2_rate_5 6 rfl 1 rfl ?_
  refine s_call_v (rn_V (As := [.ref p0]) C (ct_at hR hA (ct_on (ct_X2_tellInputs g TA a0 p0))) (rv_on C hR (q := vw_1) rfl) (lw_V q601 q603 qs7 q102 q604) ⟨rfl, nv_X2_tellInputs⟩ ⟨by decide, by decide⟩ rfl (bl rfl) dX2_rate_6) 9 rfl ?_
  refine s_aload_n C dX2_rate_9 10 rfl 1 rfl ?_
  refine s_aload_n C dX2_rate_10 11 rfl 0 rfl ?_
  refine s_getR C hR fd_PatchCords_Panel_in (Or.inl q187) dX2_rate_11 14 rfl (fun x3 => ?_)
  refine s_call_i (rn_V (As := [.ref x3]) C (ct_at hR hA (ct_on (ct_X8_rate g TA p0 x3))) (rv_on C hR (q := vw_3) rfl) (lw_V q1315 q755 q756 q123 q757) ⟨rfl, nv_X8_rate⟩ ⟨by decide, by decide⟩ rfl (bl rfl) dX2_rate_14) 17 rfl (fun x4 => ?_)
  exact s_iret C rfl rfl dX2_rate_17
theorem nv_X1_addSettings : yX1_addSettings.cls ≠ "java/lang/invoke/MethodHandle" ∧ yX1_addSettings.cls ≠ "java/lang/invoke/VarHandle" ∧ (parseMethodDescriptor yX1_addSettings.desc).map (fun d => d.parameters.length) = some 1 := by decide +kernel
theorem ct_X1_addSettings {l : Launch} (g : sm_G) (TA : Nat → Prop) (a0 : Nat) (p0 : Int64) : sm_CT l g (so_R g TA) (so_A g TA) yX1_addSettings cX1_addSettings 8 (some .long) 6 129 [.ref a0, .long p0] em_l (f_X1_addSettings g a0 p0) := by
  refine sm_of (own := "PatchCords") rfl rfl (bl rfl) (fun Y C hR hA hl hm => ?_)
  subst hl
  refine s_lv (L' := [(0, .ref a0), (1, .long p0)]) [0, 1] rfl ?_
  refine s_top ?_
  unfold f_X1_addSettings
  refine s_lload_n C dX1_addSettings_0 1 rfl 1 rfl ?_
  refine s_lstore_n C dX1_addSettings_1 rfl (by decide) 2 rfl [(3, .long p0), (0, .ref a0), (1, .long p0)] rfl ?_
  refine s_aload_n C dX1_addSettings_2 3 rfl 1 rfl ?_
  refine s_call_i (rn_V (As := []) C (ct_at hR hA (ct_on (ct_X1_modules g TA a0))) (rv_on C hR (q := vw_0) rfl) (lw_V q521 q522 q523 q101 q524) ⟨rfl, nv_X1_modules⟩ ⟨by decide, by decide⟩ rfl (bl rfl) dX1_addSettings_3) 6 rfl (fun x1 => ?_)
  refine s_istore C dX1_addSettings_6 (by decide) 8 rfl [(5, .int x1), (3, .long p0), (0, .ref a0), (1, .long p0)] rfl ?_
  refine s_iconst (v := 0) C dX1_addSettings_8 (by decide) 9 rfl ?_
  refine s_istore C dX1_addSettings_9 (by decide) 11 rfl [(6, .int 0), (5, .int x1), (3, .long p0), (0, .ref a0), (1, .long p0)] rfl ?_
  refine s_lv [3, 2, 1, 0] rfl ?_
  refine s_loop (fun (s2 : Int64 × Int32) => [(0, .ref a0), (3, .long s2.1), (5, .int x1), (6, .int s2.2)]) (fun (v19 : Int64) => [(0, .ref a0), (3, .long v19), (5, .int x1)]) 97 (p0, 0) rfl (fun v19 => ?_) (fun _ s2 hk3 hx4 => ?_)
  · refine s_iconst (v := 0) C dX1_addSettings_97 (by decide) 98 rfl ?_
    refine s_istore C dX1_addSettings_98 (by decide) 100 rfl [(6, .int 0), (0, .ref a0), (3, .long v19), (5, .int x1)] rfl ?_
    refine s_lv [1, 2, 3, 0] rfl ?_
    refine s_loop (fun (s20 : Int64 × Int32) => [(0, .ref a0), (3, .long s20.1), (5, .int x1), (6, .int s20.2)]) (fun (v37 : Int64) => [(3, .long v37)]) 178 (v19, 0) rfl (fun v37 => ?_) (fun _ s20 hk21 hx22 => ?_)
    · refine s_lload_n C dX1_addSettings_178 179 rfl 0 rfl ?_
      exact s_lret C rfl dX1_addSettings_179
    · refine s_iload C dX1_addSettings_100 102 rfl 3 rfl ?_
      refine s_iload C dX1_addSettings_102 104 rfl 2 rfl ?_
      refine s_icmp_ge C dX1_addSettings_104 178 107 (by decide) rfl ?_ ?_
      · refine s_r ?_
        refine s_lv [1] rfl ?_
        exact hx22 s20.1
      · refine s_aload_n C dX1_addSettings_107 108 rfl 0 rfl ?_
        refine s_getR C hR fd_PatchCords_panel (Or.inl q273) dX1_addSettings_108 111 rfl (fun x23 => ?_)
        refine s_iload C dX1_addSettings_111 113 rfl 3 rfl ?_
        refine s_call_r (rn_V (As := [.int s20.2]) C (ct_at hR hA (ct_on (ct_X2_part g TA x23 s20.2))) (rv_on C hR (q := vw_1) rfl) (lw_V q1260 q563 q564 q102 q565) ⟨rfl, nv_X2_part⟩ ⟨by decide, by decide⟩ rfl (bl rfl) dX1_addSettings_113) 116 rfl (fun x24 => ?_)
        refine s_inst C hR q1310 io_Integrator dX1_addSettings_116 119 rfl (fun x25 => ?_)
        refine s_cut (J := 172) (LJ := (fun (v26 : Int64) => [(0, .ref a0), (3, .long v26), (5, .int x1), (6, .int s20.2)])) (SJ := (fun (v26 : Int64) => [])) (fun v26 => ?_) (fun _ _ hK27 => ?_)
        · refine s_iinc C dX1_addSettings_172 (s20.2 + 1) rfl 3 rfl (by decide) 175 rfl [(6, .int (s20.2 + 1)), (0, .ref a0), (3, .long v26), (5, .int x1)] rfl ?_
          refine s_goto C dX1_addSettings_175 100 (by decide) ?_
          refine s_r ?_
          refine s_lv [1, 2, 3, 0] rfl ?_
          exact hk21 (v26, s20.2 + 1)
        · refine s_if_eq C dX1_addSettings_119 172 122 (by decide) rfl ?_ ?_
          · refine s_r ?_
            refine s_lv [0, 1, 2, 3] rfl ?_
            exact hK27 s20.1
          · refine s_aload_n C dX1_addSettings_122 123 rfl 0 rfl ?_
            refine s_getR C hR fd_PatchCords_panel (Or.inl q273) dX1_addSettings_123 126 rfl (fun x28 => ?_)
            refine s_iload C dX1_addSettings_126 128 rfl 3 rfl ?_
            refine s_call_r (rn_V (As := [.int s20.2]) C (ct_at hR hA (ct_on (ct_X2_part g TA x28 s20.2))) (rv_on C hR (q := vw_1) rfl) (lw_V q1260 q563 q564 q102 q565) ⟨rfl, nv_X2_part⟩ ⟨by decide, by decide⟩ rfl (bl rfl) dX1_addSettings_128) 131 rfl (fun x29 => ?_)
            refine s_cast C hR q1310 ca_PatchCords_Integrator dX1_addSettings_131 (some x29) 134 rfl (fun x30 _ => ?_)
            refine s_astore C dX1_addSettings_134 (by decide) 136 rfl [(7, .ref x30), (0, .ref a0), (3, .long s20.1), (5, .int x1), (6, .int s20.2)] rfl ?_
            refine s_lload_n C dX1_addSettings_136 137 rfl 2 rfl ?_
            refine s_iconst (v := 3) C dX1_addSettings_137 (by decide) 138 rfl ?_
            refine s_newa C hR 0 .int rfl (fun _ => rfl) (fun _ h => by cases h) (by decide) q237 dX1_addSettings_138 140 rfl (fun x31 => ?_)
            refine s_dup C dX1_addSettings_140 rfl 141 rfl ?_
            refine s_iconst (v := 0) C dX1_addSettings_141 (by decide) 142 rfl ?_
            refine s_aload C dX1_addSettings_142 144 rfl 0 rfl ?_
            refine s_getI C hR fd_PatchCords_Integrator_speed (Or.inr (Or.inl ⟨_, q366⟩)) dX1_addSettings_144 147 rfl (fun x32 => ?_)
            refine s_iast C hR hA dX1_addSettings_147 148 rfl ?_
            refine s_dup C dX1_addSettings_148 rfl 149 rfl ?_
            refine s_iconst (v := 1) C dX1_addSettings_149 (by decide) 150 rfl ?_
            refine s_aload C dX1_addSettings_150 152 rfl 0 rfl ?_
            refine s_getI C hR fd_PatchCords_Integrator_charge (Or.inr (Or.inl ⟨_, q369⟩)) dX1_addSettings_152 155 rfl (fun x33 => ?_)
            refine s_iast C hR hA dX1_addSettings_155 156 rfl ?_
            refine s_dup C dX1_addSettings_156 rfl 157 rfl ?_
            refine s_iconst (v := 2) C dX1_addSettings_157 (by decide) 158 rfl ?_
            refine s_aload_n C dX1_addSettings_158 159 rfl 1 rfl ?_
            refine s_getR C hR fd_PatchCords_panel (Or.inl q273) dX1_addSettings_159 162 rfl (fun x34 => ?_)
            refine s_aload C dX1_addSettings_162 164 rfl 0 rfl ?_
            refine s_call_i (rn_V (As := [.ref x30]) C (ct_at hR hA (ct_on (ct_X2_rate g TA x34 x30))) (rv_on C hR (q := vw_1) rfl) (lw_V q1311 q1312 q1313 q102 q1314) ⟨rfl, nv_X2_rate⟩ ⟨by decide, by decide⟩ rfl (bl rfl) dX1_addSettings_164) 167 rfl (fun x35 => ?_)
            refine s_iast C hR hA dX1_addSettings_167 168 rfl ?_
            refine s_call_l (rn_S (As := [.long s20.1, .ref x31]) C (ct_at hR hA (ct_X1_add g TA s20.1 x31)) (lw_S q1225 q1226 q101 q1227) nv_X1_add ⟨by decide, by decide⟩ rfl (bl rfl) dX1_addSettings_168) 171 rfl (fun x36 => ?_)
            refine s_lstore_n C dX1_addSettings_171 rfl (by decide) 172 rfl [(3, .long x36), (7, .ref x30), (0, .ref a0), (5, .int x1), (6, .int s20.2)] rfl ?_
            refine s_r ?_
            refine s_lv [2, 0, 3, 4] rfl ?_
            exact hK27 x36
  · refine s_iload C dX1_addSettings_11 13 rfl 3 rfl ?_
    refine s_iload C dX1_addSettings_13 15 rfl 2 rfl ?_
    refine s_icmp_ge C dX1_addSettings_15 97 18 (by decide) rfl ?_ ?_
    · refine s_r ?_
      refine s_lv [0, 1, 2] rfl ?_
      exact hx4 s2.1
    · refine s_aload_n C dX1_addSettings_18 19 rfl 0 rfl ?_
      refine s_getR C hR fd_PatchCords_panel (Or.inl q273) dX1_addSettings_19 22 rfl (fun x5 => ?_)
      refine s_iload C dX1_addSettings_22 24 rfl 3 rfl ?_
      refine s_call_r (rn_V (As := [.int s2.2]) C (ct_at hR hA (ct_on (ct_X2_part g TA x5 s2.2))) (rv_on C hR (q := vw_1) rfl) (lw_V q1260 q563 q564 q102 q565) ⟨rfl, nv_X2_part⟩ ⟨by decide, by decide⟩ rfl (bl rfl) dX1_addSettings_24) 27 rfl (fun x6 => ?_)
      refine s_inst C hR q1308 io_Weighted dX1_addSettings_27 30 rfl (fun x7 => ?_)
      refine s_cut (J := 91) (LJ := (fun (v8 : Int64) => [(0, .ref a0), (3, .long v8), (5, .int x1), (6, .int s2.2)])) (SJ := (fun (v8 : Int64) => [])) (fun v8 => ?_) (fun _ _ hK9 => ?_)
      · refine s_iinc C dX1_addSettings_91 (s2.2 + 1) rfl 3 rfl (by decide) 94 rfl [(6, .int (s2.2 + 1)), (0, .ref a0), (3, .long v8), (5, .int x1)] rfl ?_
        refine s_goto C dX1_addSettings_94 11 (by decide) ?_
        refine s_r ?_
        refine s_lv [1, 2, 3, 0] rfl ?_
        exact hk3 (v8, s2.2 + 1)
      · refine s_if_eq C dX1_addSettings_30 91 33 (by decide) rfl ?_ ?_
        · refine s_r ?_
          refine s_lv [0, 1, 2, 3] rfl ?_
          exact hK9 s2.1
        · refine s_aload_n C dX1_addSettings_33 34 rfl 0 rfl ?_
          refine s_getR C hR fd_PatchCords_panel (Or.inl q273) dX1_addSettings_34 37 rfl (fun x10 => ?_)
          refine s_iload C dX1_addSettings_37 39 rfl 3 rfl ?_
          refine s_call_r (rn_V (As := [.int s2.2]) C (ct_at hR hA (ct_on (ct_X2_part g TA x10 s2.2))) (rv_on C hR (q := vw_1) rfl) (lw_V q1260 q563 q564 q102 q565) ⟨rfl, nv_X2_part⟩ ⟨by decide, by decide⟩ rfl (bl rfl) dX1_addSettings_39) 42 rfl (fun x11 => ?_)
          refine s_cast C hR q1308 ca_PatchCords_Weighted dX1_addSettings_42 (some x11) 45 rfl (fun x12 _ => ?_)
          refine s_astore C dX1_addSettings_45 (by decide) 47 rfl [(7, .ref x12), (0, .ref a0), (3, .long s2.1), (5, .int x1), (6, .int s2.2)] rfl ?_
          refine s_lload_n C dX1_addSettings_47 48 rfl 2 rfl ?_
          refine s_iconst (v := 4) C dX1_addSettings_48 (by decide) 49 rfl ?_
          refine s_newa C hR 0 .int rfl (fun _ => rfl) (fun _ h => by cases h) (by decide) q237 dX1_addSettings_49 51 rfl (fun x13 => ?_)
          refine s_dup C dX1_addSettings_51 rfl 52 rfl ?_
          refine s_iconst (v := 0) C dX1_addSettings_52 (by decide) 53 rfl ?_
          refine s_aload C dX1_addSettings_53 55 rfl 0 rfl ?_
          refine s_iconst (v := 0) C dX1_addSettings_55 (by decide) 56 rfl ?_
          refine s_call_i (rn_D (by
              intro ci hci
              simp only [List.mem_cons, List.not_mem_nil, or_false] at hci
              rcases hci with rfl | rfl
              · exact (rn_U (As := [.int 0]) C (ct_at hR hA (ct_on (ct_X7_weight g TA x12 0))) (rv_on C hR (q := vw_2) rfl) q1309 q634 (va_Decl.of (C.w _ q633) (C.w _ q637)) (C.w _ q636) q633 q122 q637 ⟨by decide +kernel, by decide +kernel, (show (parseMethodDescriptor "(I)I").map (fun d => d.parameters.length) = some 1 by decide +kernel)⟩ ⟨by decide, by decide⟩ rfl (bl rfl) dX1_addSettings_56)
              · exact (rn_U (As := [.int 0]) C (ct_at hR hA (ct_on (ct_X7_weight g TA x12 0))) (rv_on C hR (q := vw_3) rfl) q1309 q634 (va_Decl.of (C.w _ q633) (C.w _ q637)) (C.w _ q635) q633 q122 q637 ⟨by decide +kernel, by decide +kernel, (show (parseMethodDescriptor "(I)I").map (fun d => d.parameters.length) = some 1 by decide +kernel)⟩ ⟨by decide, by decide⟩ rfl (bl rfl) dX1_addSettings_56))) 59 rfl (fun x14 => ?_)
          refine s_iast C hR hA dX1_addSettings_59 60 rfl ?_
          refine s_dup C dX1_addSettings_60 rfl 61 rfl ?_
          refine s_iconst (v := 1) C dX1_addSettings_61 (by decide) 62 rfl ?_
          refine s_aload C dX1_addSettings_62 64 rfl 0 rfl ?_
          refine s_iconst (v := 1) C dX1_addSettings_64 (by decide) 65 rfl ?_
          refine s_call_i (rn_D (by
              intro ci hci
              simp only [List.mem_cons, List.not_mem_nil, or_false] at hci
              rcases hci with rfl | rfl
              · exact (rn_U (As := [.int 1]) C (ct_at hR hA (ct_on (ct_X7_weight g TA x12 1))) (rv_on C hR (q := vw_2) rfl) q1309 q634 (va_Decl.of (C.w _ q633) (C.w _ q637)) (C.w _ q636) q633 q122 q637 ⟨by decide +kernel, by decide +kernel, (show (parseMethodDescriptor "(I)I").map (fun d => d.parameters.length) = some 1 by decide +kernel)⟩ ⟨by decide, by decide⟩ rfl (bl rfl) dX1_addSettings_65)
              · exact (rn_U (As := [.int 1]) C (ct_at hR hA (ct_on (ct_X7_weight g TA x12 1))) (rv_on C hR (q := vw_3) rfl) q1309 q634 (va_Decl.of (C.w _ q633) (C.w _ q637)) (C.w _ q635) q633 q122 q637 ⟨by decide +kernel, by decide +kernel, (show (parseMethodDescriptor "(I)I").map (fun d => d.parameters.length) = some 1 by decide +kernel)⟩ ⟨by decide, by decide⟩ rfl (bl rfl) dX1_addSettings_65))) 68 rfl (fun x15 => ?_)
          refine s_iast C hR hA dX1_addSettings_68 69 rfl ?_
          refine s_dup C dX1_addSettings_69 rfl 70 rfl ?_
          refine s_iconst (v := 2) C dX1_addSettings_70 (by decide) 71 rfl ?_
          refine s_aload C dX1_addSettings_71 73 rfl 0 rfl ?_
          refine s_iconst (v := 2) C dX1_addSettings_73 (by decide) 74 rfl ?_
          refine s_call_i (rn_D (by
              intro ci hci
              simp only [List.mem_cons, List.not_mem_nil, or_false] at hci
              rcases hci with rfl | rfl
              · exact (rn_U (As := [.int 2]) C (ct_at hR hA (ct_on (ct_X7_weight g TA x12 2))) (rv_on C hR (q := vw_2) rfl) q1309 q634 (va_Decl.of (C.w _ q633) (C.w _ q637)) (C.w _ q636) q633 q122 q637 ⟨by decide +kernel, by decide +kernel, (show (parseMethodDescriptor "(I)I").map (fun d => d.parameters.length) = some 1 by decide +kernel)⟩ ⟨by decide, by decide⟩ rfl (bl rfl) dX1_addSettings_74)
              · exact (rn_U (As := [.int 2]) C (ct_at hR hA (ct_on (ct_X7_weight g TA x12 2))) (rv_on C hR (q := vw_3) rfl) q1309 q634 (va_Decl.of (C.w _ q633) (C.w _ q637)) (C.w _ q635) q633 q122 q637 ⟨by decide +kernel, by decide +kernel, (show (parseMethodDescriptor "(I)I").map (fun d => d.parameters.length) = some 1 by decide +kernel)⟩ ⟨by decide, by decide⟩ rfl (bl rfl) dX1_addSettings_74))) 77 rfl (fun x16 => ?_)
          refine s_iast C hR hA dX1_addSettings_77 78 rfl ?_
          refine s_dup C dX1_addSettings_78 rfl 79 rfl ?_
          refine s_iconst (v := 3) C dX1_addSettings_79 (by decide) 80 rfl ?_
          refine s_aload C dX1_addSettings_80 82 rfl 0 rfl ?_
          refine s_iconst (v := 3) C dX1_addSettings_82 (by decide) 83 rfl ?_
          refine s_call_i (rn_D (by
              intro ci hci
              simp only [List.mem_cons, List.not_mem_nil, or_false] at hci
              rcases hci with rfl | rfl
              · exact (rn_U (As := [.int 3]) C (ct_at hR hA (ct_on (ct_X7_weight g TA x12 3))) (rv_on C hR (q := vw_2) rfl) q1309 q634 (va_Decl.of (C.w _ q633) (C.w _ q637)) (C.w _ q636) q633 q122 q637 ⟨by decide +kernel, by decide +kernel, (show (parseMethodDescriptor "(I)I").map (fun d => d.parameters.length) = some 1 by decide +kernel)⟩ ⟨by decide, by decide⟩ rfl (bl rfl) dX1_addSettings_83)
              · exact (rn_U (As := [.int 3]) C (ct_at hR hA (ct_on (ct_X7_weight g TA x12 3))) (rv_on C hR (q := vw_3) rfl) q1309 q634 (va_Decl.of (C.w _ q633) (C.w _ q637)) (C.w _ q635) q633 q122 q637 ⟨by decide +kernel, by decide +kernel, (show (parseMethodDescriptor "(I)I").map (fun d => d.parameters.length) = some 1 by decide +kernel)⟩ ⟨by decide, by decide⟩ rfl (bl rfl) dX1_addSettings_83))) 86 rfl (fun x17 => ?_)
          refine s_iast C hR hA dX1_addSettings_86 87 rfl ?_
          refine s_call_l (rn_S (As := [.long s2.1, .ref x13]) C (ct_at hR hA (ct_X1_add g TA s2.1 x13)) (lw_S q1225 q1226 q101 q1227) nv_X1_add ⟨by decide, by decide⟩ rfl (bl rfl) dX1_addSettings_87) 90 rfl (fun x18 => ?_)
          refine s_lstore_n C dX1_addSettings_90 rfl (by decide) 91 rfl [(3, .long x18), (7, .ref x12), (0, .ref a0), (5, .int x1), (6, .int s2.2)] rfl ?_
          refine s_r ?_
          refine s_lv [2, 0, 3, 4] rfl ?_
          exact hK9 x18
theorem nv_J23_isNaN : yJ23_isNaN.cls ≠ "java/lang/invoke/MethodHandle" ∧ yJ23_isNaN.cls ≠ "java/lang/invoke/VarHandle" ∧ (parseMethodDescriptor yJ23_isNaN.desc).map (fun d => d.parameters.length) = some 1 := by decide +kernel
theorem ct_J23_isNaN {l : Launch} (g : sm_G) (TA : Nat → Prop) (p0 : UInt64) : sm_CT l g (so_R g TA) (so_A g TA) yJ23_isNaN cJ23_isNaN 2 (some .boolean) 0 0 [.double p0] em_i (f_J23_isNaN g p0) := by
  refine sm_of (own := "java/lang/Double") rfl rfl (bl rfl) (fun Y C hR hA hl hm => ?_)
  subst hl
  refine s_lv (L' := [(0, .double p0)]) [0] rfl ?_
  refine s_top ?_
  unfold f_J23_isNaN
  refine s_dload_n C dJ23_isNaN_0 1 rfl 0 rfl ?_
  refine s_dload_n C dJ23_isNaN_1 2 rfl 0 rfl ?_
  refine s_dcmp C dJ23_isNaN_2 3 rfl ?_
  refine s_cut (J := 11) (LJ := (fun (v1 : Int32) => [])) (SJ := (fun (v1 : Int32) => [.int v1])) (fun v1 => ?_) (fun _ _ hK2 => ?_)
  · refine s_zb (fun h => ?_)
    exact s_iret C rfl (s_zn h) dJ23_isNaN_11
  · refine s_if_eq C dJ23_isNaN_3 10 6 (by decide) rfl ?_ ?_
    · refine s_iconst (v := 0) C dJ23_isNaN_10 (by decide) 11 rfl ?_
      refine s_r ?_
      refine s_lv [] rfl ?_
      exact hK2 0
    · refine s_iconst (v := 1) C dJ23_isNaN_6 (by decide) 7 rfl ?_
      refine s_goto C dJ23_isNaN_7 11 (by decide) ?_
      refine s_r ?_
      refine s_lv [] rfl ?_
      exact hK2 1
theorem nv_J23_doubleToLongBits : yJ23_doubleToLongBits.cls ≠ "java/lang/invoke/MethodHandle" ∧ yJ23_doubleToLongBits.cls ≠ "java/lang/invoke/VarHandle" ∧ (parseMethodDescriptor yJ23_doubleToLongBits.desc).map (fun d => d.parameters.length) = some 1 := by decide +kernel
theorem ct_J23_doubleToLongBits {l : Launch} (g : sm_G) (TA : Nat → Prop) (p0 : UInt64) : sm_CT l g (so_R g TA) (so_A g TA) yJ23_doubleToLongBits cJ23_doubleToLongBits 2 (some .long) 1 21 [.double p0] em_l (f_J23_doubleToLongBits g p0) := by
  refine sm_of (own := "java/lang/Double") rfl rfl (bl rfl) (fun Y C hR hA hl hm => ?_)
  subst hl
  refine s_lv (L' := [(0, .double p0)]) [0] rfl ?_
  refine s_top ?_
  unfold f_J23_doubleToLongBits
  refine s_dload_n C dJ23_doubleToLongBits_0 1 rfl 0 rfl ?_
  refine s_call_i (rn_S (As := [.double p0]) C (ct_at hR hA (ct_J23_isNaN g TA p0)) (lw_S q1319 q1320 q140 q1321) nv_J23_isNaN ⟨by decide, by decide⟩ rfl (bl rfl) dJ23_doubleToLongBits_1) 4 rfl (fun x1 => ?_)
  refine s_if_ne C dJ23_doubleToLongBits_4 12 7 (by decide) rfl ?_ ?_
  · refine s_dload_n C dJ23_doubleToLongBits_7 8 rfl 0 rfl ?_
    refine s_d2l C q1322 q1324 q1323 q140 (by decide) (bl rfl) dJ23_doubleToLongBits_8 11 rfl ?_
    exact s_lret C rfl dJ23_doubleToLongBits_11
  · refine s_ldc2 (v := 9221120237041090560) C q1325 dJ23_doubleToLongBits_12 15 rfl ?_
    exact s_lret C rfl dJ23_doubleToLongBits_15
theorem nv_X1_digest : yX1_digest.cls ≠ "java/lang/invoke/MethodHandle" ∧ yX1_digest.cls ≠ "java/lang/invoke/VarHandle" ∧ (parseMethodDescriptor yX1_digest.desc).map (fun d => d.parameters.length) = some 0 := by decide +kernel
theorem ct_X1_digest {l : Launch} (g : sm_G) (TA : Nat → Prop) (a0 : Nat) : sm_CT l g (so_R g TA) (so_A g TA) yX1_digest cX1_digest 5 (some .long) 10 233 [.ref a0] em_l (f_X1_digest g a0) := by
  refine sm_of (own := "PatchCords") rfl rfl (bl rfl) (fun Y C hR hA hl hm => ?_)
  subst hl
  refine s_lv (L' := [(0, .ref a0)]) [0] rfl ?_
  refine s_top ?_
  unfold f_X1_digest
  refine s_aload_n C dX1_digest_0 1 rfl 0 rfl ?_
  refine s_getR C hR fd_PatchCords_panel (Or.inl q273) dX1_digest_1 4 rfl (fun x1 => ?_)
  refine s_astore_n C dX1_digest_4 rfl (by decide) 5 rfl [(1, .ref x1), (0, .ref a0)] rfl ?_
  refine s_ldc2 (v := 610) C q1223 dX1_digest_5 8 rfl ?_
  refine s_bipush (v := 14) C dX1_digest_8 (by decide) 10 rfl ?_
  refine s_newa C hR 0 .int rfl (fun _ => rfl) (fun _ h => by cases h) (by decide) q237 dX1_digest_10 12 rfl (fun x2 => ?_)
  refine s_dup C dX1_digest_12 rfl 13 rfl ?_
  refine s_iconst (v := 0) C dX1_digest_13 (by decide) 14 rfl ?_
  refine s_aload_n C dX1_digest_14 15 rfl 1 rfl ?_
  refine s_call_i (rn_V (As := []) C (ct_at hR hA (ct_on (ct_X1_modules g TA a0))) (rv_on C hR (q := vw_0) rfl) (lw_V q521 q522 q523 q101 q524) ⟨rfl, nv_X1_modules⟩ ⟨by decide, by decide⟩ rfl (bl rfl) dX1_digest_15) 18 rfl (fun x3 => ?_)
  refine s_iast C hR hA dX1_digest_18 19 rfl ?_
  refine s_dup C dX1_digest_19 rfl 20 rfl ?_
  refine s_iconst (v := 1) C dX1_digest_20 (by decide) 21 rfl ?_
  refine s_aload_n C dX1_digest_21 22 rfl 0 rfl ?_
  refine s_call_i (rn_V (As := []) C (ct_at hR hA (ct_on (ct_X2_cords g TA x1))) (rv_on C hR (q := vw_1) rfl) (lw_V q557 q558 q559 q102 q560) ⟨rfl, nv_X2_cords⟩ ⟨by decide, by decide⟩ rfl (bl rfl) dX1_digest_22) 25 rfl (fun x4 => ?_)
  refine s_iast C hR hA dX1_digest_25 26 rfl ?_
  refine s_dup C dX1_digest_26 rfl 27 rfl ?_
  refine s_iconst (v := 2) C dX1_digest_27 (by decide) 28 rfl ?_
  refine s_aload_n C dX1_digest_28 29 rfl 0 rfl ?_
  refine s_getI C hR fd_PatchCords_Panel_mode (Or.inr (Or.inl ⟨_, q196⟩)) dX1_digest_29 32 rfl (fun x5 => ?_)
  refine s_iast C hR hA dX1_digest_32 33 rfl ?_
  refine s_dup C dX1_digest_33 rfl 34 rfl ?_
  refine s_iconst (v := 3) C dX1_digest_34 (by decide) 35 rfl ?_
  refine s_aload_n C dX1_digest_35 36 rfl 1 rfl ?_
  refine s_call_i (rn_V (As := []) C (ct_at hR hA (ct_on (ct_X1_way g TA a0))) (rv_on C hR (q := vw_0) rfl) (lw_V q1224 q571 q572 q101 q573) ⟨rfl, nv_X1_way⟩ ⟨by decide, by decide⟩ rfl (bl rfl) dX1_digest_36) 39 rfl (fun x6 => ?_)
  refine s_iast C hR hA dX1_digest_39 40 rfl ?_
  refine s_dup C dX1_digest_40 rfl 41 rfl ?_
  refine s_iconst (v := 4) C dX1_digest_41 (by decide) 42 rfl ?_
  refine s_aload_n C dX1_digest_42 43 rfl 0 rfl ?_
  refine s_getI C hR fd_PatchCords_Panel_guarded (Or.inr (Or.inl ⟨_, q194⟩)) dX1_digest_43 46 rfl (fun x7 => ?_)
  refine s_cut (J := 54) (LJ := (fun (v8 : Int32) => [(0, .ref a0), (1, .ref x1)])) (SJ := (fun (v8 : Int32) => [.int v8, .int 4, .ref x2, .ref x2, .long 610])) (fun v8 => ?_) (fun _ _ hK9 => ?_)
  · refine s_iast C hR hA dX1_digest_54 55 rfl ?_
    refine s_dup C dX1_digest_55 rfl 56 rfl ?_
    refine s_iconst (v := 5) C dX1_digest_56 (by decide) 57 rfl ?_
    refine s_aload_n C dX1_digest_57 58 rfl 1 rfl ?_
    refine s_getI C hR fd_PatchCords_Panel_steps (Or.inr (Or.inl ⟨_, q198⟩)) dX1_digest_58 61 rfl (fun x10 => ?_)
    refine s_iast C hR hA dX1_digest_61 62 rfl ?_
    refine s_dup C dX1_digest_62 rfl 63 rfl ?_
    refine s_bipush (v := 6) C dX1_digest_63 (by decide) 65 rfl ?_
    refine s_aload_n C dX1_digest_65 66 rfl 1 rfl ?_
    refine s_call_i (rn_V (As := []) C (ct_at hR hA (ct_on (ct_X2_overloaded g TA x1))) (rv_on C hR (q := vw_1) rfl) (lw_V q593 q594 q595 q102 q596) ⟨rfl, nv_X2_overloaded⟩ ⟨by decide, by decide⟩ rfl (bl rfl) dX1_digest_66) 69 rfl (fun x11 => ?_)
    refine s_iast C hR hA dX1_digest_69 70 rfl ?_
    refine s_dup C dX1_digest_70 rfl 71 rfl ?_
    refine s_bipush (v := 7) C dX1_digest_71 (by decide) 73 rfl ?_
    refine s_aload_n C dX1_digest_73 74 rfl 1 rfl ?_
    refine s_call_i (rn_V (As := []) C (ct_at hR hA (ct_on (ct_X2_inCircles g TA x1))) (rv_on C hR (q := vw_1) rfl) (lw_V q670 q671 q672 q102 q673) ⟨rfl, nv_X2_inCircles⟩ ⟨by decide, by decide⟩ rfl (bl rfl) dX1_digest_74) 77 rfl (fun x12 => ?_)
    refine s_iast C hR hA dX1_digest_77 78 rfl ?_
    refine s_dup C dX1_digest_78 rfl 79 rfl ?_
    refine s_bipush (v := 8) C dX1_digest_79 (by decide) 81 rfl ?_
    refine s_aload_n C dX1_digest_81 82 rfl 1 rfl ?_
    refine s_call_i (rn_V (As := []) C (ct_at hR hA (ct_on (ct_X2_ends g TA x1))) (rv_on C hR (q := vw_1) rfl) (lw_V q693 q694 q695 q102 q696) ⟨rfl, nv_X2_ends⟩ ⟨by decide, by decide⟩ rfl (bl rfl) dX1_digest_82) 85 rfl (fun x13 => ?_)
    refine s_iast C hR hA dX1_digest_85 86 rfl ?_
    refine s_dup C dX1_digest_86 rfl 87 rfl ?_
    refine s_bipush (v := 9) C dX1_digest_87 (by decide) 89 rfl ?_
    refine s_aload_n C dX1_digest_89 90 rfl 1 rfl ?_
    refine s_getI C hR fd_PatchCords_Panel_recorded (Or.inr (Or.inl ⟨_, q200⟩)) dX1_digest_90 93 rfl (fun x14 => ?_)
    refine s_iast C hR hA dX1_digest_93 94 rfl ?_
    refine s_dup C dX1_digest_94 rfl 95 rfl ?_
    refine s_bipush (v := 10) C dX1_digest_95 (by decide) 97 rfl ?_
    refine s_aload_n C dX1_digest_97 98 rfl 1 rfl ?_
    refine s_getI C hR fd_PatchCords_Panel_recordCount (Or.inr (Or.inl ⟨_, q202⟩)) dX1_digest_98 101 rfl (fun x15 => ?_)
    refine s_iast C hR hA dX1_digest_101 102 rfl ?_
    refine s_dup C dX1_digest_102 rfl 103 rfl ?_
    refine s_bipush (v := 11) C dX1_digest_103 (by decide) 105 rfl ?_
    refine s_aload_n C dX1_digest_105 106 rfl 1 rfl ?_
    refine s_getI C hR fd_PatchCords_Panel_crossings (Or.inr (Or.inl ⟨_, q204⟩)) dX1_digest_106 109 rfl (fun x16 => ?_)
    refine s_iast C hR hA dX1_digest_109 110 rfl ?_
    refine s_dup C dX1_digest_110 rfl 111 rfl ?_
    refine s_bipush (v := 12) C dX1_digest_111 (by decide) 113 rfl ?_
    refine s_aload_n C dX1_digest_113 114 rfl 1 rfl ?_
    refine s_getI C hR fd_PatchCords_Panel_beat (Or.inr (Or.inl ⟨_, q207⟩)) dX1_digest_114 117 rfl (fun x17 => ?_)
    refine s_iast C hR hA dX1_digest_117 118 rfl ?_
    refine s_dup C dX1_digest_118 rfl 119 rfl ?_
    refine s_bipush (v := 13) C dX1_digest_119 (by decide) 121 rfl ?_
    refine s_aload_n C dX1_digest_121 122 rfl 1 rfl ?_
    refine s_call_i (rn_V (As := []) C (ct_at hR hA (ct_on (ct_X2_untilOverload g TA x1))) (rv_on C hR (q := vw_1) rfl) (lw_V q725 q726 q727 q102 q728) ⟨rfl, nv_X2_untilOverload⟩ ⟨by decide, by decide⟩ rfl (bl rfl) dX1_digest_122) 125 rfl (fun x18 => ?_)
    refine s_iast C hR hA dX1_digest_125 126 rfl ?_
    refine s_call_l (rn_S (As := [.long 610, .ref x2]) C (ct_at hR hA (ct_X1_add g TA 610 x2)) (lw_S q1225 q1226 q101 q1227) nv_X1_add ⟨by decide, by decide⟩ rfl (bl rfl) dX1_digest_126) 129 rfl (fun x19 => ?_)
    refine s_lstore_n C dX1_digest_129 rfl (by decide) 130 rfl [(2, .long x19), (0, .ref a0), (1, .ref x1)] rfl ?_
    refine s_aload_n C dX1_digest_130 131 rfl 1 rfl ?_
    refine s_aload_n C dX1_digest_131 132 rfl 1 rfl ?_
    refine s_lload_n C dX1_digest_132 133 rfl 0 rfl ?_
    refine s_call_l (rn_V (As := [.long x19]) C (ct_at hR hA (ct_on (ct_X1_addParts g TA a0 x19))) (rv_on C hR (q := vw_0) rfl) (lw_V q1229 q1231 qs22 q101 q1232) ⟨rfl, nv_X1_addParts⟩ ⟨by decide, by decide⟩ rfl (bl rfl) dX1_digest_133) 136 rfl (fun x20 => ?_)
    refine s_call_l (rn_V (As := [.long x20]) C (ct_at hR hA (ct_on (ct_X1_addSettings g TA a0 x20))) (rv_on C hR (q := vw_0) rfl) (lw_V q1304 q1306 qs23 q101 q1307) ⟨rfl, nv_X1_addSettings⟩ ⟨by decide, by decide⟩ rfl (bl rfl) dX1_digest_136) 139 rfl (fun x21 => ?_)
    refine s_lstore_n C dX1_digest_139 rfl (by decide) 140 rfl [(2, .long x21), (0, .ref a0), (1, .ref x1)] rfl ?_
    refine s_iconst (v := 0) C dX1_digest_140 (by decide) 141 rfl ?_
    refine s_istore C dX1_digest_141 (by decide) 143 rfl [(4, .int 0), (2, .long x21), (0, .ref a0), (1, .ref x1)] rfl ?_
    refine s_lv [3, 1, 0] rfl ?_
    refine s_loop (fun (s22 : Int64 × Int32) => [(1, .ref x1), (2, .long s22.1), (4, .int s22.2)]) (fun (v30 : Int64) => [(1, .ref x1), (2, .long v30)]) 176 (x21, 0) rfl (fun v30 => ?_) (fun _ s22 hk23 hx24 => ?_)
    · refine s_ldc2 (v := 31) C q1228 dX1_digest_176 179 rfl ?_
      refine s_lload_n C dX1_digest_179 180 rfl 1 rfl ?_
      refine s_lmul C dX1_digest_180 181 rfl ?_
      refine s_aload_n C dX1_digest_181 182 rfl 0 rfl ?_
      refine s_call_d (rn_V (As := []) C (ct_at hR hA (ct_on (ct_X2_meanRecord g TA x1))) (rv_on C hR (q := vw_1) rfl) (lw_V q717 q718 q719 q102 q720) ⟨rfl, nv_X2_meanRecord⟩ ⟨by decide, by decide⟩ rfl (bl rfl) dX1_digest_182) 185 rfl (fun x31 => ?_)
      refine s_call_l (rn_S (As := [.double x31]) C (ct_at hR hA (ct_J23_doubleToLongBits g TA x31)) (lw_S q1316 q1317 q140 q1318) nv_J23_doubleToLongBits ⟨by decide, by decide⟩ rfl (bl rfl) dX1_digest_185) 188 rfl (fun x32 => ?_)
      refine s_ladd C dX1_digest_188 189 rfl ?_
      exact s_lret C rfl dX1_digest_189
    · refine s_iload C dX1_digest_143 145 rfl 2 rfl ?_
      refine s_aload_n C dX1_digest_145 146 rfl 0 rfl ?_
      refine s_getI C hR fd_PatchCords_Panel_recordCount (Or.inr (Or.inl ⟨_, q202⟩)) dX1_digest_146 149 rfl (fun x25 => ?_)
      refine s_icmp_ge C dX1_digest_149 176 152 (by decide) rfl ?_ ?_
      · refine s_r ?_
        refine s_lv [0, 1] rfl ?_
        exact hx24 s22.1
      · refine s_lload_n C dX1_digest_152 153 rfl 1 rfl ?_
        refine s_iconst (v := 1) C dX1_digest_153 (by decide) 154 rfl ?_
        refine s_newa C hR 0 .int rfl (fun _ => rfl) (fun _ h => by cases h) (by decide) q237 dX1_digest_154 156 rfl (fun x26 => ?_)
        refine s_dup C dX1_digest_156 rfl 157 rfl ?_
        refine s_iconst (v := 0) C dX1_digest_157 (by decide) 158 rfl ?_
        refine s_aload_n C dX1_digest_158 159 rfl 0 rfl ?_
        refine s_getR C hR fd_PatchCords_Panel_records (Or.inr (Or.inl ⟨_, q190⟩)) dX1_digest_159 162 rfl (fun x27 => ?_)
        refine s_iload C dX1_digest_162 164 rfl 2 rfl ?_
        refine s_iald C hR dX1_digest_164 165 rfl (fun x28 => ?_)
        refine s_iast C hR hA dX1_digest_165 166 rfl ?_
        refine s_call_l (rn_S (As := [.long s22.1, .ref x26]) C (ct_at hR hA (ct_X1_add g TA s22.1 x26)) (lw_S q1225 q1226 q101 q1227) nv_X1_add ⟨by decide, by decide⟩ rfl (bl rfl) dX1_digest_166) 169 rfl (fun x29 => ?_)
        refine s_lstore_n C dX1_digest_169 rfl (by decide) 170 rfl [(2, .long x29), (1, .ref x1), (4, .int s22.2)] rfl ?_
        refine s_iinc C dX1_digest_170 (s22.2 + 1) rfl 2 rfl (by decide) 173 rfl [(4, .int (s22.2 + 1)), (2, .long x29), (1, .ref x1)] rfl ?_
        refine s_goto C dX1_digest_173 143 (by decide) ?_
        refine s_r ?_
        refine s_lv [2, 1, 0] rfl ?_
        exact hk23 (x29, s22.2 + 1)
  · refine s_if_eq C dX1_digest_46 53 49 (by decide) rfl ?_ ?_
    · refine s_iconst (v := 0) C dX1_digest_53 (by decide) 54 rfl ?_
      refine s_r ?_
      refine s_lv [1, 0] rfl ?_
      exact hK9 0
    · refine s_iconst (v := 1) C dX1_digest_49 (by decide) 50 rfl ?_
      refine s_goto C dX1_digest_50 54 (by decide) ?_
      refine s_r ?_
      refine s_lv [1, 0] rfl ?_
      exact hK9 1
theorem nv_X1_checkRange : yX1_checkRange.cls ≠ "java/lang/invoke/MethodHandle" ∧ yX1_checkRange.cls ≠ "java/lang/invoke/VarHandle" ∧ (parseMethodDescriptor yX1_checkRange.desc).map (fun d => d.parameters.length) = some 3 := by decide +kernel
theorem ct_X1_checkRange {l : Launch} (htr : l.stackTraces = false) (g : sm_G) (TA : Nat → Prop) (p0 : Int32) (p1 : Int32) (p2 : Int32) : sm_CX l g (so_R g TA) (so_A g TA) yX1_checkRange cX1_checkRange 3 none 6 81 [.int p0, .int p1, .int p2] (em_x em_v) (f_X1_checkRange g p0 p1 p2) := by
  refine sm_ofX htr (own := "PatchCords") rfl rfl (bl rfl) (fun Y C hR hA hl hm => ?_)
  subst hl
  refine s_lv (L' := [(0, .int p0), (1, .int p1), (2, .int p2)]) [0, 1, 2] rfl ?_
  refine s_top ?_
  unfold f_X1_checkRange
  refine s_iload_n C dX1_checkRange_0 1 rfl 0 rfl ?_
  refine s_iload_n C dX1_checkRange_1 2 rfl 1 rfl ?_
  refine s_iload_n C dX1_checkRange_2 3 rfl 2 rfl ?_
  refine s_call_i (rn_S (As := [.int p0, .int p1, .int p2]) C (ct_at hR hA (ct_X1_isWithin g TA p0 p1 p2)) (lw_S q1338 q664 q101 q665) nv_X1_isWithin ⟨by decide, by decide⟩ rfl (bl rfl) dX1_checkRange_3) 6 rfl (fun x1 => ?_)
  refine s_if_ne C dX1_checkRange_6 17 9 (by decide) rfl ?_ ?_
  · exact s_throw C hR q1339 q116 at_IAE (by decide +kernel) (by decide +kernel) dX1_checkRange_9 dX1_checkRange_12 dX1_checkRange_13 dX1_checkRange_16 (by decide) (bl rfl) (fun _ => rfl)
  · exact s_vret C rfl dX1_checkRange_17
theorem nv_X1_checkState : yX1_checkState.cls ≠ "java/lang/invoke/MethodHandle" ∧ yX1_checkState.cls ≠ "java/lang/invoke/VarHandle" ∧ (parseMethodDescriptor yX1_checkState.desc).map (fun d => d.parameters.length) = some 1 := by decide +kernel
theorem ct_X1_checkState {l : Launch} (htr : l.stackTraces = false) (g : sm_G) (TA : Nat → Prop) (p0 : Int32) : sm_CX l g (so_R g TA) (so_A g TA) yX1_checkState cX1_checkState 1 none 6 81 [.int p0] (em_x em_v) (f_X1_checkState g p0) := by
  refine sm_ofX htr (own := "PatchCords") rfl rfl (bl rfl) (fun Y C hR hA hl hm => ?_)
  subst hl
  refine s_lv (L' := [(0, .int p0)]) [0] rfl ?_
  refine s_top ?_
  unfold f_X1_checkState
  refine s_iload_n C dX1_checkState_0 1 rfl 0 rfl ?_
  refine s_if_ne C dX1_checkState_1 12 4 (by decide) rfl ?_ ?_
  · exact s_throw C hR q1353 q117 at_ISE (by decide +kernel) (by decide +kernel) dX1_checkState_4 dX1_checkState_7 dX1_checkState_8 dX1_checkState_11 (by decide) (bl rfl) (fun _ => rfl)
  · exact s_vret C rfl dX1_checkState_12
theorem nv_X1_newPart : yX1_newPart.cls ≠ "java/lang/invoke/MethodHandle" ∧ yX1_newPart.cls ≠ "java/lang/invoke/VarHandle" ∧ (parseMethodDescriptor yX1_newPart.desc).map (fun d => d.parameters.length) = some 1 := by decide +kernel
theorem ct_X1_newPart {l : Launch} (g : sm_G) (TA : Nat → Prop) (p0 : Int32) : sm_CT l g (so_R g TA) (so_A g TA) yX1_newPart cX1_newPart 1 (some (.object "PatchCords$Part")) 4 74 [.int p0] em_r (f_X1_newPart g p0) := by
  refine sm_of (own := "PatchCords") rfl rfl (bl rfl) (fun Y C hR hA hl hm => ?_)
  subst hl
  refine s_lv (L' := [(0, .int p0)]) [0] rfl ?_
  refine s_top ?_
  unfold f_X1_newPart
  refine s_iload_n C dX1_newPart_0 1 rfl 0 rfl ?_
  refine s_tab C dX1_newPart_1 0 (35) 36 (by decide) (by decide) rfl (by decide) ?_ (fun hc13 => ?_)
  · refine s_new C hR cd_2 rfl df_2 q1375 q439 q127 dX1_newPart_36 39 rfl (fun x1 => ?_)
    refine s_dup C dX1_newPart_39 rfl 40 rfl ?_
    refine s_call_v (rn_IN (As := []) C (ct_at hR hA (ct_X12_init g TA x1)) q1376 q441 q127 q442 rfl nv_X12_init ⟨by decide, by decide⟩ rfl (bl rfl) dX1_newPart_40) 43 rfl ?_
    exact s_aret C rfl (Or.inl ⟨_, rfl⟩) dX1_newPart_43
  refine s_tab C dX1_newPart_1 1 (43) 44 (by decide) (by decide) rfl (by decide) ?_ (fun hc14 => ?_)
  · refine s_new C hR cd_3 rfl df_3 q1310 q355 q123 dX1_newPart_44 47 rfl (fun x3 => ?_)
    refine s_dup C dX1_newPart_47 rfl 48 rfl ?_
    refine s_call_v (rn_IN (As := []) C (ct_at hR hA (ct_X8_init g TA x3)) q1377 q357 q123 q358 rfl nv_X8_init ⟨by decide, by decide⟩ rfl (bl rfl) dX1_newPart_48) 51 rfl ?_
    exact s_aret C rfl (Or.inl ⟨_, rfl⟩) dX1_newPart_51
  refine s_tab C dX1_newPart_1 2 (51) 52 (by decide) (by decide) rfl (by decide) ?_ (fun hc15 => ?_)
  · refine s_new C hR cd_4 rfl df_4 q1378 q394 q124 dX1_newPart_52 55 rfl (fun x5 => ?_)
    refine s_dup C dX1_newPart_55 rfl 56 rfl ?_
    refine s_call_v (rn_I (As := []) C (ct_at hR hA (ct_X9_init g TA x5)) q1379 q396 q124 q397 rfl nv_X9_init ⟨by decide, by decide⟩ rfl (bl rfl) dX1_newPart_56) 59 rfl ?_
    exact s_aret C rfl (Or.inl ⟨_, rfl⟩) dX1_newPart_59
  refine s_tab C dX1_newPart_1 3 (59) 60 (by decide) (by decide) rfl (by decide) ?_ (fun hc16 => ?_)
  · refine s_new C hR cd_5 rfl df_5 q1380 q411 q125 dX1_newPart_60 63 rfl (fun x7 => ?_)
    refine s_dup C dX1_newPart_63 rfl 64 rfl ?_
    refine s_call_v (rn_I (As := []) C (ct_at hR hA (ct_X10_init g TA x7)) q1381 q413 q125 q414 rfl nv_X10_init ⟨by decide, by decide⟩ rfl (bl rfl) dX1_newPart_64) 67 rfl ?_
    exact s_aret C rfl (Or.inl ⟨_, rfl⟩) dX1_newPart_67
  refine s_tab C dX1_newPart_1 4 (67) 68 (by decide) (by decide) rfl (by decide) ?_ (fun hc17 => ?_)
  · refine s_new C hR cd_6 rfl df_6 q1382 q332 q121 dX1_newPart_68 71 rfl (fun x9 => ?_)
    refine s_dup C dX1_newPart_71 rfl 72 rfl ?_
    refine s_call_v (rn_I (As := []) C (ct_at hR hA (ct_X6_init g TA x9)) q1383 q334 q121 q335 rfl nv_X6_init ⟨by decide, by decide⟩ rfl (bl rfl) dX1_newPart_72) 75 rfl ?_
    exact s_aret C rfl (Or.inl ⟨_, rfl⟩) dX1_newPart_75
  refine s_tabD C dX1_newPart_1 76 (sw_out 5 (fun k hk => by
      match k, hk with
      | 0, _ => exact hc13
      | 1, _ => exact hc14
      | 2, _ => exact hc15
      | 3, _ => exact hc16
      | 4, _ => exact hc17
      | k + 5, h => exact absurd h (by omega))) (by decide) ?_
  refine s_new C hR cd_7 rfl df_7 q1384 q423 q126 dX1_newPart_76 79 rfl (fun x11 => ?_)
  refine s_dup C dX1_newPart_79 rfl 80 rfl ?_
  refine s_call_v (rn_I (As := []) C (ct_at hR hA (ct_X11_init g TA x11)) q1385 q425 q126 q426 rfl nv_X11_init ⟨by decide, by decide⟩ rfl (bl rfl) dX1_newPart_80) 83 rfl ?_
  exact s_aret C rfl (Or.inl ⟨_, rfl⟩) dX1_newPart_83
theorem nv_X2_tellOrder : yX2_tellOrder.cls ≠ "java/lang/invoke/MethodHandle" ∧ yX2_tellOrder.cls ≠ "java/lang/invoke/VarHandle" ∧ (parseMethodDescriptor yX2_tellOrder.desc).map (fun d => d.parameters.length) = some 0 := by decide +kernel
theorem ct_X2_tellOrder {l : Launch} (g : sm_G) (TA : Nat → Prop) (a0 : Nat) : sm_CT l g (so_R g TA) (so_A g TA) yX2_tellOrder cX2_tellOrder 5 none 5 109 [.ref a0] em_v (f_X2_tellOrder g a0) := by
  refine sm_of (own := "PatchCords$Panel") rfl rfl (bl rfl) (fun Y C hR hA hl hm => ?_)
  subst hl
  refine s_lv (L' := [(0, .ref a0)]) [0] rfl ?_
  refine s_top ?_
  unfold f_X2_tellOrder
  refine s_aload_n C dX2_tellOrder_0 1 rfl 0 rfl ?_
  refine s_call_r (rn_V (As := []) C (ct_at hR hA (ct_on (ct_X2_levels g TA a0))) (rv_on C hR (q := vw_1) rfl) (lw_V q1390 q1234 q1235 q102 q1236) ⟨rfl, nv_X2_levels⟩ ⟨by decide, by decide⟩ rfl (bl rfl) dX2_tellOrder_1) 4 rfl (fun x1 => ?_)
  refine s_astore_n C dX2_tellOrder_4 rfl (by decide) 5 rfl [(1, .ref x1), (0, .ref a0)] rfl ?_
  refine s_iconst (v := 0) C dX2_tellOrder_5 (by decide) 6 rfl ?_
  refine s_istore_n C dX2_tellOrder_6 rfl (by decide) 7 rfl [(2, .int 0), (1, .ref x1), (0, .ref a0)] rfl ?_
  refine s_iconst (v := 0) C dX2_tellOrder_7 (by decide) 8 rfl ?_
  refine s_istore_n C dX2_tellOrder_8 rfl (by decide) 9 rfl [(3, .int 0), (2, .int 0), (1, .ref x1), (0, .ref a0)] rfl ?_
  refine s_lv [3, 2, 1, 0] rfl ?_
  refine s_loop (fun (s2 : Int32 × Int32) => [(0, .ref a0), (1, .ref x1), (2, .int s2.1), (3, .int s2.2)]) (fun (v15 : Unit) => []) 60 (0, 0) rfl (fun v15 => ?_) (fun _ s2 hk3 hx4 => ?_)
  · exact s_vret C rfl dX2_tellOrder_60
  · refine s_iload_n C dX2_tellOrder_9 10 rfl 2 rfl ?_
    refine s_aload_n C dX2_tellOrder_10 11 rfl 0 rfl ?_
    refine s_call_i (rn_V (As := []) C (ct_at hR hA (ct_on (ct_X2_size g TA a0))) (rv_on C hR (q := vw_1) rfl) (lw_V q561 q526 q527 q102 q528) ⟨rfl, nv_X2_size⟩ ⟨by decide, by decide⟩ rfl (bl rfl) dX2_tellOrder_11) 14 rfl (fun x5 => ?_)
    refine s_icmp_ge C dX2_tellOrder_14 60 17 (by decide) rfl ?_ ?_
    · refine s_r ?_
      refine s_lv [] rfl ?_
      exact hx4 ()
    · refine s_iconst (v := 0) C dX2_tellOrder_17 (by decide) 18 rfl ?_
      refine s_istore C dX2_tellOrder_18 (by decide) 20 rfl [(4, .int 0), (0, .ref a0), (1, .ref x1), (2, .int s2.1), (3, .int s2.2)] rfl ?_
      refine s_lv [1, 2, 3, 4, 0] rfl ?_
      refine s_loop (fun (s6 : Int32 × Int32) => [(0, .ref a0), (1, .ref x1), (2, .int s6.1), (3, .int s2.2), (4, .int s6.2)]) (fun (v14 : Int32) => [(0, .ref a0), (1, .ref x1), (2, .int v14), (3, .int s2.2)]) 54 (s2.1, 0) rfl (fun v14 => ?_) (fun _ s6 hk7 hx8 => ?_)
      · refine s_iinc C dX2_tellOrder_54 (s2.2 + 1) rfl 3 rfl (by decide) 57 rfl [(3, .int (s2.2 + 1)), (0, .ref a0), (1, .ref x1), (2, .int v14)] rfl ?_
        refine s_goto C dX2_tellOrder_57 9 (by decide) ?_
        refine s_r ?_
        refine s_lv [1, 2, 3, 0] rfl ?_
        exact hk3 (v14, s2.2 + 1)
      · refine s_iload C dX2_tellOrder_20 22 rfl 4 rfl ?_
        refine s_aload_n C dX2_tellOrder_22 23 rfl 0 rfl ?_
        refine s_call_i (rn_V (As := []) C (ct_at hR hA (ct_on (ct_X2_size g TA a0))) (rv_on C hR (q := vw_1) rfl) (lw_V q561 q526 q527 q102 q528) ⟨rfl, nv_X2_size⟩ ⟨by decide, by decide⟩ rfl (bl rfl) dX2_tellOrder_23) 26 rfl (fun x9 => ?_)
        refine s_icmp_ge C dX2_tellOrder_26 54 29 (by decide) rfl ?_ ?_
        · refine s_r ?_
          refine s_lv [0, 1, 2, 3] rfl ?_
          exact hx8 s6.1
        · refine s_aload_n C dX2_tellOrder_29 30 rfl 1 rfl ?_
          refine s_iload C dX2_tellOrder_30 32 rfl 4 rfl ?_
          refine s_iald C hR dX2_tellOrder_32 33 rfl (fun x10 => ?_)
          refine s_iload_n C dX2_tellOrder_33 34 rfl 3 rfl ?_
          refine s_cut (J := 48) (LJ := (fun (v11 : Int32) => [(0, .ref a0), (1, .ref x1), (2, .int v11), (3, .int s2.2), (4, .int s6.2)])) (SJ := (fun (v11 : Int32) => [])) (fun v11 => ?_) (fun _ _ hK12 => ?_)
          · refine s_iinc C dX2_tellOrder_48 (s6.2 + 1) rfl 4 rfl (by decide) 51 rfl [(4, .int (s6.2 + 1)), (0, .ref a0), (1, .ref x1), (2, .int v11), (3, .int s2.2)] rfl ?_
            refine s_goto C dX2_tellOrder_51 20 (by decide) ?_
            refine s_r ?_
            refine s_lv [1, 2, 3, 4, 0] rfl ?_
            exact hk7 (v11, s6.2 + 1)
          · refine s_icmp_ne C dX2_tellOrder_34 48 37 (by decide) rfl ?_ ?_
            · refine s_aload_n C dX2_tellOrder_37 38 rfl 0 rfl ?_
              refine s_getR C hR fd_PatchCords_Panel_order (Or.inl q184) dX2_tellOrder_38 41 rfl (fun x13 => ?_)
              refine s_iload_n C dX2_tellOrder_41 42 rfl 2 rfl ?_
              refine s_iload C dX2_tellOrder_42 44 rfl 4 rfl ?_
              refine s_iast C hR hA dX2_tellOrder_44 45 rfl ?_
              refine s_iinc C dX2_tellOrder_45 (s6.1 + 1) rfl 2 rfl (by decide) 48 rfl [(2, .int (s6.1 + 1)), (0, .ref a0), (1, .ref x1), (3, .int s2.2), (4, .int s6.2)] rfl ?_
              refine s_r ?_
              refine s_lv [1, 2, 0, 3, 4] rfl ?_
              exact hK12 (s6.1 + 1)
            · refine s_r ?_
              refine s_lv [0, 1, 2, 3, 4] rfl ?_
              exact hK12 s6.1
theorem nv_X2_put : yX2_put.cls ≠ "java/lang/invoke/MethodHandle" ∧ yX2_put.cls ≠ "java/lang/invoke/VarHandle" ∧ (parseMethodDescriptor yX2_put.desc).map (fun d => d.parameters.length) = some 1 := by decide +kernel
theorem ct_X2_put {l : Launch} (g : sm_G) (TA : Nat → Prop) (a0 : Nat) (p0 : Int32) : sm_CT l g (so_R g TA) (so_A g TA) yX2_put cX2_put 2 (some .int) 7 159 [.ref a0, .int p0] em_i (f_X2_put g a0 p0) := by
  refine sm_of (own := "PatchCords$Panel") rfl rfl (bl rfl) (fun Y C hR hA hl hm => ?_)
  subst hl
  refine s_lv (L' := [(0, .ref a0), (1, .int p0)]) [0, 1] rfl ?_
  refine s_top ?_
  unfold f_X2_put
  refine s_aload_n C dX2_put_0 1 rfl 0 rfl ?_
  refine s_getR C hR fd_PatchCords_Panel_parts (Or.inl q183) dX2_put_1 4 rfl (fun x1 => ?_)
  refine s_iload_n C dX2_put_4 5 rfl 1 rfl ?_
  refine s_call_r (rn_SN (As := [.int p0]) C (ct_at hR hA (ct_X1_newPart g TA p0)) q1372 q1373 q101 q1374 nv_X1_newPart ⟨by decide, by decide⟩ rfl (bl rfl) dX2_put_5) 8 rfl (fun x2 => ?_)
  refine s_call_i (rn_V (As := [.ref x2]) C (ct_at hR hA (ct_on (ct_J2_add g TA x1 x2))) (rv_on C hR (q := vw_10) rfl) (lw_V q453 q454 q455 q105 q456) ⟨rfl, nv_J2_add⟩ ⟨by decide, by decide⟩ rfl (bl rfl) dX2_put_8) 11 rfl (fun x3 => ?_)
  refine s_pop C dX2_put_11 rfl 12 rfl ?_
  refine s_aload_n C dX2_put_12 13 rfl 0 rfl ?_
  refine s_call_v (rn_V (As := []) C (ct_at hR hA (ct_on (ct_X2_tellOrder g TA a0))) (rv_on C hR (q := vw_1) rfl) (lw_V q1386 q1388 qs24 q102 q1389) ⟨rfl, nv_X2_tellOrder⟩ ⟨by decide, by decide⟩ rfl (bl rfl) dX2_put_13) 16 rfl ?_
  refine s_aload_n C dX2_put_16 17 rfl 0 rfl ?_
  refine s_call_i (rn_V (As := []) C (ct_at hR hA (ct_on (ct_X2_size g TA a0))) (rv_on C hR (q := vw_1) rfl) (lw_V q561 q526 q527 q102 q528) ⟨rfl, nv_X2_size⟩ ⟨by decide, by decide⟩ rfl (bl rfl) dX2_put_17) 20 rfl (fun x5 => ?_)
  refine s_iconst (v := 1) C dX2_put_20 (by decide) 21 rfl ?_
  refine s_isub C dX2_put_21 22 rfl ?_
  exact s_iret C rfl rfl dX2_put_22
theorem nv_X1_put : yX1_put.cls ≠ "java/lang/invoke/MethodHandle" ∧ yX1_put.cls ≠ "java/lang/invoke/VarHandle" ∧ (parseMethodDescriptor yX1_put.desc).map (fun d => d.parameters.length) = some 1 := by decide +kernel
theorem ct_X1_put {l : Launch} (htr : l.stackTraces = false) (g : sm_G) (TA : Nat → Prop) (a0 : Nat) (p0 : Int32) : sm_CX l g (so_R g TA) (so_A g TA) yX1_put cX1_put 2 (some .int) 9 202 [.ref a0, .int p0] (em_x em_i) (f_X1_put g a0 p0) := by
  refine sm_ofX htr (own := "PatchCords") rfl rfl (bl rfl) (fun Y C hR hA hl hm => ?_)
  subst hl
  refine s_lv (L' := [(0, .ref a0), (1, .int p0)]) [0, 1] rfl ?_
  refine s_top ?_
  unfold f_X1_put
  refine s_iload_n C dX1_put_0 1 rfl 1 rfl ?_
  refine s_iconst (v := 0) C dX1_put_1 (by decide) 2 rfl ?_
  refine s_iconst (v := 5) C dX1_put_2 (by decide) 3 rfl ?_
  refine s_callX_v C (rx_S (As := [.int p0, .int 0, .int 5]) C (cx_at hR hA (ct_X1_checkRange C.tr g TA p0 0 5)) (lw_S q1335 q1336 q101 q1337) nv_X1_checkRange ⟨by decide, by decide⟩ rfl (bl rfl) dX1_put_3) (fun _ => rfl) 6 rfl ?_
  refine s_aload_n C dX1_put_6 7 rfl 0 rfl ?_
  refine s_call_i (rn_V (As := []) C (ct_at hR hA (ct_on (ct_X1_modules g TA a0))) (rv_on C hR (q := vw_0) rfl) (lw_V q521 q522 q523 q101 q524) ⟨rfl, nv_X1_modules⟩ ⟨by decide, by decide⟩ rfl (bl rfl) dX1_put_7) 10 rfl (fun x2 => ?_)
  refine s_bipush (v := 16) C dX1_put_10 (by decide) 12 rfl ?_
  refine s_cut (J := 20) (LJ := (fun (v3 : Int32) => [(0, .ref a0), (1, .int p0)])) (SJ := (fun (v3 : Int32) => [.int v3])) (fun v3 => ?_) (fun _ _ hK4 => ?_)
  · refine s_callX_v C (rx_S (As := [.int v3]) C (cx_at hR hA (ct_X1_checkState C.tr g TA v3)) (lw_S q1350 q1351 q101 q1352) nv_X1_checkState ⟨by decide, by decide⟩ rfl (bl rfl) dX1_put_20) (fun _ => rfl) 23 rfl ?_
    refine s_aload_n C dX1_put_23 24 rfl 0 rfl ?_
    refine s_call_v (rn_V (As := []) C (ct_at hR hA (ct_on (ct_X1_save g TA a0))) (rv_on C hR (q := vw_0) rfl) (lw_V q533 q535 qs3 q101 q536) ⟨rfl, nv_X1_save⟩ ⟨by decide, by decide⟩ rfl (bl rfl) dX1_put_24) 27 rfl ?_
    refine s_aload_n C dX1_put_27 28 rfl 0 rfl ?_
    refine s_getR C hR fd_PatchCords_panel (Or.inl q273) dX1_put_28 31 rfl (fun x7 => ?_)
    refine s_iload_n C dX1_put_31 32 rfl 1 rfl ?_
    refine s_call_i (rn_V (As := [.int p0]) C (ct_at hR hA (ct_on (ct_X2_put g TA x7 p0))) (rv_on C hR (q := vw_1) rfl) (lw_V q1368 q1369 q1370 q102 q1371) ⟨rfl, nv_X2_put⟩ ⟨by decide, by decide⟩ rfl (bl rfl) dX1_put_32) 35 rfl (fun x8 => ?_)
    exact s_iret C rfl rfl dX1_put_35
  · refine s_icmp_ge C dX1_put_12 19 15 (by decide) rfl ?_ ?_
    · refine s_iconst (v := 0) C dX1_put_19 (by decide) 20 rfl ?_
      refine s_r ?_
      refine s_lv [0, 1] rfl ?_
      exact hK4 0
    · refine s_iconst (v := 1) C dX1_put_15 (by decide) 16 rfl ?_
      refine s_goto C dX1_put_16 20 (by decide) ?_
      refine s_r ?_
      refine s_lv [0, 1] rfl ?_
      exact hK4 1
theorem nv_X1_checkIndex : yX1_checkIndex.cls ≠ "java/lang/invoke/MethodHandle" ∧ yX1_checkIndex.cls ≠ "java/lang/invoke/VarHandle" ∧ (parseMethodDescriptor yX1_checkIndex.desc).map (fun d => d.parameters.length) = some 2 := by decide +kernel
theorem ct_X1_checkIndex {l : Launch} (htr : l.stackTraces = false) (g : sm_G) (TA : Nat → Prop) (p0 : Int32) (p1 : Int32) : sm_CX l g (so_R g TA) (so_A g TA) yX1_checkIndex cX1_checkIndex 2 none 6 81 [.int p0, .int p1] (em_x em_v) (f_X1_checkIndex g p0 p1) := by
  refine sm_ofX htr (own := "PatchCords") rfl rfl (bl rfl) (fun Y C hR hA hl hm => ?_)
  subst hl
  refine s_lv (L' := [(0, .int p0), (1, .int p1)]) [0, 1] rfl ?_
  refine s_top ?_
  unfold f_X1_checkIndex
  refine s_iload_n C dX1_checkIndex_0 1 rfl 0 rfl ?_
  refine s_iconst (v := 0) C dX1_checkIndex_1 (by decide) 2 rfl ?_
  refine s_iload_n C dX1_checkIndex_2 3 rfl 1 rfl ?_
  refine s_iconst (v := 1) C dX1_checkIndex_3 (by decide) 4 rfl ?_
  refine s_isub C dX1_checkIndex_4 5 rfl ?_
  refine s_call_i (rn_S (As := [.int p0, .int 0, .int (p1 - 1)]) C (ct_at hR hA (ct_X1_isWithin g TA p0 0 (p1 - 1))) (lw_S q1338 q664 q101 q665) nv_X1_isWithin ⟨by decide, by decide⟩ rfl (bl rfl) dX1_checkIndex_5) 8 rfl (fun x1 => ?_)
  refine s_if_ne C dX1_checkIndex_8 19 11 (by decide) rfl ?_ ?_
  · exact s_throw C hR q1416 q132 at_IOOBE (by decide +kernel) (by decide +kernel) dX1_checkIndex_11 dX1_checkIndex_14 dX1_checkIndex_15 dX1_checkIndex_18 (by decide) (bl rfl) (fun _ => rfl)
  · exact s_vret C rfl dX1_checkIndex_19
theorem nv_X1_checkedPart : yX1_checkedPart.cls ≠ "java/lang/invoke/MethodHandle" ∧ yX1_checkedPart.cls ≠ "java/lang/invoke/VarHandle" ∧ (parseMethodDescriptor yX1_checkedPart.desc).map (fun d => d.parameters.length) = some 1 := by decide +kernel
theorem ct_X1_checkedPart {l : Launch} (htr : l.stackTraces = false) (g : sm_G) (TA : Nat → Prop) (a0 : Nat) (p0 : Int32) : sm_CX l g (so_R g TA) (so_A g TA) yX1_checkedPart cX1_checkedPart 2 (some (.object "PatchCords$Part")) 7 102 [.ref a0, .int p0] (em_x em_r) (f_X1_checkedPart g a0 p0) := by
  refine sm_ofX htr (own := "PatchCords") rfl rfl (bl rfl) (fun Y C hR hA hl hm => ?_)
  subst hl
  refine s_lv (L' := [(0, .ref a0), (1, .int p0)]) [0, 1] rfl ?_
  refine s_top ?_
  unfold f_X1_checkedPart
  refine s_iload_n C dX1_checkedPart_0 1 rfl 1 rfl ?_
  refine s_aload_n C dX1_checkedPart_1 2 rfl 0 rfl ?_
  refine s_call_i (rn_V (As := []) C (ct_at hR hA (ct_on (ct_X1_modules g TA a0))) (rv_on C hR (q := vw_0) rfl) (lw_V q521 q522 q523 q101 q524) ⟨rfl, nv_X1_modules⟩ ⟨by decide, by decide⟩ rfl (bl rfl) dX1_checkedPart_2) 5 rfl (fun x1 => ?_)
  refine s_callX_v C (rx_S (As := [.int p0, .int x1]) C (cx_at hR hA (ct_X1_checkIndex C.tr g TA p0 x1)) (lw_S q1413 q1414 q101 q1415) nv_X1_checkIndex ⟨by decide, by decide⟩ rfl (bl rfl) dX1_checkedPart_5) (fun _ => rfl) 8 rfl ?_
  refine s_aload_n C dX1_checkedPart_8 9 rfl 0 rfl ?_
  refine s_getR C hR fd_PatchCords_panel (Or.inl q273) dX1_checkedPart_9 12 rfl (fun x3 => ?_)
  refine s_iload_n C dX1_checkedPart_12 13 rfl 1 rfl ?_
  refine s_call_r (rn_V (As := [.int p0]) C (ct_at hR hA (ct_on (ct_X2_part g TA x3 p0))) (rv_on C hR (q := vw_1) rfl) (lw_V q1260 q563 q564 q102 q565) ⟨rfl, nv_X2_part⟩ ⟨by decide, by decide⟩ rfl (bl rfl) dX1_checkedPart_13) 16 rfl (fun x4 => ?_)
  exact s_aret C rfl (Or.inl ⟨_, rfl⟩) dX1_checkedPart_16
theorem nv_X1_checkedInput : yX1_checkedInput.cls ≠ "java/lang/invoke/MethodHandle" ∧ yX1_checkedInput.cls ≠ "java/lang/invoke/VarHandle" ∧ (parseMethodDescriptor yX1_checkedInput.desc).map (fun d => d.parameters.length) = some 2 := by decide +kernel
theorem ct_X1_checkedInput {l : Launch} (htr : l.stackTraces = false) (g : sm_G) (TA : Nat → Prop) (a0 : Nat) (p0 : Int32) (p1 : Int32) : sm_CX l g (so_R g TA) (so_A g TA) yX1_checkedInput cX1_checkedInput 4 (some (.object "PatchCords$Part")) 8 123 [.ref a0, .int p0, .int p1] (em_x em_r) (f_X1_checkedInput g a0 p0 p1) := by
  refine sm_ofX htr (own := "PatchCords") rfl rfl (bl rfl) (fun Y C hR hA hl hm => ?_)
  subst hl
  refine s_lv (L' := [(0, .ref a0), (1, .int p0), (2, .int p1)]) [0, 1, 2] rfl ?_
  refine s_top ?_
  unfold f_X1_checkedInput
  refine s_aload_n C dX1_checkedInput_0 1 rfl 0 rfl ?_
  refine s_iload_n C dX1_checkedInput_1 2 rfl 1 rfl ?_
  refine s_callX_r C (rx_V (As := [.int p0]) C (cx_at hR hA (cx_on (ct_X1_checkedPart C.tr g TA a0 p0))) (rv_on C hR (q := vw_0) rfl) (lw_V q1409 q1411 qs27 q101 q1412) ⟨rfl, nv_X1_checkedPart⟩ ⟨by decide, by decide⟩ rfl (bl rfl) dX1_checkedInput_2) (fun _ => rfl) 5 rfl (fun x1 => ?_)
  refine s_astore_n C dX1_checkedInput_5 rfl (by decide) 6 rfl [(3, .ref x1), (0, .ref a0), (1, .int p0), (2, .int p1)] rfl ?_
  refine s_iload_n C dX1_checkedInput_6 7 rfl 3 rfl ?_
  refine s_aload_n C dX1_checkedInput_7 8 rfl 0 rfl ?_
  refine s_getR C hR fd_PatchCords_Part_cords (Or.inr (Or.inl ⟨_, q342⟩)) dX1_checkedInput_8 11 rfl (fun x2 => ?_)
  refine s_alen C hR dX1_checkedInput_11 12 rfl (fun x3 => ?_)
  refine s_callX_v C (rx_S (As := [.int p1, .int x3]) C (cx_at hR hA (ct_X1_checkIndex C.tr g TA p1 x3)) (lw_S q1413 q1414 q101 q1415) nv_X1_checkIndex ⟨by decide, by decide⟩ rfl (bl rfl) dX1_checkedInput_12) (fun _ => rfl) 15 rfl ?_
  refine s_aload_n C dX1_checkedInput_15 16 rfl 0 rfl ?_
  exact s_aret C rfl (Or.inl ⟨_, rfl⟩) dX1_checkedInput_16
theorem nv_X1_checkThat : yX1_checkThat.cls ≠ "java/lang/invoke/MethodHandle" ∧ yX1_checkThat.cls ≠ "java/lang/invoke/VarHandle" ∧ (parseMethodDescriptor yX1_checkThat.desc).map (fun d => d.parameters.length) = some 1 := by decide +kernel
theorem ct_X1_checkThat {l : Launch} (htr : l.stackTraces = false) (g : sm_G) (TA : Nat → Prop) (p0 : Int32) : sm_CX l g (so_R g TA) (so_A g TA) yX1_checkThat cX1_checkThat 1 none 6 81 [.int p0] (em_x em_v) (f_X1_checkThat g p0) := by
  refine sm_ofX htr (own := "PatchCords") rfl rfl (bl rfl) (fun Y C hR hA hl hm => ?_)
  subst hl
  refine s_lv (L' := [(0, .int p0)]) [0] rfl ?_
  refine s_top ?_
  unfold f_X1_checkThat
  refine s_iload_n C dX1_checkThat_0 1 rfl 0 rfl ?_
  refine s_if_ne C dX1_checkThat_1 12 4 (by decide) rfl ?_ ?_
  · exact s_throw C hR q1339 q116 at_IAE (by decide +kernel) (by decide +kernel) dX1_checkThat_4 dX1_checkThat_7 dX1_checkThat_8 dX1_checkThat_11 (by decide) (bl rfl) (fun _ => rfl)
  · exact s_vret C rfl dX1_checkThat_12
theorem nv_X1_checkedWeighted : yX1_checkedWeighted.cls ≠ "java/lang/invoke/MethodHandle" ∧ yX1_checkedWeighted.cls ≠ "java/lang/invoke/VarHandle" ∧ (parseMethodDescriptor yX1_checkedWeighted.desc).map (fun d => d.parameters.length) = some 2 := by decide +kernel
theorem ct_X1_checkedWeighted {l : Launch} (htr : l.stackTraces = false) (g : sm_G) (TA : Nat → Prop) (a0 : Nat) (p0 : Int32) (p1 : Int32) : sm_CX l g (so_R g TA) (so_A g TA) yX1_checkedWeighted cX1_checkedWeighted 4 (some (.object "PatchCords$Weighted")) 9 146 [.ref a0, .int p0, .int p1] (em_x em_r) (f_X1_checkedWeighted g a0 p0 p1) := by
  refine sm_ofX htr (own := "PatchCords") rfl rfl (bl rfl) (fun Y C hR hA hl hm => ?_)
  subst hl
  refine s_lv (L' := [(0, .ref a0), (1, .int p0), (2, .int p1)]) [0, 1, 2] rfl ?_
  refine s_top ?_
  unfold f_X1_checkedWeighted
  refine s_aload_n C dX1_checkedWeighted_0 1 rfl 0 rfl ?_
  refine s_iload_n C dX1_checkedWeighted_1 2 rfl 1 rfl ?_
  refine s_iload_n C dX1_checkedWeighted_2 3 rfl 2 rfl ?_
  refine s_callX_r C (rx_V (As := [.int p0, .int p1]) C (cx_at hR hA (cx_on (ct_X1_checkedInput C.tr g TA a0 p0 p1))) (rv_on C hR (q := vw_0) rfl) (lw_V q1405 q1407 qs26 q101 q1408) ⟨rfl, nv_X1_checkedInput⟩ ⟨by decide, by decide⟩ rfl (bl rfl) dX1_checkedWeighted_3) (fun _ => rfl) 6 rfl (fun x1 => ?_)
  refine s_astore_n C dX1_checkedWeighted_6 rfl (by decide) 7 rfl [(3, .ref x1), (0, .ref a0), (1, .int p0), (2, .int p1)] rfl ?_
  refine s_aload_n C dX1_checkedWeighted_7 8 rfl 0 rfl ?_
  refine s_inst C hR q1308 io_Weighted dX1_checkedWeighted_8 11 rfl (fun x2 => ?_)
  refine s_callX_v C (rx_S (As := [.int x2]) C (cx_at hR hA (ct_X1_checkThat C.tr g TA x2)) (lw_S q1431 q1432 q101 q1433) nv_X1_checkThat ⟨by decide, by decide⟩ rfl (bl rfl) dX1_checkedWeighted_11) (fun _ => rfl) 14 rfl ?_
  refine s_aload_n C dX1_checkedWeighted_14 15 rfl 0 rfl ?_
  refine s_cast C hR q1308 ca_PatchCords_Weighted dX1_checkedWeighted_15 (some x1) 18 rfl (fun x4 _ => ?_)
  exact s_aret C rfl (Or.inl ⟨_, rfl⟩) dX1_checkedWeighted_18
theorem nv_X7_turnWeight : yX7_turnWeight.cls ≠ "java/lang/invoke/MethodHandle" ∧ yX7_turnWeight.cls ≠ "java/lang/invoke/VarHandle" ∧ (parseMethodDescriptor yX7_turnWeight.desc).map (fun d => d.parameters.length) = some 1 := by decide +kernel
theorem ct_X7_turnWeight {l : Launch} (g : sm_G) (TA : Nat → Prop) (a0 : Nat) (p0 : Int32) : sm_CT l g (so_R g TA) (so_A g TA) yX7_turnWeight cX7_turnWeight 2 (some .int) 2 42 [.ref a0, .int p0] em_i (f_X7_turnWeight g a0 p0) := by
  refine sm_of (own := "PatchCords$Weighted") rfl rfl (bl rfl) (fun Y C hR hA hl hm => ?_)
  subst hl
  refine s_lv (L' := [(0, .ref a0), (1, .int p0)]) [0, 1] rfl ?_
  refine s_top ?_
  unfold f_X7_turnWeight
  refine s_aload_n C dX7_turnWeight_0 1 rfl 0 rfl ?_
  refine s_dup C dX7_turnWeight_1 rfl 2 rfl ?_
  refine s_getI C hR fd_PatchCords_Weighted_heavy (Or.inl q374) dX7_turnWeight_2 5 rfl (fun x1 => ?_)
  refine s_iconst (v := 1) C dX7_turnWeight_5 (by decide) 6 rfl ?_
  refine s_iload_n C dX7_turnWeight_6 7 rfl 1 rfl ?_
  refine s_ishl C dX7_turnWeight_7 8 rfl ?_
  refine s_ixor C dX7_turnWeight_8 9 rfl ?_
  refine s_put C hR hA fd_PatchCords_Weighted_heavy (Or.inl q374) dX7_turnWeight_9 rfl rfl 12 rfl ?_
  refine s_aload_n C dX7_turnWeight_12 13 rfl 0 rfl ?_
  refine s_iload_n C dX7_turnWeight_13 14 rfl 1 rfl ?_
  refine s_call_i (rn_D (by
      intro ci hci
      simp only [List.mem_cons, List.not_mem_nil, or_false] at hci
      rcases hci with rfl | rfl
      · exact (rn_U (As := [.int p0]) C (ct_at hR hA (ct_on (ct_X7_weight g TA a0 p0))) (rv_on C hR (q := vw_2) rfl) q632 q634 (va_Decl.of (C.w _ q633) (C.w _ q637)) (C.w _ q636) q633 q122 q637 ⟨by decide +kernel, by decide +kernel, (show (parseMethodDescriptor "(I)I").map (fun d => d.parameters.length) = some 1 by decide +kernel)⟩ ⟨by decide, by decide⟩ rfl (bl rfl) dX7_turnWeight_14)
      · exact (rn_U (As := [.int p0]) C (ct_at hR hA (ct_on (ct_X7_weight g TA a0 p0))) (rv_on C hR (q := vw_3) rfl) q632 q634 (va_Decl.of (C.w _ q633) (C.w _ q637)) (C.w _ q635) q633 q122 q637 ⟨by decide +kernel, by decide +kernel, (show (parseMethodDescriptor "(I)I").map (fun d => d.parameters.length) = some 1 by decide +kernel)⟩ ⟨by decide, by decide⟩ rfl (bl rfl) dX7_turnWeight_14))) 17 rfl (fun x2 => ?_)
  exact s_iret C rfl rfl dX7_turnWeight_17
theorem nv_X1_turnWeight : yX1_turnWeight.cls ≠ "java/lang/invoke/MethodHandle" ∧ yX1_turnWeight.cls ≠ "java/lang/invoke/VarHandle" ∧ (parseMethodDescriptor yX1_turnWeight.desc).map (fun d => d.parameters.length) = some 2 := by decide +kernel
theorem ct_X1_turnWeight {l : Launch} (htr : l.stackTraces = false) (g : sm_G) (TA : Nat → Prop) (a0 : Nat) (p0 : Int32) (p1 : Int32) : sm_CX l g (so_R g TA) (so_A g TA) yX1_turnWeight cX1_turnWeight 4 (some .int) 10 202 [.ref a0, .int p0, .int p1] (em_x em_i) (f_X1_turnWeight g a0 p0 p1) := by
  refine sm_ofX htr (own := "PatchCords") rfl rfl (bl rfl) (fun Y C hR hA hl hm => ?_)
  subst hl
  refine s_lv (L' := [(0, .ref a0), (1, .int p0), (2, .int p1)]) [0, 1, 2] rfl ?_
  refine s_top ?_
  unfold f_X1_turnWeight
  refine s_aload_n C dX1_turnWeight_0 1 rfl 0 rfl ?_
  refine s_iload_n C dX1_turnWeight_1 2 rfl 1 rfl ?_
  refine s_iload_n C dX1_turnWeight_2 3 rfl 2 rfl ?_
  refine s_callX_r C (rx_V (As := [.int p0, .int p1]) C (cx_at hR hA (cx_on (ct_X1_checkedWeighted C.tr g TA a0 p0 p1))) (rv_on C hR (q := vw_0) rfl) (lw_V q1401 q1403 qs25 q101 q1404) ⟨rfl, nv_X1_checkedWeighted⟩ ⟨by decide, by decide⟩ rfl (bl rfl) dX1_turnWeight_3) (fun _ => rfl) 6 rfl (fun x1 => ?_)
  refine s_astore_n C dX1_turnWeight_6 rfl (by decide) 7 rfl [(3, .ref x1), (0, .ref a0), (1, .int p0), (2, .int p1)] rfl ?_
  refine s_aload_n C dX1_turnWeight_7 8 rfl 1 rfl ?_
  refine s_call_v (rn_V (As := []) C (ct_at hR hA (ct_on (ct_X1_save g TA a0))) (rv_on C hR (q := vw_0) rfl) (lw_V q533 q535 qs3 q101 q536) ⟨rfl, nv_X1_save⟩ ⟨by decide, by decide⟩ rfl (bl rfl) dX1_turnWeight_8) 11 rfl ?_
  refine s_aload_n C dX1_turnWeight_11 12 rfl 0 rfl ?_
  refine s_iload_n C dX1_turnWeight_12 13 rfl 3 rfl ?_
  refine s_call_i (rn_D (by
      intro ci hci
      simp only [List.mem_cons, List.not_mem_nil, or_false] at hci
      rcases hci with rfl | rfl
      · exact (rn_U (As := [.int p1]) C (ct_at hR hA (ct_on (ct_X7_turnWeight g TA x1 p1))) (rv_on C hR (q := vw_2) rfl) q1434 q1436 (va_Decl.of (C.w _ q1435) (C.w _ q1439)) (C.w _ q1438) q1435 q122 q1439 ⟨by decide +kernel, by decide +kernel, (show (parseMethodDescriptor "(I)I").map (fun d => d.parameters.length) = some 1 by decide +kernel)⟩ ⟨by decide, by decide⟩ rfl (bl rfl) dX1_turnWeight_13)
      · exact (rn_U (As := [.int p1]) C (ct_at hR hA (ct_on (ct_X7_turnWeight g TA x1 p1))) (rv_on C hR (q := vw_3) rfl) q1434 q1436 (va_Decl.of (C.w _ q1435) (C.w _ q1439)) (C.w _ q1437) q1435 q122 q1439 ⟨by decide +kernel, by decide +kernel, (show (parseMethodDescriptor "(I)I").map (fun d => d.parameters.length) = some 1 by decide +kernel)⟩ ⟨by decide, by decide⟩ rfl (bl rfl) dX1_turnWeight_13))) 16 rfl (fun x3 => ?_)
  exact s_iret C rfl rfl dX1_turnWeight_16
theorem nv_X1_hasVoltage : yX1_hasVoltage.cls ≠ "java/lang/invoke/MethodHandle" ∧ yX1_hasVoltage.cls ≠ "java/lang/invoke/VarHandle" ∧ (parseMethodDescriptor yX1_hasVoltage.desc).map (fun d => d.parameters.length) = some 1 := by decide +kernel
theorem ct_X1_hasVoltage {l : Launch} (g : sm_G) (TA : Nat → Prop) (p0 : Nat) : sm_CT l g (so_R g TA) (so_A g TA) yX1_hasVoltage cX1_hasVoltage 1 (some .boolean) 0 0 [.ref p0] em_i (f_X1_hasVoltage g p0) := by
  refine sm_of (own := "PatchCords") rfl rfl (bl rfl) (fun Y C hR hA hl hm => ?_)
  subst hl
  refine s_lv (L' := [(0, .ref p0)]) [0] rfl ?_
  refine s_top ?_
  unfold f_X1_hasVoltage
  refine s_aload_n C dX1_hasVoltage_0 1 rfl 0 rfl ?_
  refine s_inst C hR q1384 io_Steady dX1_hasVoltage_1 4 rfl (fun x1 => ?_)
  refine s_cut (J := 19) (LJ := (fun (v2 : Int32) => [])) (SJ := (fun (v2 : Int32) => [.int v2])) (fun v2 => ?_) (fun _ _ hK3 => ?_)
  · refine s_zb (fun h => ?_)
    exact s_iret C rfl (s_zn h) dX1_hasVoltage_19
  · refine s_if_ne C dX1_hasVoltage_4 14 7 (by decide) rfl ?_ ?_
    · refine s_aload_n C dX1_hasVoltage_7 8 rfl 0 rfl ?_
      refine s_inst C hR q1310 io_Integrator dX1_hasVoltage_8 11 rfl (fun x4 => ?_)
      refine s_if_eq C dX1_hasVoltage_11 18 14 (by decide) rfl ?_ ?_
      · refine s_iconst (v := 0) C dX1_hasVoltage_18 (by decide) 19 rfl ?_
        refine s_r ?_
        refine s_lv [] rfl ?_
        exact hK3 0
      · refine s_iconst (v := 1) C dX1_hasVoltage_14 (by decide) 15 rfl ?_
        refine s_goto C dX1_hasVoltage_15 19 (by decide) ?_
        refine s_r ?_
        refine s_lv [] rfl ?_
        exact hK3 1
    · refine s_iconst (v := 1) C dX1_hasVoltage_14 (by decide) 15 rfl ?_
      refine s_goto C dX1_hasVoltage_15 19 (by decide) ?_
      refine s_r ?_
      refine s_lv [] rfl ?_
      exact hK3 1
theorem nv_X8_reset : yX8_reset.cls ≠ "java/lang/invoke/MethodHandle" ∧ yX8_reset.cls ≠ "java/lang/invoke/VarHandle" ∧ (parseMethodDescriptor yX8_reset.desc).map (fun d => d.parameters.length) = some 0 := by decide +kernel
theorem ct_X8_reset {l : Launch} (g : sm_G) (TA : Nat → Prop) (a0 : Nat) : sm_CT l g (so_R g TA) (so_A g TA) yX8_reset cX8_reset 1 none 0 0 [.ref a0] em_v (f_X8_reset g a0) := by
  refine sm_of (own := "PatchCords$Integrator") rfl rfl (bl rfl) (fun Y C hR hA hl hm => ?_)
  subst hl
  refine s_lv (L' := [(0, .ref a0)]) [0] rfl ?_
  refine s_top ?_
  unfold f_X8_reset
  refine s_aload_n C dX8_reset_0 1 rfl 0 rfl ?_
  refine s_sipush (v := 1000) C dX8_reset_1 (by decide) 4 rfl ?_
  refine s_aload_n C dX8_reset_4 5 rfl 0 rfl ?_
  refine s_getI C hR fd_PatchCords_Integrator_initial (Or.inl q363) dX8_reset_5 8 rfl (fun x1 => ?_)
  refine s_imul C dX8_reset_8 9 rfl ?_
  refine s_put C hR hA fd_PatchCords_Integrator_charge (Or.inl q367) dX8_reset_9 rfl rfl 12 rfl ?_
  exact s_vret C rfl dX8_reset_12
theorem nv_X2_setVoltage : yX2_setVoltage.cls ≠ "java/lang/invoke/MethodHandle" ∧ yX2_setVoltage.cls ≠ "java/lang/invoke/VarHandle" ∧ (parseMethodDescriptor yX2_setVoltage.desc).map (fun d => d.parameters.length) = some 2 := by decide +kernel
theorem ct_X2_setVoltage {l : Launch} (g : sm_G) (TA : Nat → Prop) (a0 : Nat) (p0 : Nat) (p1 : Int32) : sm_CT l g (so_R g TA) (so_A g TA) yX2_setVoltage cX2_setVoltage 4 none 1 20 [.ref a0, .ref p0, .int p1] em_v (f_X2_setVoltage g a0 p0 p1) := by
  refine sm_of (own := "PatchCords$Panel") rfl rfl (bl rfl) (fun Y C hR hA hl hm => ?_)
  subst hl
  refine s_lv (L' := [(0, .ref a0), (1, .ref p0), (2, .int p1)]) [0, 1, 2] rfl ?_
  refine s_top ?_
  unfold f_X2_setVoltage
  refine s_aload_n C dX2_setVoltage_0 1 rfl 1 rfl ?_
  refine s_inst C hR q1454 io_Steady dX2_setVoltage_1 4 rfl (fun x1 => ?_)
  refine s_cut (J := 39) (LJ := (fun (v2 : Unit) => [])) (SJ := (fun (v2 : Unit) => [])) (fun v2 => ?_) (fun _ _ hK3 => ?_)
  · exact s_vret C rfl dX2_setVoltage_39
  · refine s_if_eq C dX2_setVoltage_4 18 7 (by decide) rfl ?_ ?_
    · refine s_aload_n C dX2_setVoltage_18 19 rfl 1 rfl ?_
      refine s_cast C hR q739 ca_PatchCords_Integrator dX2_setVoltage_19 (some p0) 22 rfl (fun x4 _ => ?_)
      refine s_astore_n C dX2_setVoltage_22 rfl (by decide) 23 rfl [(3, .ref x4), (0, .ref a0), (1, .ref p0), (2, .int p1)] rfl ?_
      refine s_aload_n C dX2_setVoltage_23 24 rfl 0 rfl ?_
      refine s_iload_n C dX2_setVoltage_24 25 rfl 3 rfl ?_
      refine s_put C hR hA fd_PatchCords_Integrator_initial (Or.inr (Or.inl ⟨_, q364⟩)) dX2_setVoltage_25 rfl rfl 28 rfl ?_
      refine s_aload_n C dX2_setVoltage_28 29 rfl 1 rfl ?_
      refine s_getI C hR fd_PatchCords_Panel_mode (Or.inl q195) dX2_setVoltage_29 32 rfl (fun x5 => ?_)
      refine s_if_ne C dX2_setVoltage_32 39 35 (by decide) rfl ?_ ?_
      · refine s_aload_n C dX2_setVoltage_35 36 rfl 0 rfl ?_
        refine s_call_v (rn_V (As := []) C (ct_at hR hA (ct_on (ct_X8_reset g TA x4))) (rv_on C hR (q := vw_3) rfl) (lw_V q1455 q1456 q1457 q123 q1458) ⟨rfl, nv_X8_reset⟩ ⟨by decide, by decide⟩ rfl (bl rfl) dX2_setVoltage_36) 39 rfl ?_
        refine s_r ?_
        refine s_lv [] rfl ?_
        exact hK3 ()
      · refine s_r ?_
        refine s_lv [] rfl ?_
        exact hK3 ()
    · refine s_aload_n C dX2_setVoltage_7 8 rfl 1 rfl ?_
      refine s_cast C hR q1454 ca_PatchCords_Steady dX2_setVoltage_8 (some p0) 11 rfl (fun x7 _ => ?_)
      refine s_iload_n C dX2_setVoltage_11 12 rfl 2 rfl ?_
      refine s_put C hR hA fd_PatchCords_Steady_voltage (Or.inr (Or.inl ⟨_, q429⟩)) dX2_setVoltage_12 rfl rfl 15 rfl ?_
      refine s_goto C dX2_setVoltage_15 39 (by decide) ?_
      refine s_r ?_
      refine s_lv [] rfl ?_
      exact hK3 ()
theorem nv_X1_setVoltage : yX1_setVoltage.cls ≠ "java/lang/invoke/MethodHandle" ∧ yX1_setVoltage.cls ≠ "java/lang/invoke/VarHandle" ∧ (parseMethodDescriptor yX1_setVoltage.desc).map (fun d => d.parameters.length) = some 2 := by decide +kernel
theorem ct_X1_setVoltage {l : Launch} (htr : l.stackTraces = false) (g : sm_G) (TA : Nat → Prop) (a0 : Nat) (p0 : Int32) (p1 : Int32) : sm_CX l g (so_R g TA) (so_A g TA) yX1_setVoltage cX1_setVoltage 5 (some .int) 9 202 [.ref a0, .int p0, .int p1] (em_x em_i) (f_X1_setVoltage g a0 p0 p1) := by
  refine sm_ofX htr (own := "PatchCords") rfl rfl (bl rfl) (fun Y C hR hA hl hm => ?_)
  subst hl
  refine s_lv (L' := [(0, .ref a0), (1, .int p0), (2, .int p1)]) [0, 1, 2] rfl ?_
  refine s_top ?_
  unfold f_X1_setVoltage
  refine s_aload_n C dX1_setVoltage_0 1 rfl 0 rfl ?_
  refine s_iload_n C dX1_setVoltage_1 2 rfl 1 rfl ?_
  refine s_callX_r C (rx_V (As := [.int p0]) C (cx_at hR hA (cx_on (ct_X1_checkedPart C.tr g TA a0 p0))) (rv_on C hR (q := vw_0) rfl) (lw_V q1409 q1411 qs27 q101 q1412) ⟨rfl, nv_X1_checkedPart⟩ ⟨by decide, by decide⟩ rfl (bl rfl) dX1_setVoltage_2) (fun _ => rfl) 5 rfl (fun x1 => ?_)
  refine s_astore_n C dX1_setVoltage_5 rfl (by decide) 6 rfl [(3, .ref x1), (0, .ref a0), (1, .int p0), (2, .int p1)] rfl ?_
  refine s_aload_n C dX1_setVoltage_6 7 rfl 0 rfl ?_
  refine s_call_i (rn_S (As := [.ref x1]) C (ct_at hR hA (ct_X1_hasVoltage g TA x1)) (lw_S q1447 q1448 q101 q1449) nv_X1_hasVoltage ⟨by decide, by decide⟩ rfl (bl rfl) dX1_setVoltage_7) 10 rfl (fun x2 => ?_)
  refine s_callX_v C (rx_S (As := [.int x2]) C (cx_at hR hA (ct_X1_checkThat C.tr g TA x2)) (lw_S q1431 q1432 q101 q1433) nv_X1_checkThat ⟨by decide, by decide⟩ rfl (bl rfl) dX1_setVoltage_10) (fun _ => rfl) 13 rfl ?_
  refine s_iload_n C dX1_setVoltage_13 14 rfl 3 rfl ?_
  refine s_sipush (v := (-10000)) C dX1_setVoltage_14 (by decide) 17 rfl ?_
  refine s_sipush (v := 10000) C dX1_setVoltage_17 (by decide) 20 rfl ?_
  refine s_callX_v C (rx_S (As := [.int p1, .int (-10000), .int 10000]) C (cx_at hR hA (ct_X1_checkRange C.tr g TA p1 (-10000) 10000)) (lw_S q1335 q1336 q101 q1337) nv_X1_checkRange ⟨by decide, by decide⟩ rfl (bl rfl) dX1_setVoltage_20) (fun _ => rfl) 23 rfl ?_
  refine s_aload_n C dX1_setVoltage_23 24 rfl 1 rfl ?_
  refine s_call_v (rn_V (As := []) C (ct_at hR hA (ct_on (ct_X1_save g TA a0))) (rv_on C hR (q := vw_0) rfl) (lw_V q533 q535 qs3 q101 q536) ⟨rfl, nv_X1_save⟩ ⟨by decide, by decide⟩ rfl (bl rfl) dX1_setVoltage_24) 27 rfl ?_
  refine s_aload_n C dX1_setVoltage_27 28 rfl 0 rfl ?_
  refine s_call_i (rn_D (by
      intro ci hci
      simp only [List.mem_cons, List.not_mem_nil, or_false] at hci
      rcases hci with rfl | rfl | rfl | rfl | rfl | rfl
      · exact (rn_U (As := []) C (ct_at hR hA (ct_on (ct_X5_setting g TA x1))) (rv_on C hR (q := vw_2) rfl) q1282 q1284 (va_Decl.of (C.w _ q1283) (C.w _ q1297)) (C.w _ q1296) q1283 q120 q1297 ⟨by decide +kernel, by decide +kernel, (show (parseMethodDescriptor "()I").map (fun d => d.parameters.length) = some 0 by decide +kernel)⟩ ⟨by decide, by decide⟩ rfl (bl rfl) dX1_setVoltage_28)
      · exact (rn_U (As := []) C (ct_at hR hA (ct_on (ct_X8_setting g TA x1))) (rv_on C hR (q := vw_3) rfl) q1282 q1284 (va_Decl.of (C.w _ q1283) (C.w _ q1297)) (C.w _ q1286) q1287 q123 q1288 ⟨by decide +kernel, by decide +kernel, (show (parseMethodDescriptor "()I").map (fun d => d.parameters.length) = some 0 by decide +kernel)⟩ ⟨by decide, by decide⟩ rfl (bl rfl) dX1_setVoltage_28)
      · exact (rn_U (As := []) C (ct_at hR hA (ct_on (ct_X9_setting g TA x1))) (rv_on C hR (q := vw_4) rfl) q1282 q1284 (va_Decl.of (C.w _ q1283) (C.w _ q1297)) (C.w _ q1289) q1290 q124 q1291 ⟨by decide +kernel, by decide +kernel, (show (parseMethodDescriptor "()I").map (fun d => d.parameters.length) = some 0 by decide +kernel)⟩ ⟨by decide, by decide⟩ rfl (bl rfl) dX1_setVoltage_28)
      · exact (rn_U (As := []) C (ct_at hR hA (ct_on (ct_X5_setting g TA x1))) (rv_on C hR (q := vw_5) rfl) q1282 q1284 (va_Decl.of (C.w _ q1283) (C.w _ q1297)) (C.w _ q1292) q1283 q120 q1297 ⟨by decide +kernel, by decide +kernel, (show (parseMethodDescriptor "()I").map (fun d => d.parameters.length) = some 0 by decide +kernel)⟩ ⟨by decide, by decide⟩ rfl (bl rfl) dX1_setVoltage_28)
      · exact (rn_U (As := []) C (ct_at hR hA (ct_on (ct_X5_setting g TA x1))) (rv_on C hR (q := vw_6) rfl) q1282 q1284 (va_Decl.of (C.w _ q1283) (C.w _ q1297)) (C.w _ q1285) q1283 q120 q1297 ⟨by decide +kernel, by decide +kernel, (show (parseMethodDescriptor "()I").map (fun d => d.parameters.length) = some 0 by decide +kernel)⟩ ⟨by decide, by decide⟩ rfl (bl rfl) dX1_setVoltage_28)
      · exact (rn_U (As := []) C (ct_at hR hA (ct_on (ct_X11_setting g TA x1))) (rv_on C hR (q := vw_7) rfl) q1282 q1284 (va_Decl.of (C.w _ q1283) (C.w _ q1297)) (C.w _ q1293) q1294 q126 q1295 ⟨by decide +kernel, by decide +kernel, (show (parseMethodDescriptor "()I").map (fun d => d.parameters.length) = some 0 by decide +kernel)⟩ ⟨by decide, by decide⟩ rfl (bl rfl) dX1_setVoltage_28))) 31 rfl (fun x6 => ?_)
  refine s_istore C dX1_setVoltage_31 (by decide) 33 rfl [(4, .int x6), (3, .ref x1), (0, .ref a0), (1, .int p0), (2, .int p1)] rfl ?_
  refine s_aload_n C dX1_setVoltage_33 34 rfl 2 rfl ?_
  refine s_getR C hR fd_PatchCords_panel (Or.inl q273) dX1_setVoltage_34 37 rfl (fun x7 => ?_)
  refine s_aload_n C dX1_setVoltage_37 38 rfl 1 rfl ?_
  refine s_iload_n C dX1_setVoltage_38 39 rfl 4 rfl ?_
  refine s_call_v (rn_V (As := [.ref x1, .int p1]) C (ct_at hR hA (ct_on (ct_X2_setVoltage g TA x7 x1 p1))) (rv_on C hR (q := vw_1) rfl) (lw_V q1450 q1451 q1452 q102 q1453) ⟨rfl, nv_X2_setVoltage⟩ ⟨by decide, by decide⟩ rfl (bl rfl) dX1_setVoltage_39) 42 rfl ?_
  refine s_iload C dX1_setVoltage_42 44 rfl 0 rfl ?_
  exact s_iret C rfl rfl dX1_setVoltage_44
theorem nv_X1_checkedPot : yX1_checkedPot.cls ≠ "java/lang/invoke/MethodHandle" ∧ yX1_checkedPot.cls ≠ "java/lang/invoke/VarHandle" ∧ (parseMethodDescriptor yX1_checkedPot.desc).map (fun d => d.parameters.length) = some 1 := by decide +kernel
theorem ct_X1_checkedPot {l : Launch} (htr : l.stackTraces = false) (g : sm_G) (TA : Nat → Prop) (a0 : Nat) (p0 : Int32) : sm_CX l g (so_R g TA) (so_A g TA) yX1_checkedPot cX1_checkedPot 3 (some (.object "PatchCords$Pot")) 8 123 [.ref a0, .int p0] (em_x em_r) (f_X1_checkedPot g a0 p0) := by
  refine sm_ofX htr (own := "PatchCords") rfl rfl (bl rfl) (fun Y C hR hA hl hm => ?_)
  subst hl
  refine s_lv (L' := [(0, .ref a0), (1, .int p0)]) [0, 1] rfl ?_
  refine s_top ?_
  unfold f_X1_checkedPot
  refine s_aload_n C dX1_checkedPot_0 1 rfl 0 rfl ?_
  refine s_iload_n C dX1_checkedPot_1 2 rfl 1 rfl ?_
  refine s_callX_r C (rx_V (As := [.int p0]) C (cx_at hR hA (cx_on (ct_X1_checkedPart C.tr g TA a0 p0))) (rv_on C hR (q := vw_0) rfl) (lw_V q1409 q1411 qs27 q101 q1412) ⟨rfl, nv_X1_checkedPart⟩ ⟨by decide, by decide⟩ rfl (bl rfl) dX1_checkedPot_2) (fun _ => rfl) 5 rfl (fun x1 => ?_)
  refine s_astore_n C dX1_checkedPot_5 rfl (by decide) 6 rfl [(2, .ref x1), (0, .ref a0), (1, .int p0)] rfl ?_
  refine s_aload_n C dX1_checkedPot_6 7 rfl 0 rfl ?_
  refine s_inst C hR q1378 io_Pot dX1_checkedPot_7 10 rfl (fun x2 => ?_)
  refine s_callX_v C (rx_S (As := [.int x2]) C (cx_at hR hA (ct_X1_checkThat C.tr g TA x2)) (lw_S q1431 q1432 q101 q1433) nv_X1_checkThat ⟨by decide, by decide⟩ rfl (bl rfl) dX1_checkedPot_10) (fun _ => rfl) 13 rfl ?_
  refine s_aload_n C dX1_checkedPot_13 14 rfl 0 rfl ?_
  refine s_cast C hR q1378 ca_PatchCords_Pot dX1_checkedPot_14 (some x1) 17 rfl (fun x4 _ => ?_)
  exact s_aret C rfl (Or.inl ⟨_, rfl⟩) dX1_checkedPot_17
theorem nv_X1_setFactor : yX1_setFactor.cls ≠ "java/lang/invoke/MethodHandle" ∧ yX1_setFactor.cls ≠ "java/lang/invoke/VarHandle" ∧ (parseMethodDescriptor yX1_setFactor.desc).map (fun d => d.parameters.length) = some 2 := by decide +kernel
theorem ct_X1_setFactor {l : Launch} (htr : l.stackTraces = false) (g : sm_G) (TA : Nat → Prop) (a0 : Nat) (p0 : Int32) (p1 : Int32) : sm_CX l g (so_R g TA) (so_A g TA) yX1_setFactor cX1_setFactor 5 (some .int) 9 202 [.ref a0, .int p0, .int p1] (em_x em_i) (f_X1_setFactor g a0 p0 p1) := by
  refine sm_ofX htr (own := "PatchCords") rfl rfl (bl rfl) (fun Y C hR hA hl hm => ?_)
  subst hl
  refine s_lv (L' := [(0, .ref a0), (1, .int p0), (2, .int p1)]) [0, 1, 2] rfl ?_
  refine s_top ?_
  unfold f_X1_setFactor
  refine s_aload_n C dX1_setFactor_0 1 rfl 0 rfl ?_
  refine s_iload_n C dX1_setFactor_1 2 rfl 1 rfl ?_
  refine s_callX_r C (rx_V (As := [.int p0]) C (cx_at hR hA (cx_on (ct_X1_checkedPot C.tr g TA a0 p0))) (rv_on C hR (q := vw_0) rfl) (lw_V q1466 q1468 qs28 q101 q1469) ⟨rfl, nv_X1_checkedPot⟩ ⟨by decide, by decide⟩ rfl (bl rfl) dX1_setFactor_2) (fun _ => rfl) 5 rfl (fun x1 => ?_)
  refine s_astore_n C dX1_setFactor_5 rfl (by decide) 6 rfl [(3, .ref x1), (0, .ref a0), (1, .int p0), (2, .int p1)] rfl ?_
  refine s_iload_n C dX1_setFactor_6 7 rfl 3 rfl ?_
  refine s_iconst (v := 0) C dX1_setFactor_7 (by decide) 8 rfl ?_
  refine s_sipush (v := 1000) C dX1_setFactor_8 (by decide) 11 rfl ?_
  refine s_callX_v C (rx_S (As := [.int p1, .int 0, .int 1000]) C (cx_at hR hA (ct_X1_checkRange C.tr g TA p1 0 1000)) (lw_S q1335 q1336 q101 q1337) nv_X1_checkRange ⟨by decide, by decide⟩ rfl (bl rfl) dX1_setFactor_11) (fun _ => rfl) 14 rfl ?_
  refine s_aload_n C dX1_setFactor_14 15 rfl 1 rfl ?_
  refine s_call_v (rn_V (As := []) C (ct_at hR hA (ct_on (ct_X1_save g TA a0))) (rv_on C hR (q := vw_0) rfl) (lw_V q533 q535 qs3 q101 q536) ⟨rfl, nv_X1_save⟩ ⟨by decide, by decide⟩ rfl (bl rfl) dX1_setFactor_15) 18 rfl ?_
  refine s_aload_n C dX1_setFactor_18 19 rfl 0 rfl ?_
  refine s_getI C hR fd_PatchCords_Pot_factor (Or.inr (Or.inl ⟨_, q400⟩)) dX1_setFactor_19 22 rfl (fun x4 => ?_)
  refine s_istore C dX1_setFactor_22 (by decide) 24 rfl [(4, .int x4), (3, .ref x1), (0, .ref a0), (1, .int p0), (2, .int p1)] rfl ?_
  refine s_aload_n C dX1_setFactor_24 25 rfl 1 rfl ?_
  refine s_iload_n C dX1_setFactor_25 26 rfl 4 rfl ?_
  refine s_put C hR hA fd_PatchCords_Pot_factor (Or.inr (Or.inl ⟨_, q400⟩)) dX1_setFactor_26 rfl rfl 29 rfl ?_
  refine s_iload C dX1_setFactor_29 31 rfl 0 rfl ?_
  exact s_iret C rfl rfl dX1_setFactor_31
theorem nv_X1_checkedIntegrator : yX1_checkedIntegrator.cls ≠ "java/lang/invoke/MethodHandle" ∧ yX1_checkedIntegrator.cls ≠ "java/lang/invoke/VarHandle" ∧ (parseMethodDescriptor yX1_checkedIntegrator.desc).map (fun d => d.parameters.length) = some 1 := by decide +kernel
theorem ct_X1_checkedIntegrator {l : Launch} (htr : l.stackTraces = false) (g : sm_G) (TA : Nat → Prop) (a0 : Nat) (p0 : Int32) : sm_CX l g (so_R g TA) (so_A g TA) yX1_checkedIntegrator cX1_checkedIntegrator 3 (some (.object "PatchCords$Integrator")) 8 123 [.ref a0, .int p0] (em_x em_r) (f_X1_checkedIntegrator g a0 p0) := by
  refine sm_ofX htr (own := "PatchCords") rfl rfl (bl rfl) (fun Y C hR hA hl hm => ?_)
  subst hl
  refine s_lv (L' := [(0, .ref a0), (1, .int p0)]) [0, 1] rfl ?_
  refine s_top ?_
  unfold f_X1_checkedIntegrator
  refine s_aload_n C dX1_checkedIntegrator_0 1 rfl 0 rfl ?_
  refine s_iload_n C dX1_checkedIntegrator_1 2 rfl 1 rfl ?_
  refine s_callX_r C (rx_V (As := [.int p0]) C (cx_at hR hA (cx_on (ct_X1_checkedPart C.tr g TA a0 p0))) (rv_on C hR (q := vw_0) rfl) (lw_V q1409 q1411 qs27 q101 q1412) ⟨rfl, nv_X1_checkedPart⟩ ⟨by decide, by decide⟩ rfl (bl rfl) dX1_checkedIntegrator_2) (fun _ => rfl) 5 rfl (fun x1 => ?_)
  refine s_astore_n C dX1_checkedIntegrator_5 rfl (by decide) 6 rfl [(2, .ref x1), (0, .ref a0), (1, .int p0)] rfl ?_
  refine s_aload_n C dX1_checkedIntegrator_6 7 rfl 0 rfl ?_
  refine s_inst C hR q1310 io_Integrator dX1_checkedIntegrator_7 10 rfl (fun x2 => ?_)
  refine s_callX_v C (rx_S (As := [.int x2]) C (cx_at hR hA (ct_X1_checkThat C.tr g TA x2)) (lw_S q1431 q1432 q101 q1433) nv_X1_checkThat ⟨by decide, by decide⟩ rfl (bl rfl) dX1_checkedIntegrator_10) (fun _ => rfl) 13 rfl ?_
  refine s_aload_n C dX1_checkedIntegrator_13 14 rfl 0 rfl ?_
  refine s_cast C hR q1310 ca_PatchCords_Integrator dX1_checkedIntegrator_14 (some x1) 17 rfl (fun x4 _ => ?_)
  exact s_aret C rfl (Or.inl ⟨_, rfl⟩) dX1_checkedIntegrator_17
theorem nv_X1_setSpeed : yX1_setSpeed.cls ≠ "java/lang/invoke/MethodHandle" ∧ yX1_setSpeed.cls ≠ "java/lang/invoke/VarHandle" ∧ (parseMethodDescriptor yX1_setSpeed.desc).map (fun d => d.parameters.length) = some 2 := by decide +kernel
theorem ct_X1_setSpeed {l : Launch} (htr : l.stackTraces = false) (g : sm_G) (TA : Nat → Prop) (a0 : Nat) (p0 : Int32) (p1 : Int32) : sm_CX l g (so_R g TA) (so_A g TA) yX1_setSpeed cX1_setSpeed 5 (some .int) 9 202 [.ref a0, .int p0, .int p1] (em_x em_i) (f_X1_setSpeed g a0 p0 p1) := by
  refine sm_ofX htr (own := "PatchCords") rfl rfl (bl rfl) (fun Y C hR hA hl hm => ?_)
  subst hl
  refine s_lv (L' := [(0, .ref a0), (1, .int p0), (2, .int p1)]) [0, 1, 2] rfl ?_
  refine s_top ?_
  unfold f_X1_setSpeed
  refine s_aload_n C dX1_setSpeed_0 1 rfl 0 rfl ?_
  refine s_iload_n C dX1_setSpeed_1 2 rfl 1 rfl ?_
  refine s_callX_r C (rx_V (As := [.int p0]) C (cx_at hR hA (cx_on (ct_X1_checkedIntegrator C.tr g TA a0 p0))) (rv_on C hR (q := vw_0) rfl) (lw_V q1477 q1479 qs29 q101 q1480) ⟨rfl, nv_X1_checkedIntegrator⟩ ⟨by decide, by decide⟩ rfl (bl rfl) dX1_setSpeed_2) (fun _ => rfl) 5 rfl (fun x1 => ?_)
  refine s_astore_n C dX1_setSpeed_5 rfl (by decide) 6 rfl [(3, .ref x1), (0, .ref a0), (1, .int p0), (2, .int p1)] rfl ?_
  refine s_iload_n C dX1_setSpeed_6 7 rfl 3 rfl ?_
  refine s_iconst (v := 1) C dX1_setSpeed_7 (by decide) 8 rfl ?_
  refine s_sipush (v := 1000) C dX1_setSpeed_8 (by decide) 11 rfl ?_
  refine s_callX_v C (rx_S (As := [.int p1, .int 1, .int 1000]) C (cx_at hR hA (ct_X1_checkRange C.tr g TA p1 1 1000)) (lw_S q1335 q1336 q101 q1337) nv_X1_checkRange ⟨by decide, by decide⟩ rfl (bl rfl) dX1_setSpeed_11) (fun _ => rfl) 14 rfl ?_
  refine s_aload_n C dX1_setSpeed_14 15 rfl 1 rfl ?_
  refine s_call_v (rn_V (As := []) C (ct_at hR hA (ct_on (ct_X1_save g TA a0))) (rv_on C hR (q := vw_0) rfl) (lw_V q533 q535 qs3 q101 q536) ⟨rfl, nv_X1_save⟩ ⟨by decide, by decide⟩ rfl (bl rfl) dX1_setSpeed_15) 18 rfl ?_
  refine s_aload_n C dX1_setSpeed_18 19 rfl 0 rfl ?_
  refine s_getI C hR fd_PatchCords_Integrator_speed (Or.inr (Or.inl ⟨_, q366⟩)) dX1_setSpeed_19 22 rfl (fun x4 => ?_)
  refine s_istore C dX1_setSpeed_22 (by decide) 24 rfl [(4, .int x4), (3, .ref x1), (0, .ref a0), (1, .int p0), (2, .int p1)] rfl ?_
  refine s_aload_n C dX1_setSpeed_24 25 rfl 1 rfl ?_
  refine s_iload_n C dX1_setSpeed_25 26 rfl 4 rfl ?_
  refine s_put C hR hA fd_PatchCords_Integrator_speed (Or.inr (Or.inl ⟨_, q366⟩)) dX1_setSpeed_26 rfl rfl 29 rfl ?_
  refine s_iload C dX1_setSpeed_29 31 rfl 0 rfl ?_
  exact s_iret C rfl rfl dX1_setSpeed_31
theorem nv_X2_dependsAtOnce : yX2_dependsAtOnce.cls ≠ "java/lang/invoke/MethodHandle" ∧ yX2_dependsAtOnce.cls ≠ "java/lang/invoke/VarHandle" ∧ (parseMethodDescriptor yX2_dependsAtOnce.desc).map (fun d => d.parameters.length) = some 1 := by decide +kernel
theorem ct_X2_dependsAtOnce {l : Launch} (g : sm_G) (TA : Nat → Prop) (a0 : Nat) (p0 : Int32) : sm_CT l g (so_R g TA) (so_A g TA) yX2_dependsAtOnce cX2_dependsAtOnce 5 (some .int) 4 85 [.ref a0, .int p0] em_i (f_X2_dependsAtOnce g a0 p0) := by
  refine sm_of (own := "PatchCords$Panel") rfl rfl (bl rfl) (fun Y C hR hA hl hm => ?_)
  subst hl
  refine s_lv (L' := [(0, .ref a0), (1, .int p0)]) [0, 1] rfl ?_
  refine s_top ?_
  unfold f_X2_dependsAtOnce
  refine s_iconst (v := 1) C dX2_dependsAtOnce_0 (by decide) 1 rfl ?_
  refine s_iload_n C dX2_dependsAtOnce_1 2 rfl 1 rfl ?_
  refine s_ishl C dX2_dependsAtOnce_2 3 rfl ?_
  refine s_topi (fun x1 => ?_)
  refine s_istore_n C dX2_dependsAtOnce_3 rfl (by decide) 4 rfl [(2, .int x1), (0, .ref a0), (1, .int p0)] rfl ?_
  refine s_iconst (v := 0) C dX2_dependsAtOnce_4 (by decide) 5 rfl ?_
  refine s_istore_n C dX2_dependsAtOnce_5 rfl (by decide) 6 rfl [(3, .int 0), (2, .int x1), (0, .ref a0), (1, .int p0)] rfl ?_
  refine s_lv [2, 1, 0] rfl ?_
  refine s_loop (fun (s2 : Int32 × Int32) => [(0, .ref a0), (2, .int s2.1), (3, .int s2.2)]) (fun (v18 : Int32) => [(2, .int v18)]) 71 (x1, 0) rfl (fun v18 => ?_) (fun _ s2 hk3 hx4 => ?_)
  · refine s_iload_n C dX2_dependsAtOnce_71 72 rfl 0 rfl ?_
    exact s_iret C rfl rfl dX2_dependsAtOnce_72
  · refine s_iload_n C dX2_dependsAtOnce_6 7 rfl 1 rfl ?_
    refine s_iload_n C dX2_dependsAtOnce_7 8 rfl 2 rfl ?_
    refine s_icmp_eq C dX2_dependsAtOnce_8 71 11 (by decide) rfl ?_ ?_
    · refine s_r ?_
      refine s_lv [1] rfl ?_
      exact hx4 s2.1
    · refine s_iload_n C dX2_dependsAtOnce_11 12 rfl 1 rfl ?_
      refine s_istore_n C dX2_dependsAtOnce_12 rfl (by decide) 13 rfl [(3, .int s2.1), (0, .ref a0), (2, .int s2.1)] rfl ?_
      refine s_iconst (v := 0) C dX2_dependsAtOnce_13 (by decide) 14 rfl ?_
      refine s_istore C dX2_dependsAtOnce_14 (by decide) 16 rfl [(4, .int 0), (3, .int s2.1), (0, .ref a0), (2, .int s2.1)] rfl ?_
      refine s_lv [2, 3, 1, 0] rfl ?_
      refine s_loop (fun (s5 : Int32 × Int32) => [(0, .ref a0), (2, .int s5.1), (3, .int s2.1), (4, .int s5.2)]) (fun (v17 : Int32) => [(0, .ref a0), (2, .int v17), (3, .int s2.1)]) 68 (s2.1, 0) rfl (fun v17 => ?_) (fun _ s5 hk6 hx7 => ?_)
      · refine s_goto C dX2_dependsAtOnce_68 6 (by decide) ?_
        refine s_r ?_
        refine s_lv [0, 1, 2] rfl ?_
        exact hk3 (v17, s2.1)
      · refine s_iload C dX2_dependsAtOnce_16 18 rfl 3 rfl ?_
        refine s_aload_n C dX2_dependsAtOnce_18 19 rfl 0 rfl ?_
        refine s_call_i (rn_V (As := []) C (ct_at hR hA (ct_on (ct_X2_size g TA a0))) (rv_on C hR (q := vw_1) rfl) (lw_V q561 q526 q527 q102 q528) ⟨rfl, nv_X2_size⟩ ⟨by decide, by decide⟩ rfl (bl rfl) dX2_dependsAtOnce_19) 22 rfl (fun x8 => ?_)
        refine s_icmp_ge C dX2_dependsAtOnce_22 68 25 (by decide) rfl ?_ ?_
        · refine s_r ?_
          refine s_lv [0, 1, 2] rfl ?_
          exact hx7 s5.1
        · refine s_iload_n C dX2_dependsAtOnce_25 26 rfl 1 rfl ?_
          refine s_iload_n C dX2_dependsAtOnce_26 27 rfl 2 rfl ?_
          refine s_iload C dX2_dependsAtOnce_27 29 rfl 3 rfl ?_
          refine s_call_i (rn_SN (As := [.int s2.1, .int s5.2]) C (ct_at hR hA (ct_X1_has g TA s2.1 s5.2)) q688 q639 q101 q640 nv_X1_has ⟨by decide, by decide⟩ rfl (bl rfl) dX2_dependsAtOnce_29) 32 rfl (fun x9 => ?_)
          refine s_cut (J := 60) (LJ := (fun (v10 : Int32) => [(0, .ref a0), (3, .int s2.1), (4, .int s5.2)])) (SJ := (fun (v10 : Int32) => [.int v10, .int s5.1])) (fun v10 => ?_) (fun _ _ hK11 => ?_)
          · refine s_ior C dX2_dependsAtOnce_60 61 rfl ?_
            refine s_topi (fun x16 => ?_)
            refine s_istore_n C dX2_dependsAtOnce_61 rfl (by decide) 62 rfl [(2, .int x16), (0, .ref a0), (3, .int s2.1), (4, .int s5.2)] rfl ?_
            refine s_iinc C dX2_dependsAtOnce_62 (s5.2 + 1) rfl 3 rfl (by decide) 65 rfl [(4, .int (s5.2 + 1)), (2, .int x16), (0, .ref a0), (3, .int s2.1)] rfl ?_
            refine s_goto C dX2_dependsAtOnce_65 16 (by decide) ?_
            refine s_r ?_
            refine s_lv [2, 1, 3, 0] rfl ?_
            exact hk6 (x16, s5.2 + 1)
          · refine s_if_eq C dX2_dependsAtOnce_32 59 35 (by decide) rfl ?_ ?_
            · refine s_iconst (v := 0) C dX2_dependsAtOnce_59 (by decide) 60 rfl ?_
              refine s_r ?_
              refine s_lv [0, 2, 3] rfl ?_
              exact hK11 0
            · refine s_aload_n C dX2_dependsAtOnce_35 36 rfl 0 rfl ?_
              refine s_iload C dX2_dependsAtOnce_36 38 rfl 3 rfl ?_
              refine s_call_r (rn_V (As := [.int s5.2]) C (ct_at hR hA (ct_on (ct_X2_part g TA a0 s5.2))) (rv_on C hR (q := vw_1) rfl) (lw_V q562 q563 q564 q102 q565) ⟨rfl, nv_X2_part⟩ ⟨by decide, by decide⟩ rfl (bl rfl) dX2_dependsAtOnce_38) 41 rfl (fun x12 => ?_)
              refine s_inst C hR q739 io_Integrator dX2_dependsAtOnce_41 44 rfl (fun x13 => ?_)
              refine s_if_ne C dX2_dependsAtOnce_44 59 47 (by decide) rfl ?_ ?_
              · refine s_aload_n C dX2_dependsAtOnce_47 48 rfl 0 rfl ?_
                refine s_iload C dX2_dependsAtOnce_48 50 rfl 3 rfl ?_
                refine s_call_r (rn_V (As := [.int s5.2]) C (ct_at hR hA (ct_on (ct_X2_part g TA a0 s5.2))) (rv_on C hR (q := vw_1) rfl) (lw_V q562 q563 q564 q102 q565) ⟨rfl, nv_X2_part⟩ ⟨by decide, by decide⟩ rfl (bl rfl) dX2_dependsAtOnce_50) 53 rfl (fun x14 => ?_)
                refine s_call_i (rn_D (by
                    intro ci hci
                    simp only [List.mem_cons, List.not_mem_nil, or_false] at hci
                    rcases hci with rfl | rfl | rfl | rfl | rfl | rfl
                    · exact (rn_U (As := []) C (ct_at hR hA (ct_on (ct_X5_feeders g TA x14))) (rv_on C hR (q := vw_2) rfl) q678 q680 (va_Decl.of (C.w _ q679) (C.w _ q687)) (C.w _ q686) q679 q120 q687 ⟨by decide +kernel, by decide +kernel, (show (parseMethodDescriptor "()I").map (fun d => d.parameters.length) = some 0 by decide +kernel)⟩ ⟨by decide, by decide⟩ rfl (bl rfl) dX2_dependsAtOnce_53)
                    · exact (rn_U (As := []) C (ct_at hR hA (ct_on (ct_X5_feeders g TA x14))) (rv_on C hR (q := vw_3) rfl) q678 q680 (va_Decl.of (C.w _ q679) (C.w _ q687)) (C.w _ q682) q679 q120 q687 ⟨by decide +kernel, by decide +kernel, (show (parseMethodDescriptor "()I").map (fun d => d.parameters.length) = some 0 by decide +kernel)⟩ ⟨by decide, by decide⟩ rfl (bl rfl) dX2_dependsAtOnce_53)
                    · exact (rn_U (As := []) C (ct_at hR hA (ct_on (ct_X5_feeders g TA x14))) (rv_on C hR (q := vw_4) rfl) q678 q680 (va_Decl.of (C.w _ q679) (C.w _ q687)) (C.w _ q683) q679 q120 q687 ⟨by decide +kernel, by decide +kernel, (show (parseMethodDescriptor "()I").map (fun d => d.parameters.length) = some 0 by decide +kernel)⟩ ⟨by decide, by decide⟩ rfl (bl rfl) dX2_dependsAtOnce_53)
                    · exact (rn_U (As := []) C (ct_at hR hA (ct_on (ct_X5_feeders g TA x14))) (rv_on C hR (q := vw_5) rfl) q678 q680 (va_Decl.of (C.w _ q679) (C.w _ q687)) (C.w _ q684) q679 q120 q687 ⟨by decide +kernel, by decide +kernel, (show (parseMethodDescriptor "()I").map (fun d => d.parameters.length) = some 0 by decide +kernel)⟩ ⟨by decide, by decide⟩ rfl (bl rfl) dX2_dependsAtOnce_53)
                    · exact (rn_U (As := []) C (ct_at hR hA (ct_on (ct_X5_feeders g TA x14))) (rv_on C hR (q := vw_6) rfl) q678 q680 (va_Decl.of (C.w _ q679) (C.w _ q687)) (C.w _ q681) q679 q120 q687 ⟨by decide +kernel, by decide +kernel, (show (parseMethodDescriptor "()I").map (fun d => d.parameters.length) = some 0 by decide +kernel)⟩ ⟨by decide, by decide⟩ rfl (bl rfl) dX2_dependsAtOnce_53)
                    · exact (rn_U (As := []) C (ct_at hR hA (ct_on (ct_X5_feeders g TA x14))) (rv_on C hR (q := vw_7) rfl) q678 q680 (va_Decl.of (C.w _ q679) (C.w _ q687)) (C.w _ q685) q679 q120 q687 ⟨by decide +kernel, by decide +kernel, (show (parseMethodDescriptor "()I").map (fun d => d.parameters.length) = some 0 by decide +kernel)⟩ ⟨by decide, by decide⟩ rfl (bl rfl) dX2_dependsAtOnce_53))) 56 rfl (fun x15 => ?_)
                refine s_goto C dX2_dependsAtOnce_56 60 (by decide) ?_
                refine s_r ?_
                refine s_lv [0, 2, 3] rfl ?_
                exact hK11 x15
              · refine s_iconst (v := 0) C dX2_dependsAtOnce_59 (by decide) 60 rfl ?_
                refine s_r ?_
                refine s_lv [0, 2, 3] rfl ?_
                exact hK11 0
