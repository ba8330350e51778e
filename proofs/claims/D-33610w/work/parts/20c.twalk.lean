/-! THE REFERENCE'S WALKS -/
theorem nv_X4_peakOf : yX4_peakOf.cls ≠ "java/lang/invoke/MethodHandle" ∧ yX4_peakOf.cls ≠ "java/lang/invoke/VarHandle" ∧ (parseMethodDescriptor yX4_peakOf.desc).map (fun d => d.parameters.length) = some 1 := by decide +kernel
theorem ct_X4_peakOf {l : Launch} (g : sm_G) (TA : Nat → Prop) (a0 : Nat) (p0 : Int32) : sm_CT l g (so_R g TA) (so_A g TA) yX4_peakOf cX4_peakOf 2 (some .int) 3 64 [.ref a0, .int p0] em_i (f_X4_peakOf g a0 p0) := by
  refine sm_of (own := "PatchCordsModel") rfl rfl (bl rfl) (fun Y C hR hA hl hm => ?_)
  subst hl
  refine s_lv (L' := [(0, .ref a0), (1, .int p0)]) [0, 1] rfl ?_
  refine s_top ?_
  unfold f_X4_peakOf
  refine s_aload_n C dX4_peakOf_0 1 rfl 0 rfl ?_
  refine s_iload_n C dX4_peakOf_1 2 rfl 1 rfl ?_
  refine s_call_i (rn_V (As := [.int p0]) C (ct_at hR hA (ct_on (ct_X4_asks g TA a0 p0))) (rv_on C hR (q := vw_12) rfl) (lw_V q2086 q2088 qs71 q112 q2089) ⟨rfl, nv_X4_asks⟩ ⟨by decide, by decide⟩ rfl (bl rfl) dX4_peakOf_2) 5 rfl (fun x1 => ?_)
  refine s_cut (J := 18) (LJ := (fun (v2 : Int32) => [])) (SJ := (fun (v2 : Int32) => [.int v2])) (fun v2 => ?_) (fun _ _ hK3 => ?_)
  · exact s_iret C rfl rfl dX4_peakOf_18
  · refine s_if_eq C dX4_peakOf_5 17 8 (by decide) rfl ?_ ?_
    · refine s_iconst (v := 0) C dX4_peakOf_17 (by decide) 18 rfl ?_
      refine s_r ?_
      refine s_lv [] rfl ?_
      exact hK3 0
    · refine s_aload_n C dX4_peakOf_8 9 rfl 0 rfl ?_
      refine s_iload_n C dX4_peakOf_9 10 rfl 1 rfl ?_
      refine s_iconst (v := 4) C dX4_peakOf_10 (by decide) 11 rfl ?_
      refine s_call_i (rn_V (As := [.int p0, .int 4]) C (ct_at hR hA (ct_on (ct_X4_of g TA a0 p0 4))) (rv_on C hR (q := vw_12) rfl) (lw_V q1916 q1918 qs44 q112 q1919) ⟨rfl, nv_X4_of⟩ ⟨by decide, by decide⟩ rfl (bl rfl) dX4_peakOf_11) 14 rfl (fun x4 => ?_)
      refine s_goto C dX4_peakOf_14 18 (by decide) ?_
      refine s_r ?_
      refine s_lv [] rfl ?_
      exact hK3 x4
theorem nv_X4_scale : yX4_scale.cls ≠ "java/lang/invoke/MethodHandle" ∧ yX4_scale.cls ≠ "java/lang/invoke/VarHandle" ∧ (parseMethodDescriptor yX4_scale.desc).map (fun d => d.parameters.length) = some 1 := by decide +kernel
theorem ct_X4_scale {l : Launch} (g : sm_G) (TA : Nat → Prop) (a0 : Nat) (p0 : Int32) : sm_CT l g (so_R g TA) (so_A g TA) yX4_scale cX4_scale 2 (some .int) 1 22 [.ref a0, .int p0] em_i (f_X4_scale g a0 p0) := by
  refine sm_of (own := "PatchCordsModel") rfl rfl (bl rfl) (fun Y C hR hA hl hm => ?_)
  subst hl
  refine s_lv (L' := [(0, .ref a0), (1, .int p0)]) [0, 1] rfl ?_
  refine s_top ?_
  unfold f_X4_scale
  refine s_aload_n C dX4_scale_0 1 rfl 0 rfl ?_
  refine s_iload_n C dX4_scale_1 2 rfl 1 rfl ?_
  refine s_iconst (v := 4) C dX4_scale_2 (by decide) 3 rfl ?_
  refine s_call_i (rn_V (As := [.int p0, .int 4]) C (ct_at hR hA (ct_on (ct_X4_of g TA a0 p0 4))) (rv_on C hR (q := vw_12) rfl) (lw_V q1916 q1918 qs44 q112 q1919) ⟨rfl, nv_X4_of⟩ ⟨by decide, by decide⟩ rfl (bl rfl) dX4_scale_3) 6 rfl (fun x1 => ?_)
  refine s_cut (J := 22) (LJ := (fun (v2 : Int32) => [])) (SJ := (fun (v2 : Int32) => [.int v2])) (fun v2 => ?_) (fun _ _ hK3 => ?_)
  · exact s_iret C rfl rfl dX4_scale_22
  · refine s_if_ne C dX4_scale_6 13 9 (by decide) rfl ?_ ?_
    · refine s_iconst (v := (-1)) C dX4_scale_9 (by decide) 10 rfl ?_
      refine s_goto C dX4_scale_10 22 (by decide) ?_
      refine s_r ?_
      refine s_lv [] rfl ?_
      exact hK3 (-1)
    · refine s_ldc (v := 10000000) C q2037 dX4_scale_13 15 rfl ?_
      refine s_aload_n C dX4_scale_15 16 rfl 0 rfl ?_
      refine s_iload_n C dX4_scale_16 17 rfl 1 rfl ?_
      refine s_iconst (v := 4) C dX4_scale_17 (by decide) 18 rfl ?_
      refine s_call_i (rn_V (As := [.int p0, .int 4]) C (ct_at hR hA (ct_on (ct_X4_of g TA a0 p0 4))) (rv_on C hR (q := vw_12) rfl) (lw_V q1916 q1918 qs44 q112 q1919) ⟨rfl, nv_X4_of⟩ ⟨by decide, by decide⟩ rfl (bl rfl) dX4_scale_18) 21 rfl (fun x4 => ?_)
      refine s_idv C dX4_scale_21 22 rfl (fun x5 => ?_)
      refine s_r ?_
      refine s_lv [] rfl ?_
      exact hK3 x5
theorem nv_X4_scaleOf : yX4_scaleOf.cls ≠ "java/lang/invoke/MethodHandle" ∧ yX4_scaleOf.cls ≠ "java/lang/invoke/VarHandle" ∧ (parseMethodDescriptor yX4_scaleOf.desc).map (fun d => d.parameters.length) = some 1 := by decide +kernel
theorem ct_X4_scaleOf {l : Launch} (g : sm_G) (TA : Nat → Prop) (a0 : Nat) (p0 : Int32) : sm_CT l g (so_R g TA) (so_A g TA) yX4_scaleOf cX4_scaleOf 2 (some .int) 3 64 [.ref a0, .int p0] em_i (f_X4_scaleOf g a0 p0) := by
  refine sm_of (own := "PatchCordsModel") rfl rfl (bl rfl) (fun Y C hR hA hl hm => ?_)
  subst hl
  refine s_lv (L' := [(0, .ref a0), (1, .int p0)]) [0, 1] rfl ?_
  refine s_top ?_
  unfold f_X4_scaleOf
  refine s_aload_n C dX4_scaleOf_0 1 rfl 0 rfl ?_
  refine s_iload_n C dX4_scaleOf_1 2 rfl 1 rfl ?_
  refine s_call_i (rn_V (As := [.int p0]) C (ct_at hR hA (ct_on (ct_X4_asks g TA a0 p0))) (rv_on C hR (q := vw_12) rfl) (lw_V q2086 q2088 qs71 q112 q2089) ⟨rfl, nv_X4_asks⟩ ⟨by decide, by decide⟩ rfl (bl rfl) dX4_scaleOf_2) 5 rfl (fun x1 => ?_)
  refine s_cut (J := 17) (LJ := (fun (v2 : Int32) => [])) (SJ := (fun (v2 : Int32) => [.int v2])) (fun v2 => ?_) (fun _ _ hK3 => ?_)
  · exact s_iret C rfl rfl dX4_scaleOf_17
  · refine s_if_eq C dX4_scaleOf_5 16 8 (by decide) rfl ?_ ?_
    · refine s_iconst (v := 0) C dX4_scaleOf_16 (by decide) 17 rfl ?_
      refine s_r ?_
      refine s_lv [] rfl ?_
      exact hK3 0
    · refine s_aload_n C dX4_scaleOf_8 9 rfl 0 rfl ?_
      refine s_iload_n C dX4_scaleOf_9 10 rfl 1 rfl ?_
      refine s_call_i (rn_V (As := [.int p0]) C (ct_at hR hA (ct_on (ct_X4_scale g TA a0 p0))) (rv_on C hR (q := vw_12) rfl) (lw_V q2190 q2192 qs79 q112 q2193) ⟨rfl, nv_X4_scale⟩ ⟨by decide, by decide⟩ rfl (bl rfl) dX4_scaleOf_10) 13 rfl (fun x4 => ?_)
      refine s_goto C dX4_scaleOf_13 17 (by decide) ?_
      refine s_r ?_
      refine s_lv [] rfl ?_
      exact hK3 x4
theorem nv_X4_level : yX4_level.cls ≠ "java/lang/invoke/MethodHandle" ∧ yX4_level.cls ≠ "java/lang/invoke/VarHandle" ∧ (parseMethodDescriptor yX4_level.desc).map (fun d => d.parameters.length) = some 1 := by decide +kernel
theorem ct_X4_level {l : Launch} (g : sm_G) (TA : Nat → Prop) (a0 : Nat) (p0 : Int32) : sm_CT l g (so_R g TA) (so_A g TA) yX4_level cX4_level 2 (some .int) 4 88 [.ref a0, .int p0] em_i (f_X4_level g a0 p0) := by
  refine sm_of (own := "PatchCordsModel") rfl rfl (bl rfl) (fun Y C hR hA hl hm => ?_)
  subst hl
  refine s_lv (L' := [(0, .ref a0), (1, .int p0)]) [0, 1] rfl ?_
  refine s_top ?_
  unfold f_X4_level
  refine s_aload_n C dX4_level_0 1 rfl 0 rfl ?_
  refine s_call_v (rn_V (As := []) C (ct_at hR hA (ct_on (ct_X4_laysLevels g TA a0))) (rv_on C hR (q := vw_12) rfl) (lw_V q2015 q2017 qs61 q112 q2018) ⟨rfl, nv_X4_laysLevels⟩ ⟨by decide, by decide⟩ rfl (bl rfl) dX4_level_1) 4 rfl ?_
  refine s_aload_n C dX4_level_4 5 rfl 0 rfl ?_
  refine s_getR C hR fd_PatchCordsModel_levels (Or.inl q1815) dX4_level_5 8 rfl (fun x2 => ?_)
  refine s_iload_n C dX4_level_8 9 rfl 1 rfl ?_
  refine s_iald C hR dX4_level_9 10 rfl (fun x3 => ?_)
  exact s_iret C rfl rfl dX4_level_10
theorem nv_X4_levelOf : yX4_levelOf.cls ≠ "java/lang/invoke/MethodHandle" ∧ yX4_levelOf.cls ≠ "java/lang/invoke/VarHandle" ∧ (parseMethodDescriptor yX4_levelOf.desc).map (fun d => d.parameters.length) = some 1 := by decide +kernel
theorem ct_X4_levelOf {l : Launch} (g : sm_G) (TA : Nat → Prop) (a0 : Nat) (p0 : Int32) : sm_CT l g (so_R g TA) (so_A g TA) yX4_levelOf cX4_levelOf 2 (some .int) 5 109 [.ref a0, .int p0] em_i (f_X4_levelOf g a0 p0) := by
  refine sm_of (own := "PatchCordsModel") rfl rfl (bl rfl) (fun Y C hR hA hl hm => ?_)
  subst hl
  refine s_lv (L' := [(0, .ref a0), (1, .int p0)]) [0, 1] rfl ?_
  refine s_top ?_
  unfold f_X4_levelOf
  refine s_aload_n C dX4_levelOf_0 1 rfl 0 rfl ?_
  refine s_iload_n C dX4_levelOf_1 2 rfl 1 rfl ?_
  refine s_call_i (rn_V (As := [.int p0]) C (ct_at hR hA (ct_on (ct_X4_asks g TA a0 p0))) (rv_on C hR (q := vw_12) rfl) (lw_V q2086 q2088 qs71 q112 q2089) ⟨rfl, nv_X4_asks⟩ ⟨by decide, by decide⟩ rfl (bl rfl) dX4_levelOf_2) 5 rfl (fun x1 => ?_)
  refine s_cut (J := 17) (LJ := (fun (v2 : Int32) => [])) (SJ := (fun (v2 : Int32) => [.int v2])) (fun v2 => ?_) (fun _ _ hK3 => ?_)
  · exact s_iret C rfl rfl dX4_levelOf_17
  · refine s_if_eq C dX4_levelOf_5 16 8 (by decide) rfl ?_ ?_
    · refine s_iconst (v := 0) C dX4_levelOf_16 (by decide) 17 rfl ?_
      refine s_r ?_
      refine s_lv [] rfl ?_
      exact hK3 0
    · refine s_aload_n C dX4_levelOf_8 9 rfl 0 rfl ?_
      refine s_iload_n C dX4_levelOf_9 10 rfl 1 rfl ?_
      refine s_call_i (rn_V (As := [.int p0]) C (ct_at hR hA (ct_on (ct_X4_level g TA a0 p0))) (rv_on C hR (q := vw_12) rfl) (lw_V q2198 q2200 qs80 q112 q2201) ⟨rfl, nv_X4_level⟩ ⟨by decide, by decide⟩ rfl (bl rfl) dX4_levelOf_10) 13 rfl (fun x4 => ?_)
      refine s_goto C dX4_levelOf_13 17 (by decide) ?_
      refine s_r ?_
      refine s_lv [] rfl ?_
      exact hK3 x4
theorem nv_X4_feeders : yX4_feeders.cls ≠ "java/lang/invoke/MethodHandle" ∧ yX4_feeders.cls ≠ "java/lang/invoke/VarHandle" ∧ (parseMethodDescriptor yX4_feeders.desc).map (fun d => d.parameters.length) = some 1 := by decide +kernel
theorem ct_X4_feeders {l : Launch} (g : sm_G) (TA : Nat → Prop) (a0 : Nat) (p0 : Int32) : sm_CT l g (so_R g TA) (so_A g TA) yX4_feeders cX4_feeders 2 (some .int) 3 64 [.ref a0, .int p0] em_i (f_X4_feeders g a0 p0) := by
  refine sm_of (own := "PatchCordsModel") rfl rfl (bl rfl) (fun Y C hR hA hl hm => ?_)
  subst hl
  refine s_lv (L' := [(0, .ref a0), (1, .int p0)]) [0, 1] rfl ?_
  refine s_top ?_
  unfold f_X4_feeders
  refine s_aload_n C dX4_feeders_0 1 rfl 0 rfl ?_
  refine s_iload_n C dX4_feeders_1 2 rfl 1 rfl ?_
  refine s_call_i (rn_V (As := [.int p0]) C (ct_at hR hA (ct_on (ct_X4_asks g TA a0 p0))) (rv_on C hR (q := vw_12) rfl) (lw_V q2086 q2088 qs71 q112 q2089) ⟨rfl, nv_X4_asks⟩ ⟨by decide, by decide⟩ rfl (bl rfl) dX4_feeders_2) 5 rfl (fun x1 => ?_)
  refine s_cut (J := 17) (LJ := (fun (v2 : Int32) => [])) (SJ := (fun (v2 : Int32) => [.int v2])) (fun v2 => ?_) (fun _ _ hK3 => ?_)
  · exact s_iret C rfl rfl dX4_feeders_17
  · refine s_if_eq C dX4_feeders_5 16 8 (by decide) rfl ?_ ?_
    · refine s_iconst (v := 0) C dX4_feeders_16 (by decide) 17 rfl ?_
      refine s_r ?_
      refine s_lv [] rfl ?_
      exact hK3 0
    · refine s_aload_n C dX4_feeders_8 9 rfl 0 rfl ?_
      refine s_iload_n C dX4_feeders_9 10 rfl 1 rfl ?_
      refine s_call_i (rn_V (As := [.int p0]) C (ct_at hR hA (ct_on (ct_X4_feedersOf g TA a0 p0))) (rv_on C hR (q := vw_12) rfl) (lw_V q1975 q1977 qs54 q112 q1978) ⟨rfl, nv_X4_feedersOf⟩ ⟨by decide, by decide⟩ rfl (bl rfl) dX4_feeders_10) 13 rfl (fun x4 => ?_)
      refine s_goto C dX4_feeders_13 17 (by decide) ?_
      refine s_r ?_
      refine s_lv [] rfl ?_
      exact hK3 x4
theorem nv_X4_dependsOn : yX4_dependsOn.cls ≠ "java/lang/invoke/MethodHandle" ∧ yX4_dependsOn.cls ≠ "java/lang/invoke/VarHandle" ∧ (parseMethodDescriptor yX4_dependsOn.desc).map (fun d => d.parameters.length) = some 1 := by decide +kernel
theorem ct_X4_dependsOn {l : Launch} (g : sm_G) (TA : Nat → Prop) (a0 : Nat) (p0 : Int32) : sm_CT l g (so_R g TA) (so_A g TA) yX4_dependsOn cX4_dependsOn 2 (some .int) 3 70 [.ref a0, .int p0] em_i (f_X4_dependsOn g a0 p0) := by
  refine sm_of (own := "PatchCordsModel") rfl rfl (bl rfl) (fun Y C hR hA hl hm => ?_)
  subst hl
  refine s_lv (L' := [(0, .ref a0), (1, .int p0)]) [0, 1] rfl ?_
  refine s_top ?_
  unfold f_X4_dependsOn
  refine s_aload_n C dX4_dependsOn_0 1 rfl 0 rfl ?_
  refine s_iload_n C dX4_dependsOn_1 2 rfl 1 rfl ?_
  refine s_call_i (rn_V (As := [.int p0]) C (ct_at hR hA (ct_on (ct_X4_asks g TA a0 p0))) (rv_on C hR (q := vw_12) rfl) (lw_V q2086 q2088 qs71 q112 q2089) ⟨rfl, nv_X4_asks⟩ ⟨by decide, by decide⟩ rfl (bl rfl) dX4_dependsOn_2) 5 rfl (fun x1 => ?_)
  refine s_cut (J := 18) (LJ := (fun (v2 : Int32) => [])) (SJ := (fun (v2 : Int32) => [.int v2])) (fun v2 => ?_) (fun _ _ hK3 => ?_)
  · exact s_iret C rfl rfl dX4_dependsOn_18
  · refine s_if_eq C dX4_dependsOn_5 17 8 (by decide) rfl ?_ ?_
    · refine s_iconst (v := 0) C dX4_dependsOn_17 (by decide) 18 rfl ?_
      refine s_r ?_
      refine s_lv [] rfl ?_
      exact hK3 0
    · refine s_aload_n C dX4_dependsOn_8 9 rfl 0 rfl ?_
      refine s_iload_n C dX4_dependsOn_9 10 rfl 1 rfl ?_
      refine s_iconst (v := 1) C dX4_dependsOn_10 (by decide) 11 rfl ?_
      refine s_call_i (rn_V (As := [.int p0, .int 1]) C (ct_at hR hA (ct_on (ct_X4_depends g TA a0 p0 1))) (rv_on C hR (q := vw_12) rfl) (lw_V q1971 q1973 qs53 q112 q1974) ⟨rfl, nv_X4_depends⟩ ⟨by decide, by decide⟩ rfl (bl rfl) dX4_dependsOn_11) 14 rfl (fun x4 => ?_)
      refine s_goto C dX4_dependsOn_14 18 (by decide) ?_
      refine s_r ?_
      refine s_lv [] rfl ?_
      exact hK3 x4
theorem nv_X4_dependsByTable : yX4_dependsByTable.cls ≠ "java/lang/invoke/MethodHandle" ∧ yX4_dependsByTable.cls ≠ "java/lang/invoke/VarHandle" ∧ (parseMethodDescriptor yX4_dependsByTable.desc).map (fun d => d.parameters.length) = some 1 := by decide +kernel
theorem ct_X4_dependsByTable {l : Launch} (g : sm_G) (TA : Nat → Prop) (a0 : Nat) (p0 : Int32) : sm_CT l g (so_R g TA) (so_A g TA) yX4_dependsByTable cX4_dependsByTable 2 (some .int) 3 70 [.ref a0, .int p0] em_i (f_X4_dependsByTable g a0 p0) := by
  refine sm_of (own := "PatchCordsModel") rfl rfl (bl rfl) (fun Y C hR hA hl hm => ?_)
  subst hl
  refine s_lv (L' := [(0, .ref a0), (1, .int p0)]) [0, 1] rfl ?_
  refine s_top ?_
  unfold f_X4_dependsByTable
  refine s_aload_n C dX4_dependsByTable_0 1 rfl 0 rfl ?_
  refine s_iload_n C dX4_dependsByTable_1 2 rfl 1 rfl ?_
  refine s_call_i (rn_V (As := [.int p0]) C (ct_at hR hA (ct_on (ct_X4_asks g TA a0 p0))) (rv_on C hR (q := vw_12) rfl) (lw_V q2086 q2088 qs71 q112 q2089) ⟨rfl, nv_X4_asks⟩ ⟨by decide, by decide⟩ rfl (bl rfl) dX4_dependsByTable_2) 5 rfl (fun x1 => ?_)
  refine s_cut (J := 18) (LJ := (fun (v2 : Int32) => [])) (SJ := (fun (v2 : Int32) => [.int v2])) (fun v2 => ?_) (fun _ _ hK3 => ?_)
  · exact s_iret C rfl rfl dX4_dependsByTable_18
  · refine s_if_eq C dX4_dependsByTable_5 17 8 (by decide) rfl ?_ ?_
    · refine s_iconst (v := 0) C dX4_dependsByTable_17 (by decide) 18 rfl ?_
      refine s_r ?_
      refine s_lv [] rfl ?_
      exact hK3 0
    · refine s_aload_n C dX4_dependsByTable_8 9 rfl 0 rfl ?_
      refine s_iload_n C dX4_dependsByTable_9 10 rfl 1 rfl ?_
      refine s_iconst (v := 1) C dX4_dependsByTable_10 (by decide) 11 rfl ?_
      refine s_call_i (rn_V (As := [.int p0, .int 1]) C (ct_at hR hA (ct_on (ct_X4_depends g TA a0 p0 1))) (rv_on C hR (q := vw_12) rfl) (lw_V q1971 q1973 qs53 q112 q1974) ⟨rfl, nv_X4_depends⟩ ⟨by decide, by decide⟩ rfl (bl rfl) dX4_dependsByTable_11) 14 rfl (fun x4 => ?_)
      refine s_goto C dX4_dependsByTable_14 18 (by decide) ?_
      refine s_r ?_
      refine s_lv [] rfl ?_
      exact hK3 x4
theorem nv_X4_circling : yX4_circling.cls ≠ "java/lang/invoke/MethodHandle" ∧ yX4_circling.cls ≠ "java/lang/invoke/VarHandle" ∧ (parseMethodDescriptor yX4_circling.desc).map (fun d => d.parameters.length) = some 0 := by decide +kernel
theorem ct_X4_circling {l : Launch} (g : sm_G) (TA : Nat → Prop) (a0 : Nat) : sm_CT l g (so_R g TA) (so_A g TA) yX4_circling cX4_circling 3 (some .int) 3 70 [.ref a0] em_i (f_X4_circling g a0) := by
  refine sm_of (own := "PatchCordsModel") rfl rfl (bl rfl) (fun Y C hR hA hl hm => ?_)
  subst hl
  refine s_lv (L' := [(0, .ref a0)]) [0] rfl ?_
  refine s_top ?_
  unfold f_X4_circling
  refine s_iconst (v := 0) C dX4_circling_0 (by decide) 1 rfl ?_
  refine s_istore_n C dX4_circling_1 rfl (by decide) 2 rfl [(1, .int 0), (0, .ref a0)] rfl ?_
  refine s_iconst (v := 0) C dX4_circling_2 (by decide) 3 rfl ?_
  refine s_istore_n C dX4_circling_3 rfl (by decide) 4 rfl [(2, .int 0), (1, .int 0), (0, .ref a0)] rfl ?_
  refine s_lv [2, 1, 0] rfl ?_
  refine s_loop (fun (s1 : Int32 × Int32) => [(0, .ref a0), (1, .int s1.1), (2, .int s1.2)]) (fun (v11 : Int32) => [(1, .int v11)]) 43 (0, 0) rfl (fun v11 => ?_) (fun _ s1 hk2 hx3 => ?_)
  · refine s_iload_n C dX4_circling_43 44 rfl 0 rfl ?_
    exact s_iret C rfl rfl dX4_circling_44
  · refine s_iload_n C dX4_circling_4 5 rfl 2 rfl ?_
    refine s_aload_n C dX4_circling_5 6 rfl 0 rfl ?_
    refine s_getR C hR fd_PatchCordsModel_state (Or.inl q1809) dX4_circling_6 9 rfl (fun x4 => ?_)
    refine s_iconst (v := 0) C dX4_circling_9 (by decide) 10 rfl ?_
    refine s_iald C hR dX4_circling_10 11 rfl (fun x5 => ?_)
    refine s_icmp_ge C dX4_circling_11 43 14 (by decide) rfl ?_ ?_
    · refine s_r ?_
      refine s_lv [1] rfl ?_
      exact hx3 s1.1
    · refine s_iload_n C dX4_circling_14 15 rfl 1 rfl ?_
      refine s_aload_n C dX4_circling_15 16 rfl 0 rfl ?_
      refine s_iload_n C dX4_circling_16 17 rfl 2 rfl ?_
      refine s_iconst (v := 1) C dX4_circling_17 (by decide) 18 rfl ?_
      refine s_call_i (rn_V (As := [.int s1.2, .int 1]) C (ct_at hR hA (ct_on (ct_X4_depends g TA a0 s1.2 1))) (rv_on C hR (q := vw_12) rfl) (lw_V q1971 q1973 qs53 q112 q1974) ⟨rfl, nv_X4_depends⟩ ⟨by decide, by decide⟩ rfl (bl rfl) dX4_circling_18) 21 rfl (fun x6 => ?_)
      refine s_iload_n C dX4_circling_21 22 rfl 2 rfl ?_
      refine s_call_i (rn_S (As := [.int x6, .int s1.2]) C (ct_at hR hA (ct_X4_has g TA x6 s1.2)) (lw_S q1979 q1980 q112 q1981) nv_X4_has ⟨by decide, by decide⟩ rfl (bl rfl) dX4_circling_22) 25 rfl (fun x7 => ?_)
      refine s_cut (J := 35) (LJ := (fun (v8 : Int32) => [(0, .ref a0), (2, .int s1.2)])) (SJ := (fun (v8 : Int32) => [.int v8, .int s1.1])) (fun v8 => ?_) (fun _ _ hK9 => ?_)
      · refine s_ior C dX4_circling_35 36 rfl ?_
        refine s_topi (fun x10 => ?_)
        refine s_istore_n C dX4_circling_36 rfl (by decide) 37 rfl [(1, .int x10), (0, .ref a0), (2, .int s1.2)] rfl ?_
        refine s_iinc C dX4_circling_37 (s1.2 + 1) rfl 2 rfl (by decide) 40 rfl [(2, .int (s1.2 + 1)), (1, .int x10), (0, .ref a0)] rfl ?_
        refine s_goto C dX4_circling_40 4 (by decide) ?_
        refine s_r ?_
        refine s_lv [2, 1, 0] rfl ?_
        exact hk2 (x10, s1.2 + 1)
      · refine s_if_eq C dX4_circling_25 34 28 (by decide) rfl ?_ ?_
        · refine s_iconst (v := 0) C dX4_circling_34 (by decide) 35 rfl ?_
          refine s_r ?_
          refine s_lv [0, 2] rfl ?_
          exact hK9 0
        · refine s_iconst (v := 1) C dX4_circling_28 (by decide) 29 rfl ?_
          refine s_iload_n C dX4_circling_29 30 rfl 2 rfl ?_
          refine s_ishl C dX4_circling_30 31 rfl ?_
          refine s_goto C dX4_circling_31 35 (by decide) ?_
          refine s_r ?_
          refine s_lv [0, 2] rfl ?_
          exact hK9 ((1 : Int32) <<< (s1.2 &&& 31))
theorem nv_X4_inCircles : yX4_inCircles.cls ≠ "java/lang/invoke/MethodHandle" ∧ yX4_inCircles.cls ≠ "java/lang/invoke/VarHandle" ∧ (parseMethodDescriptor yX4_inCircles.desc).map (fun d => d.parameters.length) = some 0 := by decide +kernel
theorem ct_X4_inCircles {l : Launch} (g : sm_G) (TA : Nat → Prop) (a0 : Nat) : sm_CT l g (so_R g TA) (so_A g TA) yX4_inCircles cX4_inCircles 1 (some .int) 4 92 [.ref a0] em_i (f_X4_inCircles g a0) := by
  refine sm_of (own := "PatchCordsModel") rfl rfl (bl rfl) (fun Y C hR hA hl hm => ?_)
  subst hl
  refine s_lv (L' := [(0, .ref a0)]) [0] rfl ?_
  refine s_top ?_
  unfold f_X4_inCircles
  refine s_aload_n C dX4_inCircles_0 1 rfl 0 rfl ?_
  refine s_aload_n C dX4_inCircles_1 2 rfl 0 rfl ?_
  refine s_call_i (rn_V (As := []) C (ct_at hR hA (ct_on (ct_X4_circling g TA a0))) (rv_on C hR (q := vw_12) rfl) (lw_V q2218 q2220 qs81 q112 q2221) ⟨rfl, nv_X4_circling⟩ ⟨by decide, by decide⟩ rfl (bl rfl) dX4_inCircles_2) 5 rfl (fun x1 => ?_)
  refine s_call_i (rn_V (As := [.int x1]) C (ct_at hR hA (ct_on (ct_X4_tells g TA a0 x1))) (rv_on C hR (q := vw_12) rfl) (lw_V q2078 q2080 qs70 q112 q2081) ⟨rfl, nv_X4_tells⟩ ⟨by decide, by decide⟩ rfl (bl rfl) dX4_inCircles_5) 8 rfl (fun x2 => ?_)
  exact s_iret C rfl rfl dX4_inCircles_8
theorem nv_X4_endSet : yX4_endSet.cls ≠ "java/lang/invoke/MethodHandle" ∧ yX4_endSet.cls ≠ "java/lang/invoke/VarHandle" ∧ (parseMethodDescriptor yX4_endSet.desc).map (fun d => d.parameters.length) = some 0 := by decide +kernel
theorem ct_X4_endSet {l : Launch} (g : sm_G) (TA : Nat → Prop) (a0 : Nat) : sm_CT l g (so_R g TA) (so_A g TA) yX4_endSet cX4_endSet 3 (some .int) 2 45 [.ref a0] em_i (f_X4_endSet g a0) := by
  refine sm_of (own := "PatchCordsModel") rfl rfl (bl rfl) (fun Y C hR hA hl hm => ?_)
  subst hl
  refine s_lv (L' := [(0, .ref a0)]) [0] rfl ?_
  refine s_top ?_
  unfold f_X4_endSet
  refine s_iconst (v := 1) C dX4_endSet_0 (by decide) 1 rfl ?_
  refine s_aload_n C dX4_endSet_1 2 rfl 0 rfl ?_
  refine s_getR C hR fd_PatchCordsModel_state (Or.inl q1809) dX4_endSet_2 5 rfl (fun x1 => ?_)
  refine s_iconst (v := 0) C dX4_endSet_5 (by decide) 6 rfl ?_
  refine s_iald C hR dX4_endSet_6 7 rfl (fun x2 => ?_)
  refine s_ishl C dX4_endSet_7 8 rfl ?_
  refine s_iconst (v := 1) C dX4_endSet_8 (by decide) 9 rfl ?_
  refine s_isub C dX4_endSet_9 10 rfl ?_
  refine s_topi (fun x3 => ?_)
  refine s_istore_n C dX4_endSet_10 rfl (by decide) 11 rfl [(1, .int x3), (0, .ref a0)] rfl ?_
  refine s_iconst (v := 0) C dX4_endSet_11 (by decide) 12 rfl ?_
  refine s_istore_n C dX4_endSet_12 rfl (by decide) 13 rfl [(2, .int 0), (1, .int x3), (0, .ref a0)] rfl ?_
  refine s_lv [2, 1, 0] rfl ?_
  refine s_loop (fun (s4 : Int32 × Int32) => [(0, .ref a0), (1, .int s4.1), (2, .int s4.2)]) (fun (v11 : Int32) => [(1, .int v11)]) 39 (x3, 0) rfl (fun v11 => ?_) (fun _ s4 hk5 hx6 => ?_)
  · refine s_iload_n C dX4_endSet_39 40 rfl 0 rfl ?_
    exact s_iret C rfl rfl dX4_endSet_40
  · refine s_iload_n C dX4_endSet_13 14 rfl 2 rfl ?_
    refine s_aload_n C dX4_endSet_14 15 rfl 0 rfl ?_
    refine s_getR C hR fd_PatchCordsModel_state (Or.inl q1809) dX4_endSet_15 18 rfl (fun x7 => ?_)
    refine s_iconst (v := 0) C dX4_endSet_18 (by decide) 19 rfl ?_
    refine s_iald C hR dX4_endSet_19 20 rfl (fun x8 => ?_)
    refine s_icmp_ge C dX4_endSet_20 39 23 (by decide) rfl ?_ ?_
    · refine s_r ?_
      refine s_lv [1] rfl ?_
      exact hx6 s4.1
    · refine s_iload_n C dX4_endSet_23 24 rfl 1 rfl ?_
      refine s_aload_n C dX4_endSet_24 25 rfl 0 rfl ?_
      refine s_iload_n C dX4_endSet_25 26 rfl 2 rfl ?_
      refine s_call_i (rn_V (As := [.int s4.2]) C (ct_at hR hA (ct_on (ct_X4_feedersOf g TA a0 s4.2))) (rv_on C hR (q := vw_12) rfl) (lw_V q1975 q1977 qs54 q112 q1978) ⟨rfl, nv_X4_feedersOf⟩ ⟨by decide, by decide⟩ rfl (bl rfl) dX4_endSet_26) 29 rfl (fun x9 => ?_)
      refine s_iconst (v := (-1)) C dX4_endSet_29 (by decide) 30 rfl ?_
      refine s_ixor C dX4_endSet_30 31 rfl ?_
      refine s_iand C dX4_endSet_31 32 rfl ?_
      refine s_topi (fun x10 => ?_)
      refine s_istore_n C dX4_endSet_32 rfl (by decide) 33 rfl [(1, .int x10), (0, .ref a0), (2, .int s4.2)] rfl ?_
      refine s_iinc C dX4_endSet_33 (s4.2 + 1) rfl 2 rfl (by decide) 36 rfl [(2, .int (s4.2 + 1)), (1, .int x10), (0, .ref a0)] rfl ?_
      refine s_goto C dX4_endSet_36 13 (by decide) ?_
      refine s_r ?_
      refine s_lv [2, 1, 0] rfl ?_
      exact hk5 (x10, s4.2 + 1)
theorem nv_X4_ends : yX4_ends.cls ≠ "java/lang/invoke/MethodHandle" ∧ yX4_ends.cls ≠ "java/lang/invoke/VarHandle" ∧ (parseMethodDescriptor yX4_ends.desc).map (fun d => d.parameters.length) = some 0 := by decide +kernel
theorem ct_X4_ends {l : Launch} (g : sm_G) (TA : Nat → Prop) (a0 : Nat) : sm_CT l g (so_R g TA) (so_A g TA) yX4_ends cX4_ends 1 (some .int) 3 67 [.ref a0] em_i (f_X4_ends g a0) := by
  refine sm_of (own := "PatchCordsModel") rfl rfl (bl rfl) (fun Y C hR hA hl hm => ?_)
  subst hl
  refine s_lv (L' := [(0, .ref a0)]) [0] rfl ?_
  refine s_top ?_
  unfold f_X4_ends
  refine s_aload_n C dX4_ends_0 1 rfl 0 rfl ?_
  refine s_aload_n C dX4_ends_1 2 rfl 0 rfl ?_
  refine s_call_i (rn_V (As := []) C (ct_at hR hA (ct_on (ct_X4_endSet g TA a0))) (rv_on C hR (q := vw_12) rfl) (lw_V q2226 q2228 qs82 q112 q2229) ⟨rfl, nv_X4_endSet⟩ ⟨by decide, by decide⟩ rfl (bl rfl) dX4_ends_2) 5 rfl (fun x1 => ?_)
  refine s_call_i (rn_V (As := [.int x1]) C (ct_at hR hA (ct_on (ct_X4_tells g TA a0 x1))) (rv_on C hR (q := vw_12) rfl) (lw_V q2078 q2080 qs70 q112 q2081) ⟨rfl, nv_X4_tells⟩ ⟨by decide, by decide⟩ rfl (bl rfl) dX4_ends_5) 8 rfl (fun x2 => ?_)
  exact s_iret C rfl rfl dX4_ends_8
theorem nv_X4_recorded : yX4_recorded.cls ≠ "java/lang/invoke/MethodHandle" ∧ yX4_recorded.cls ≠ "java/lang/invoke/VarHandle" ∧ (parseMethodDescriptor yX4_recorded.desc).map (fun d => d.parameters.length) = some 0 := by decide +kernel
theorem ct_X4_recorded {l : Launch} (g : sm_G) (TA : Nat → Prop) (a0 : Nat) : sm_CT l g (so_R g TA) (so_A g TA) yX4_recorded cX4_recorded 1 (some .int) 1 21 [.ref a0] em_i (f_X4_recorded g a0) := by
  refine sm_of (own := "PatchCordsModel") rfl rfl (bl rfl) (fun Y C hR hA hl hm => ?_)
  subst hl
  refine s_lv (L' := [(0, .ref a0)]) [0] rfl ?_
  refine s_top ?_
  unfold f_X4_recorded
  refine s_aload_n C dX4_recorded_0 1 rfl 0 rfl ?_
  refine s_aload_n C dX4_recorded_1 2 rfl 0 rfl ?_
  refine s_getR C hR fd_PatchCordsModel_state (Or.inl q1809) dX4_recorded_2 5 rfl (fun x1 => ?_)
  refine s_iconst (v := 5) C dX4_recorded_5 (by decide) 6 rfl ?_
  refine s_iald C hR dX4_recorded_6 7 rfl (fun x2 => ?_)
  refine s_call_i (rn_V (As := [.int x2]) C (ct_at hR hA (ct_on (ct_X4_tells g TA a0 x2))) (rv_on C hR (q := vw_12) rfl) (lw_V q2078 q2080 qs70 q112 q2081) ⟨rfl, nv_X4_tells⟩ ⟨by decide, by decide⟩ rfl (bl rfl) dX4_recorded_7) 10 rfl (fun x3 => ?_)
  exact s_iret C rfl rfl dX4_recorded_10
theorem nv_X4_records : yX4_records.cls ≠ "java/lang/invoke/MethodHandle" ∧ yX4_records.cls ≠ "java/lang/invoke/VarHandle" ∧ (parseMethodDescriptor yX4_records.desc).map (fun d => d.parameters.length) = some 0 := by decide +kernel
theorem ct_X4_records {l : Launch} (g : sm_G) (TA : Nat → Prop) (a0 : Nat) : sm_CT l g (so_R g TA) (so_A g TA) yX4_records cX4_records 1 (some .int) 1 21 [.ref a0] em_i (f_X4_records g a0) := by
  refine sm_of (own := "PatchCordsModel") rfl rfl (bl rfl) (fun Y C hR hA hl hm => ?_)
  subst hl
  refine s_lv (L' := [(0, .ref a0)]) [0] rfl ?_
  refine s_top ?_
  unfold f_X4_records
  refine s_aload_n C dX4_records_0 1 rfl 0 rfl ?_
  refine s_aload_n C dX4_records_1 2 rfl 0 rfl ?_
  refine s_getR C hR fd_PatchCordsModel_state (Or.inl q1809) dX4_records_2 5 rfl (fun x1 => ?_)
  refine s_bipush (v := 6) C dX4_records_5 (by decide) 7 rfl ?_
  refine s_iald C hR dX4_records_7 8 rfl (fun x2 => ?_)
  refine s_call_i (rn_V (As := [.int x2]) C (ct_at hR hA (ct_on (ct_X4_tells g TA a0 x2))) (rv_on C hR (q := vw_12) rfl) (lw_V q2078 q2080 qs70 q112 q2081) ⟨rfl, nv_X4_tells⟩ ⟨by decide, by decide⟩ rfl (bl rfl) dX4_records_8) 11 rfl (fun x3 => ?_)
  exact s_iret C rfl rfl dX4_records_11
theorem nv_X4_recordAt : yX4_recordAt.cls ≠ "java/lang/invoke/MethodHandle" ∧ yX4_recordAt.cls ≠ "java/lang/invoke/VarHandle" ∧ (parseMethodDescriptor yX4_recordAt.desc).map (fun d => d.parameters.length) = some 1 := by decide +kernel
theorem ct_X4_recordAt {l : Launch} (g : sm_G) (TA : Nat → Prop) (a0 : Nat) (p0 : Int32) : sm_CT l g (so_R g TA) (so_A g TA) yX4_recordAt cX4_recordAt 2 (some .int) 1 22 [.ref a0, .int p0] em_i (f_X4_recordAt g a0 p0) := by
  refine sm_of (own := "PatchCordsModel") rfl rfl (bl rfl) (fun Y C hR hA hl hm => ?_)
  subst hl
  refine s_lv (L' := [(0, .ref a0), (1, .int p0)]) [0, 1] rfl ?_
  refine s_top ?_
  unfold f_X4_recordAt
  refine s_aload_n C dX4_recordAt_0 1 rfl 0 rfl ?_
  refine s_iload_n C dX4_recordAt_1 2 rfl 1 rfl ?_
  refine s_iconst (v := 0) C dX4_recordAt_2 (by decide) 3 rfl ?_
  refine s_aload_n C dX4_recordAt_3 4 rfl 0 rfl ?_
  refine s_getR C hR fd_PatchCordsModel_state (Or.inl q1809) dX4_recordAt_4 7 rfl (fun x1 => ?_)
  refine s_bipush (v := 6) C dX4_recordAt_7 (by decide) 9 rfl ?_
  refine s_iald C hR dX4_recordAt_9 10 rfl (fun x2 => ?_)
  refine s_iconst (v := 1) C dX4_recordAt_10 (by decide) 11 rfl ?_
  refine s_isub C dX4_recordAt_11 12 rfl ?_
  refine s_call_i (rn_S (As := [.int p0, .int 0, .int (x2 - 1)]) C (ct_at hR hA (ct_X4_within g TA p0 0 (x2 - 1))) (lw_S q1877 q1878 q112 q1879) nv_X4_within ⟨by decide, by decide⟩ rfl (bl rfl) dX4_recordAt_12) 15 rfl (fun x3 => ?_)
  refine s_cut (J := 23) (LJ := (fun (v4 : Int32) => [(0, .ref a0), (1, .int p0)])) (SJ := (fun (v4 : Int32) => [.int v4, .ref a0])) (fun v4 => ?_) (fun _ _ hK5 => ?_)
  · refine s_put C hR hA fd_PatchCordsModel_thrown (Or.inl q1808) dX4_recordAt_23 rfl rfl 26 rfl ?_
    refine s_aload_n C dX4_recordAt_26 27 rfl 0 rfl ?_
    refine s_getI C hR fd_PatchCordsModel_thrown (Or.inl q1808) dX4_recordAt_27 30 rfl (fun x6 => ?_)
    refine s_cut (J := 56) (LJ := (fun (v7 : Int32) => [])) (SJ := (fun (v7 : Int32) => [.int v7])) (fun v7 => ?_) (fun _ _ hK8 => ?_)
    · exact s_iret C rfl rfl dX4_recordAt_56
    · refine s_if_le C dX4_recordAt_30 37 33 (by decide) rfl ?_ ?_
      · refine s_aload_n C dX4_recordAt_37 38 rfl 0 rfl ?_
        refine s_getR C hR fd_PatchCordsModel_state (Or.inl q1809) dX4_recordAt_38 41 rfl (fun x9 => ?_)
        refine s_bipush (v := 10) C dX4_recordAt_41 (by decide) 43 rfl ?_
        refine s_aload_n C dX4_recordAt_43 44 rfl 0 rfl ?_
        refine s_getR C hR fd_PatchCordsModel_state (Or.inl q1809) dX4_recordAt_44 47 rfl (fun x10 => ?_)
        refine s_bipush (v := 6) C dX4_recordAt_47 (by decide) 49 rfl ?_
        refine s_iald C hR dX4_recordAt_49 50 rfl (fun x11 => ?_)
        refine s_iadd C dX4_recordAt_50 51 rfl ?_
        refine s_iconst (v := 1) C dX4_recordAt_51 (by decide) 52 rfl ?_
        refine s_isub C dX4_recordAt_52 53 rfl ?_
        refine s_iload_n C dX4_recordAt_53 54 rfl 1 rfl ?_
        refine s_isub C dX4_recordAt_54 55 rfl ?_
        refine s_iald C hR dX4_recordAt_55 56 rfl (fun x12 => ?_)
        refine s_r ?_
        refine s_lv [] rfl ?_
        exact hK8 x12
      · refine s_iconst (v := 0) C dX4_recordAt_33 (by decide) 34 rfl ?_
        refine s_goto C dX4_recordAt_34 56 (by decide) ?_
        refine s_r ?_
        refine s_lv [] rfl ?_
        exact hK8 0
  · refine s_if_eq C dX4_recordAt_15 22 18 (by decide) rfl ?_ ?_
    · refine s_iconst (v := 1) C dX4_recordAt_22 (by decide) 23 rfl ?_
      refine s_r ?_
      refine s_lv [0, 1] rfl ?_
      exact hK5 1
    · refine s_iconst (v := 0) C dX4_recordAt_18 (by decide) 19 rfl ?_
      refine s_goto C dX4_recordAt_19 23 (by decide) ?_
      refine s_r ?_
      refine s_lv [0, 1] rfl ?_
      exact hK5 0
theorem nv_X4_crossings : yX4_crossings.cls ≠ "java/lang/invoke/MethodHandle" ∧ yX4_crossings.cls ≠ "java/lang/invoke/VarHandle" ∧ (parseMethodDescriptor yX4_crossings.desc).map (fun d => d.parameters.length) = some 0 := by decide +kernel
theorem ct_X4_crossings {l : Launch} (g : sm_G) (TA : Nat → Prop) (a0 : Nat) : sm_CT l g (so_R g TA) (so_A g TA) yX4_crossings cX4_crossings 1 (some .int) 1 21 [.ref a0] em_i (f_X4_crossings g a0) := by
  refine sm_of (own := "PatchCordsModel") rfl rfl (bl rfl) (fun Y C hR hA hl hm => ?_)
  subst hl
  refine s_lv (L' := [(0, .ref a0)]) [0] rfl ?_
  refine s_top ?_
  unfold f_X4_crossings
  refine s_aload_n C dX4_crossings_0 1 rfl 0 rfl ?_
  refine s_aload_n C dX4_crossings_1 2 rfl 0 rfl ?_
  refine s_getR C hR fd_PatchCordsModel_state (Or.inl q1809) dX4_crossings_2 5 rfl (fun x1 => ?_)
  refine s_bipush (v := 7) C dX4_crossings_5 (by decide) 7 rfl ?_
  refine s_iald C hR dX4_crossings_7 8 rfl (fun x2 => ?_)
  refine s_call_i (rn_V (As := [.int x2]) C (ct_at hR hA (ct_on (ct_X4_tells g TA a0 x2))) (rv_on C hR (q := vw_12) rfl) (lw_V q2078 q2080 qs70 q112 q2081) ⟨rfl, nv_X4_tells⟩ ⟨by decide, by decide⟩ rfl (bl rfl) dX4_crossings_8) 11 rfl (fun x3 => ?_)
  exact s_iret C rfl rfl dX4_crossings_11
theorem nv_X4_beat : yX4_beat.cls ≠ "java/lang/invoke/MethodHandle" ∧ yX4_beat.cls ≠ "java/lang/invoke/VarHandle" ∧ (parseMethodDescriptor yX4_beat.desc).map (fun d => d.parameters.length) = some 0 := by decide +kernel
theorem ct_X4_beat {l : Launch} (g : sm_G) (TA : Nat → Prop) (a0 : Nat) : sm_CT l g (so_R g TA) (so_A g TA) yX4_beat cX4_beat 1 (some .int) 1 21 [.ref a0] em_i (f_X4_beat g a0) := by
  refine sm_of (own := "PatchCordsModel") rfl rfl (bl rfl) (fun Y C hR hA hl hm => ?_)
  subst hl
  refine s_lv (L' := [(0, .ref a0)]) [0] rfl ?_
  refine s_top ?_
  unfold f_X4_beat
  refine s_aload_n C dX4_beat_0 1 rfl 0 rfl ?_
  refine s_aload_n C dX4_beat_1 2 rfl 0 rfl ?_
  refine s_getR C hR fd_PatchCordsModel_state (Or.inl q1809) dX4_beat_2 5 rfl (fun x1 => ?_)
  refine s_bipush (v := 9) C dX4_beat_5 (by decide) 7 rfl ?_
  refine s_iald C hR dX4_beat_7 8 rfl (fun x2 => ?_)
  refine s_call_i (rn_V (As := [.int x2]) C (ct_at hR hA (ct_on (ct_X4_tells g TA a0 x2))) (rv_on C hR (q := vw_12) rfl) (lw_V q2078 q2080 qs70 q112 q2081) ⟨rfl, nv_X4_tells⟩ ⟨by decide, by decide⟩ rfl (bl rfl) dX4_beat_8) 11 rfl (fun x3 => ?_)
  exact s_iret C rfl rfl dX4_beat_11
theorem nv_X4_mean : yX4_mean.cls ≠ "java/lang/invoke/MethodHandle" ∧ yX4_mean.cls ≠ "java/lang/invoke/VarHandle" ∧ (parseMethodDescriptor yX4_mean.desc).map (fun d => d.parameters.length) = some 0 := by decide +kernel
theorem ct_X4_mean {l : Launch} (g : sm_G) (TA : Nat → Prop) (a0 : Nat) : sm_CT l g (so_R g TA) (so_A g TA) yX4_mean cX4_mean 3 (some .double) 0 0 [.ref a0] em_d (f_X4_mean g a0) := by
  refine sm_of (own := "PatchCordsModel") rfl rfl (bl rfl) (fun Y C hR hA hl hm => ?_)
  subst hl
  refine s_lv (L' := [(0, .ref a0)]) [0] rfl ?_
  refine s_top ?_
  unfold f_X4_mean
  refine s_iconst (v := 0) C dX4_mean_0 (by decide) 1 rfl ?_
  refine s_istore_n C dX4_mean_1 rfl (by decide) 2 rfl [(1, .int 0), (0, .ref a0)] rfl ?_
  refine s_iconst (v := 0) C dX4_mean_2 (by decide) 3 rfl ?_
  refine s_istore_n C dX4_mean_3 rfl (by decide) 4 rfl [(2, .int 0), (1, .int 0), (0, .ref a0)] rfl ?_
  refine s_lv [2, 1, 0] rfl ?_
  refine s_loop (fun (s1 : Int32 × Int32) => [(0, .ref a0), (1, .int s1.1), (2, .int s1.2)]) (fun (v9 : Int32) => [(0, .ref a0), (1, .int v9)]) 33 (0, 0) rfl (fun v9 => ?_) (fun _ s1 hk2 hx3 => ?_)
  · refine s_aload_n C dX4_mean_33 34 rfl 0 rfl ?_
    refine s_getR C hR fd_PatchCordsModel_state (Or.inl q1809) dX4_mean_34 37 rfl (fun x10 => ?_)
    refine s_bipush (v := 6) C dX4_mean_37 (by decide) 39 rfl ?_
    refine s_iald C hR dX4_mean_39 40 rfl (fun x11 => ?_)
    refine s_cut (J := 58) (LJ := (fun (v12 : UInt64) => [])) (SJ := (fun (v12 : UInt64) => [.double v12])) (fun v12 => ?_) (fun _ _ hK13 => ?_)
    · exact s_dret C rfl dX4_mean_58
    · refine s_if_ne C dX4_mean_40 47 43 (by decide) rfl ?_ ?_
      · refine s_dconst0 C dX4_mean_43 44 rfl ?_
        refine s_goto C dX4_mean_44 58 (by decide) ?_
        refine s_r ?_
        refine s_lv [] rfl ?_
        exact hK13 FP.dconst0
      · refine s_iload_n C dX4_mean_47 48 rfl 1 rfl ?_
        refine s_i2d C dX4_mean_48 49 rfl ?_
        refine s_aload_n C dX4_mean_49 50 rfl 0 rfl ?_
        refine s_getR C hR fd_PatchCordsModel_state (Or.inl q1809) dX4_mean_50 53 rfl (fun x14 => ?_)
        refine s_bipush (v := 6) C dX4_mean_53 (by decide) 55 rfl ?_
        refine s_iald C hR dX4_mean_55 56 rfl (fun x15 => ?_)
        refine s_i2d C dX4_mean_56 57 rfl ?_
        refine s_ddiv C dX4_mean_57 58 rfl (fun x16 => ?_)
        refine s_r ?_
        refine s_lv [] rfl ?_
        exact hK13 x16
  · refine s_iload_n C dX4_mean_4 5 rfl 2 rfl ?_
    refine s_aload_n C dX4_mean_5 6 rfl 0 rfl ?_
    refine s_getR C hR fd_PatchCordsModel_state (Or.inl q1809) dX4_mean_6 9 rfl (fun x4 => ?_)
    refine s_bipush (v := 6) C dX4_mean_9 (by decide) 11 rfl ?_
    refine s_iald C hR dX4_mean_11 12 rfl (fun x5 => ?_)
    refine s_icmp_ge C dX4_mean_12 33 15 (by decide) rfl ?_ ?_
    · refine s_r ?_
      refine s_lv [0, 1] rfl ?_
      exact hx3 s1.1
    · refine s_iload_n C dX4_mean_15 16 rfl 1 rfl ?_
      refine s_aload_n C dX4_mean_16 17 rfl 0 rfl ?_
      refine s_getR C hR fd_PatchCordsModel_state (Or.inl q1809) dX4_mean_17 20 rfl (fun x6 => ?_)
      refine s_bipush (v := 10) C dX4_mean_20 (by decide) 22 rfl ?_
      refine s_iload_n C dX4_mean_22 23 rfl 2 rfl ?_
      refine s_iadd C dX4_mean_23 24 rfl ?_
      refine s_iald C hR dX4_mean_24 25 rfl (fun x7 => ?_)
      refine s_iadd C dX4_mean_25 26 rfl ?_
      refine s_topi (fun x8 => ?_)
      refine s_istore_n C dX4_mean_26 rfl (by decide) 27 rfl [(1, .int x8), (0, .ref a0), (2, .int s1.2)] rfl ?_
      refine s_iinc C dX4_mean_27 (s1.2 + 1) rfl 2 rfl (by decide) 30 rfl [(2, .int (s1.2 + 1)), (1, .int x8), (0, .ref a0)] rfl ?_
      refine s_goto C dX4_mean_30 4 (by decide) ?_
      refine s_r ?_
      refine s_lv [2, 1, 0] rfl ?_
      exact hk2 (x8, s1.2 + 1)
theorem nv_X4_meanRecord : yX4_meanRecord.cls ≠ "java/lang/invoke/MethodHandle" ∧ yX4_meanRecord.cls ≠ "java/lang/invoke/VarHandle" ∧ (parseMethodDescriptor yX4_meanRecord.desc).map (fun d => d.parameters.length) = some 0 := by decide +kernel
theorem ct_X4_meanRecord {l : Launch} (g : sm_G) (TA : Nat → Prop) (a0 : Nat) : sm_CT l g (so_R g TA) (so_A g TA) yX4_meanRecord cX4_meanRecord 1 (some .double) 1 22 [.ref a0] em_d (f_X4_meanRecord g a0) := by
  refine sm_of (own := "PatchCordsModel") rfl rfl (bl rfl) (fun Y C hR hA hl hm => ?_)
  subst hl
  refine s_lv (L' := [(0, .ref a0)]) [0] rfl ?_
  refine s_top ?_
  unfold f_X4_meanRecord
  refine s_aload_n C dX4_meanRecord_0 1 rfl 0 rfl ?_
  refine s_iconst (v := 0) C dX4_meanRecord_1 (by decide) 2 rfl ?_
  refine s_put C hR hA fd_PatchCordsModel_thrown (Or.inl q1808) dX4_meanRecord_2 rfl rfl 5 rfl ?_
  refine s_aload_n C dX4_meanRecord_5 6 rfl 0 rfl ?_
  refine s_call_d (rn_V (As := []) C (ct_at hR hA (ct_on (ct_X4_mean g TA a0))) (rv_on C hR (q := vw_12) rfl) (lw_V q2254 q2256 qs83 q112 q2257) ⟨rfl, nv_X4_mean⟩ ⟨by decide, by decide⟩ rfl (bl rfl) dX4_meanRecord_6) 9 rfl (fun x1 => ?_)
  exact s_dret C rfl dX4_meanRecord_9
theorem nv_X4_wouldCircle : yX4_wouldCircle.cls ≠ "java/lang/invoke/MethodHandle" ∧ yX4_wouldCircle.cls ≠ "java/lang/invoke/VarHandle" ∧ (parseMethodDescriptor yX4_wouldCircle.desc).map (fun d => d.parameters.length) = some 2 := by decide +kernel
theorem ct_X4_wouldCircle {l : Launch} (g : sm_G) (TA : Nat → Prop) (a0 : Nat) (p0 : Int32) (p1 : Int32) : sm_CT l g (so_R g TA) (so_A g TA) yX4_wouldCircle cX4_wouldCircle 3 (some .boolean) 4 92 [.ref a0, .int p0, .int p1] em_i (f_X4_wouldCircle g a0 p0 p1) := by
  refine sm_of (own := "PatchCordsModel") rfl rfl (bl rfl) (fun Y C hR hA hl hm => ?_)
  subst hl
  refine s_lv (L' := [(0, .ref a0), (1, .int p0), (2, .int p1)]) [0, 1, 2] rfl ?_
  refine s_top ?_
  unfold f_X4_wouldCircle
  refine s_aload_n C dX4_wouldCircle_0 1 rfl 0 rfl ?_
  refine s_aload_n C dX4_wouldCircle_1 2 rfl 0 rfl ?_
  refine s_iload_n C dX4_wouldCircle_2 3 rfl 1 rfl ?_
  refine s_call_i (rn_V (As := [.int p0]) C (ct_at hR hA (ct_on (ct_X4_isModule g TA a0 p0))) (rv_on C hR (q := vw_12) rfl) (lw_V q1904 q1906 qs41 q112 q1907) ⟨rfl, nv_X4_isModule⟩ ⟨by decide, by decide⟩ rfl (bl rfl) dX4_wouldCircle_3) 6 rfl (fun x1 => ?_)
  refine s_cut (J := 22) (LJ := (fun (v2 : Int32) => [(0, .ref a0), (1, .int p0), (2, .int p1)])) (SJ := (fun (v2 : Int32) => [.int v2, .ref a0])) (fun v2 => ?_) (fun _ _ hK3 => ?_)
  · refine s_put C hR hA fd_PatchCordsModel_thrown (Or.inl q1808) dX4_wouldCircle_22 rfl rfl 25 rfl ?_
    refine s_aload_n C dX4_wouldCircle_25 26 rfl 0 rfl ?_
    refine s_getI C hR fd_PatchCordsModel_thrown (Or.inl q1808) dX4_wouldCircle_26 29 rfl (fun x5 => ?_)
    refine s_cut (J := 46) (LJ := (fun (v6 : Int32) => [])) (SJ := (fun (v6 : Int32) => [.int v6])) (fun v6 => ?_) (fun _ _ hK7 => ?_)
    · refine s_zb (fun h => ?_)
      exact s_iret C rfl (s_zn h) dX4_wouldCircle_46
    · refine s_if_ne C dX4_wouldCircle_29 45 32 (by decide) rfl ?_ ?_
      · refine s_aload_n C dX4_wouldCircle_32 33 rfl 0 rfl ?_
        refine s_iload_n C dX4_wouldCircle_33 34 rfl 1 rfl ?_
        refine s_iload_n C dX4_wouldCircle_34 35 rfl 2 rfl ?_
        refine s_call_i (rn_V (As := [.int p0, .int p1]) C (ct_at hR hA (ct_on (ct_X4_circles g TA a0 p0 p1))) (rv_on C hR (q := vw_12) rfl) (lw_V q1967 q1969 qs52 q112 q1970) ⟨rfl, nv_X4_circles⟩ ⟨by decide, by decide⟩ rfl (bl rfl) dX4_wouldCircle_35) 38 rfl (fun x8 => ?_)
        refine s_if_eq C dX4_wouldCircle_38 45 41 (by decide) rfl ?_ ?_
        · refine s_iconst (v := 0) C dX4_wouldCircle_45 (by decide) 46 rfl ?_
          refine s_r ?_
          refine s_lv [] rfl ?_
          exact hK7 0
        · refine s_iconst (v := 1) C dX4_wouldCircle_41 (by decide) 42 rfl ?_
          refine s_goto C dX4_wouldCircle_42 46 (by decide) ?_
          refine s_r ?_
          refine s_lv [] rfl ?_
          exact hK7 1
      · refine s_iconst (v := 0) C dX4_wouldCircle_45 (by decide) 46 rfl ?_
        refine s_r ?_
        refine s_lv [] rfl ?_
        exact hK7 0
  · refine s_if_eq C dX4_wouldCircle_6 21 9 (by decide) rfl ?_ ?_
    · refine s_iconst (v := 1) C dX4_wouldCircle_21 (by decide) 22 rfl ?_
      refine s_r ?_
      refine s_lv [0, 1, 2] rfl ?_
      exact hK3 1
    · refine s_aload_n C dX4_wouldCircle_9 10 rfl 0 rfl ?_
      refine s_iload_n C dX4_wouldCircle_10 11 rfl 2 rfl ?_
      refine s_call_i (rn_V (As := [.int p1]) C (ct_at hR hA (ct_on (ct_X4_isModule g TA a0 p1))) (rv_on C hR (q := vw_12) rfl) (lw_V q1904 q1906 qs41 q112 q1907) ⟨rfl, nv_X4_isModule⟩ ⟨by decide, by decide⟩ rfl (bl rfl) dX4_wouldCircle_11) 14 rfl (fun x4 => ?_)
      refine s_if_eq C dX4_wouldCircle_14 21 17 (by decide) rfl ?_ ?_
      · refine s_iconst (v := 1) C dX4_wouldCircle_21 (by decide) 22 rfl ?_
        refine s_r ?_
        refine s_lv [0, 1, 2] rfl ?_
        exact hK3 1
      · refine s_iconst (v := 0) C dX4_wouldCircle_17 (by decide) 18 rfl ?_
        refine s_goto C dX4_wouldCircle_18 22 (by decide) ?_
        refine s_r ?_
        refine s_lv [0, 1, 2] rfl ?_
        exact hK3 0
theorem nv_X4_keeps : yX4_keeps.cls ≠ "java/lang/invoke/MethodHandle" ∧ yX4_keeps.cls ≠ "java/lang/invoke/VarHandle" ∧ (parseMethodDescriptor yX4_keeps.desc).map (fun d => d.parameters.length) = some 0 := by decide +kernel
theorem ct_X4_keeps {l : Launch} (g : sm_G) (TA : Nat → Prop) (a0 : Nat) : sm_CT l g (so_R g TA) (so_A g TA) yX4_keeps cX4_keeps 2 none 0 0 [.ref a0] em_v (f_X4_keeps g a0) := by
  refine sm_of (own := "PatchCordsModel") rfl rfl (bl rfl) (fun Y C hR hA hl hm => ?_)
  subst hl
  refine s_lv (L' := [(0, .ref a0)]) [0] rfl ?_
  refine s_top ?_
  unfold f_X4_keeps
  refine s_iconst (v := 0) C dX4_keeps_0 (by decide) 1 rfl ?_
  refine s_istore_n C dX4_keeps_1 rfl (by decide) 2 rfl [(1, .int 0), (0, .ref a0)] rfl ?_
  refine s_lv [1, 0] rfl ?_
  refine s_loop (fun (s1 : Int32) => [(0, .ref a0), (1, .int s1)]) (fun (v7 : Unit) => []) 27 0 rfl (fun v7 => ?_) (fun _ s1 hk2 hx3 => ?_)
  · exact s_vret C rfl dX4_keeps_27
  · refine s_iload_n C dX4_keeps_2 3 rfl 1 rfl ?_
    refine s_sipush (v := 242) C dX4_keeps_3 (by decide) 6 rfl ?_
    refine s_icmp_ge C dX4_keeps_6 27 9 (by decide) rfl ?_ ?_
    · refine s_r ?_
      refine s_lv [] rfl ?_
      exact hx3 ()
    · refine s_aload_n C dX4_keeps_9 10 rfl 0 rfl ?_
      refine s_getR C hR fd_PatchCordsModel_kept (Or.inl q1814) dX4_keeps_10 13 rfl (fun x4 => ?_)
      refine s_iload_n C dX4_keeps_13 14 rfl 1 rfl ?_
      refine s_aload_n C dX4_keeps_14 15 rfl 0 rfl ?_
      refine s_getR C hR fd_PatchCordsModel_state (Or.inl q1809) dX4_keeps_15 18 rfl (fun x5 => ?_)
      refine s_iload_n C dX4_keeps_18 19 rfl 1 rfl ?_
      refine s_iald C hR dX4_keeps_19 20 rfl (fun x6 => ?_)
      refine s_iast C hR hA dX4_keeps_20 21 rfl ?_
      refine s_iinc C dX4_keeps_21 (s1 + 1) rfl 1 rfl (by decide) 24 rfl [(1, .int (s1 + 1)), (0, .ref a0)] rfl ?_
      refine s_goto C dX4_keeps_24 2 (by decide) ?_
      refine s_r ?_
      refine s_lv [1, 0] rfl ?_
      exact hk2 (s1 + 1)
theorem nv_X4_returns : yX4_returns.cls ≠ "java/lang/invoke/MethodHandle" ∧ yX4_returns.cls ≠ "java/lang/invoke/VarHandle" ∧ (parseMethodDescriptor yX4_returns.desc).map (fun d => d.parameters.length) = some 0 := by decide +kernel
theorem ct_X4_returns {l : Launch} (g : sm_G) (TA : Nat → Prop) (a0 : Nat) : sm_CT l g (so_R g TA) (so_A g TA) yX4_returns cX4_returns 2 none 0 0 [.ref a0] em_v (f_X4_returns g a0) := by
  refine sm_of (own := "PatchCordsModel") rfl rfl (bl rfl) (fun Y C hR hA hl hm => ?_)
  subst hl
  refine s_lv (L' := [(0, .ref a0)]) [0] rfl ?_
  refine s_top ?_
  unfold f_X4_returns
  refine s_iconst (v := 0) C dX4_returns_0 (by decide) 1 rfl ?_
  refine s_istore_n C dX4_returns_1 rfl (by decide) 2 rfl [(1, .int 0), (0, .ref a0)] rfl ?_
  refine s_lv [1, 0] rfl ?_
  refine s_loop (fun (s1 : Int32) => [(0, .ref a0), (1, .int s1)]) (fun (v7 : Unit) => []) 27 0 rfl (fun v7 => ?_) (fun _ s1 hk2 hx3 => ?_)
  · exact s_vret C rfl dX4_returns_27
  · refine s_iload_n C dX4_returns_2 3 rfl 1 rfl ?_
    refine s_sipush (v := 242) C dX4_returns_3 (by decide) 6 rfl ?_
    refine s_icmp_ge C dX4_returns_6 27 9 (by decide) rfl ?_ ?_
    · refine s_r ?_
      refine s_lv [] rfl ?_
      exact hx3 ()
    · refine s_aload_n C dX4_returns_9 10 rfl 0 rfl ?_
      refine s_getR C hR fd_PatchCordsModel_state (Or.inl q1809) dX4_returns_10 13 rfl (fun x4 => ?_)
      refine s_iload_n C dX4_returns_13 14 rfl 1 rfl ?_
      refine s_aload_n C dX4_returns_14 15 rfl 0 rfl ?_
      refine s_getR C hR fd_PatchCordsModel_kept (Or.inl q1814) dX4_returns_15 18 rfl (fun x5 => ?_)
      refine s_iload_n C dX4_returns_18 19 rfl 1 rfl ?_
      refine s_iald C hR dX4_returns_19 20 rfl (fun x6 => ?_)
      refine s_iast C hR hA dX4_returns_20 21 rfl ?_
      refine s_iinc C dX4_returns_21 (s1 + 1) rfl 1 rfl (by decide) 24 rfl [(1, .int (s1 + 1)), (0, .ref a0)] rfl ?_
      refine s_goto C dX4_returns_24 2 (by decide) ?_
      refine s_r ?_
      refine s_lv [1, 0] rfl ?_
      exact hk2 (s1 + 1)
theorem nv_X4_outputThen : yX4_outputThen.cls ≠ "java/lang/invoke/MethodHandle" ∧ yX4_outputThen.cls ≠ "java/lang/invoke/VarHandle" ∧ (parseMethodDescriptor yX4_outputThen.desc).map (fun d => d.parameters.length) = some 2 := by decide +kernel
theorem ct_X4_outputThen {l : Launch} (g : sm_G) (TA : Nat → Prop) (a0 : Nat) (p0 : Int32) (p1 : Int32) : sm_CT l g (so_R g TA) (so_A g TA) yX4_outputThen cX4_outputThen 4 (some .int) 7 159 [.ref a0, .int p0, .int p1] em_i (f_X4_outputThen g a0 p0 p1) := by
  refine sm_of (own := "PatchCordsModel") rfl rfl (bl rfl) (fun Y C hR hA hl hm => ?_)
  subst hl
  refine s_lv (L' := [(0, .ref a0), (1, .int p0), (2, .int p1)]) [0, 1, 2] rfl ?_
  refine s_top ?_
  unfold f_X4_outputThen
  refine s_aload_n C dX4_outputThen_0 1 rfl 0 rfl ?_
  refine s_call_v (rn_V (As := []) C (ct_at hR hA (ct_on (ct_X4_keeps g TA a0))) (rv_on C hR (q := vw_12) rfl) (lw_V q2270 q2272 qs85 q112 q2273) ⟨rfl, nv_X4_keeps⟩ ⟨by decide, by decide⟩ rfl (bl rfl) dX4_outputThen_1) 4 rfl ?_
  refine s_aload_n C dX4_outputThen_4 5 rfl 0 rfl ?_
  refine s_getR C hR fd_PatchCordsModel_state (Or.inl q1809) dX4_outputThen_5 8 rfl (fun x2 => ?_)
  refine s_iconst (v := 1) C dX4_outputThen_8 (by decide) 9 rfl ?_
  refine s_iconst (v := 1) C dX4_outputThen_9 (by decide) 10 rfl ?_
  refine s_iast C hR hA dX4_outputThen_10 11 rfl ?_
  refine s_aload_n C dX4_outputThen_11 12 rfl 0 rfl ?_
  refine s_iload_n C dX4_outputThen_12 13 rfl 2 rfl ?_
  refine s_call_i (rn_V (As := [.int p1]) C (ct_at hR hA (ct_on (ct_X4_passes g TA a0 p1))) (rv_on C hR (q := vw_12) rfl) (lw_V q2003 q2005 qs58 q112 q2006) ⟨rfl, nv_X4_passes⟩ ⟨by decide, by decide⟩ rfl (bl rfl) dX4_outputThen_13) 16 rfl (fun x3 => ?_)
  refine s_pop C dX4_outputThen_16 rfl 17 rfl ?_
  refine s_aload_n C dX4_outputThen_17 18 rfl 0 rfl ?_
  refine s_iload_n C dX4_outputThen_18 19 rfl 1 rfl ?_
  refine s_call_i (rn_V (As := [.int p0]) C (ct_at hR hA (ct_on (ct_X4_output g TA a0 p0))) (rv_on C hR (q := vw_12) rfl) (lw_V q2146 q2148 qs75 q112 q2149) ⟨rfl, nv_X4_output⟩ ⟨by decide, by decide⟩ rfl (bl rfl) dX4_outputThen_19) 22 rfl (fun x4 => ?_)
  refine s_istore_n C dX4_outputThen_22 rfl (by decide) 23 rfl [(3, .int x4), (0, .ref a0), (1, .int p0), (2, .int p1)] rfl ?_
  refine s_aload_n C dX4_outputThen_23 24 rfl 1 rfl ?_
  refine s_call_v (rn_V (As := []) C (ct_at hR hA (ct_on (ct_X4_returns g TA a0))) (rv_on C hR (q := vw_12) rfl) (lw_V q2274 q2276 qs86 q112 q2277) ⟨rfl, nv_X4_returns⟩ ⟨by decide, by decide⟩ rfl (bl rfl) dX4_outputThen_24) 27 rfl ?_
  refine s_iload_n C dX4_outputThen_27 28 rfl 0 rfl ?_
  exact s_iret C rfl rfl dX4_outputThen_28
theorem nv_X4_outputIn : yX4_outputIn.cls ≠ "java/lang/invoke/MethodHandle" ∧ yX4_outputIn.cls ≠ "java/lang/invoke/VarHandle" ∧ (parseMethodDescriptor yX4_outputIn.desc).map (fun d => d.parameters.length) = some 2 := by decide +kernel
theorem ct_X4_outputIn {l : Launch} (g : sm_G) (TA : Nat → Prop) (a0 : Nat) (p0 : Int32) (p1 : Int32) : sm_CT l g (so_R g TA) (so_A g TA) yX4_outputIn cX4_outputIn 3 (some .int) 8 182 [.ref a0, .int p0, .int p1] em_i (f_X4_outputIn g a0 p0 p1) := by
  refine sm_of (own := "PatchCordsModel") rfl rfl (bl rfl) (fun Y C hR hA hl hm => ?_)
  subst hl
  refine s_lv (L' := [(0, .ref a0), (1, .int p0), (2, .int p1)]) [0, 1, 2] rfl ?_
  refine s_top ?_
  unfold f_X4_outputIn
  refine s_aload_n C dX4_outputIn_0 1 rfl 0 rfl ?_
  refine s_aload_n C dX4_outputIn_1 2 rfl 0 rfl ?_
  refine s_iload_n C dX4_outputIn_2 3 rfl 1 rfl ?_
  refine s_call_i (rn_V (As := [.int p0]) C (ct_at hR hA (ct_on (ct_X4_isModule g TA a0 p0))) (rv_on C hR (q := vw_12) rfl) (lw_V q1904 q1906 qs41 q112 q1907) ⟨rfl, nv_X4_isModule⟩ ⟨by decide, by decide⟩ rfl (bl rfl) dX4_outputIn_3) 6 rfl (fun x1 => ?_)
  refine s_cut (J := 29) (LJ := (fun (v2 : Int32) => [(0, .ref a0), (1, .int p0), (2, .int p1)])) (SJ := (fun (v2 : Int32) => [.int v2, .ref a0])) (fun v2 => ?_) (fun _ _ hK3 => ?_)
  · refine s_put C hR hA fd_PatchCordsModel_thrown (Or.inl q1808) dX4_outputIn_29 rfl rfl 32 rfl ?_
    refine s_aload_n C dX4_outputIn_32 33 rfl 0 rfl ?_
    refine s_getI C hR fd_PatchCordsModel_thrown (Or.inl q1808) dX4_outputIn_33 36 rfl (fun x5 => ?_)
    refine s_cut (J := 49) (LJ := (fun (v6 : Int32) => [])) (SJ := (fun (v6 : Int32) => [.int v6])) (fun v6 => ?_) (fun _ _ hK7 => ?_)
    · exact s_iret C rfl rfl dX4_outputIn_49
    · refine s_if_le C dX4_outputIn_36 43 39 (by decide) rfl ?_ ?_
      · refine s_aload_n C dX4_outputIn_43 44 rfl 0 rfl ?_
        refine s_iload_n C dX4_outputIn_44 45 rfl 1 rfl ?_
        refine s_iload_n C dX4_outputIn_45 46 rfl 2 rfl ?_
        refine s_call_i (rn_V (As := [.int p0, .int p1]) C (ct_at hR hA (ct_on (ct_X4_outputThen g TA a0 p0 p1))) (rv_on C hR (q := vw_12) rfl) (lw_V q2266 q2268 qs84 q112 q2269) ⟨rfl, nv_X4_outputThen⟩ ⟨by decide, by decide⟩ rfl (bl rfl) dX4_outputIn_46) 49 rfl (fun x8 => ?_)
        refine s_r ?_
        refine s_lv [] rfl ?_
        exact hK7 x8
      · refine s_iconst (v := 0) C dX4_outputIn_39 (by decide) 40 rfl ?_
        refine s_goto C dX4_outputIn_40 49 (by decide) ?_
        refine s_r ?_
        refine s_lv [] rfl ?_
        exact hK7 0
  · refine s_if_ne C dX4_outputIn_6 13 9 (by decide) rfl ?_ ?_
    · refine s_iconst (v := 1) C dX4_outputIn_9 (by decide) 10 rfl ?_
      refine s_goto C dX4_outputIn_10 29 (by decide) ?_
      refine s_r ?_
      refine s_lv [0, 1, 2] rfl ?_
      exact hK3 1
    · refine s_iload_n C dX4_outputIn_13 14 rfl 2 rfl ?_
      refine s_iconst (v := 1) C dX4_outputIn_14 (by decide) 15 rfl ?_
      refine s_sipush (v := 200) C dX4_outputIn_15 (by decide) 18 rfl ?_
      refine s_call_i (rn_S (As := [.int p1, .int 1, .int 200]) C (ct_at hR hA (ct_X4_within g TA p1 1 200)) (lw_S q1877 q1878 q112 q1879) nv_X4_within ⟨by decide, by decide⟩ rfl (bl rfl) dX4_outputIn_18) 21 rfl (fun x4 => ?_)
      refine s_if_eq C dX4_outputIn_21 28 24 (by decide) rfl ?_ ?_
      · refine s_iconst (v := 2) C dX4_outputIn_28 (by decide) 29 rfl ?_
        refine s_r ?_
        refine s_lv [0, 1, 2] rfl ?_
        exact hK3 2
      · refine s_iconst (v := 0) C dX4_outputIn_24 (by decide) 25 rfl ?_
        refine s_goto C dX4_outputIn_25 29 (by decide) ?_
        refine s_r ?_
        refine s_lv [0, 1, 2] rfl ?_
        exact hK3 0
theorem nv_X4_untilOver : yX4_untilOver.cls ≠ "java/lang/invoke/MethodHandle" ∧ yX4_untilOver.cls ≠ "java/lang/invoke/VarHandle" ∧ (parseMethodDescriptor yX4_untilOver.desc).map (fun d => d.parameters.length) = some 0 := by decide +kernel
theorem ct_X4_untilOver {l : Launch} (g : sm_G) (TA : Nat → Prop) (a0 : Nat) : sm_CT l g (so_R g TA) (so_A g TA) yX4_untilOver cX4_untilOver 3 (some .int) 6 136 [.ref a0] em_i (f_X4_untilOver g a0) := by
  refine sm_of (own := "PatchCordsModel") rfl rfl (bl rfl) (fun Y C hR hA hl hm => ?_)
  subst hl
  refine s_lv (L' := [(0, .ref a0)]) [0] rfl ?_
  refine s_top ?_
  unfold f_X4_untilOver
  refine s_aload_n C dX4_untilOver_0 1 rfl 0 rfl ?_
  refine s_call_v (rn_V (As := []) C (ct_at hR hA (ct_on (ct_X4_keeps g TA a0))) (rv_on C hR (q := vw_12) rfl) (lw_V q2270 q2272 qs85 q112 q2273) ⟨rfl, nv_X4_keeps⟩ ⟨by decide, by decide⟩ rfl (bl rfl) dX4_untilOver_1) 4 rfl ?_
  refine s_iconst (v := 0) C dX4_untilOver_4 (by decide) 5 rfl ?_
  refine s_istore_n C dX4_untilOver_5 rfl (by decide) 6 rfl [(1, .int 0), (0, .ref a0)] rfl ?_
  refine s_aload_n C dX4_untilOver_6 7 rfl 1 rfl ?_
  refine s_call_v (rn_V (As := []) C (ct_at hR hA (ct_on (ct_X4_laysOuts g TA a0))) (rv_on C hR (q := vw_12) rfl) (lw_V q2011 q2013 qs60 q112 q2014) ⟨rfl, nv_X4_laysOuts⟩ ⟨by decide, by decide⟩ rfl (bl rfl) dX4_untilOver_7) 10 rfl ?_
  refine s_lv [1, 0] rfl ?_
  refine s_loop (fun (s3 : Int32) => [(0, .ref a0), (1, .int s3)]) (fun (v8 : Int32) => [(0, .ref a0), (1, .int v8)]) 35 0 rfl (fun v8 => ?_) (fun _ s3 hk4 hx5 => ?_)
  · refine s_aload_n C dX4_untilOver_35 36 rfl 0 rfl ?_
    refine s_getI C hR fd_PatchCordsModel_over (Or.inl q1817) dX4_untilOver_36 39 rfl (fun x9 => ?_)
    refine s_cut (J := 47) (LJ := (fun (v10 : Int32) => [(0, .ref a0), (1, .int v8)])) (SJ := (fun (v10 : Int32) => [.int v10])) (fun v10 => ?_) (fun _ _ hK11 => ?_)
    · refine s_istore_n C dX4_untilOver_47 rfl (by decide) 48 rfl [(2, .int v10), (0, .ref a0), (1, .int v8)] rfl ?_
      refine s_aload_n C dX4_untilOver_48 49 rfl 1 rfl ?_
      refine s_call_v (rn_V (As := []) C (ct_at hR hA (ct_on (ct_X4_returns g TA a0))) (rv_on C hR (q := vw_12) rfl) (lw_V q2274 q2276 qs86 q112 q2277) ⟨rfl, nv_X4_returns⟩ ⟨by decide, by decide⟩ rfl (bl rfl) dX4_untilOver_49) 52 rfl ?_
      refine s_iload_n C dX4_untilOver_52 53 rfl 0 rfl ?_
      refine s_cut (J := 61) (LJ := (fun (v13 : Int32) => [])) (SJ := (fun (v13 : Int32) => [.int v13])) (fun v13 => ?_) (fun _ _ hK14 => ?_)
      · exact s_iret C rfl rfl dX4_untilOver_61
      · refine s_if_eq C dX4_untilOver_53 60 56 (by decide) rfl ?_ ?_
        · refine s_iconst (v := (-1)) C dX4_untilOver_60 (by decide) 61 rfl ?_
          refine s_r ?_
          refine s_lv [] rfl ?_
          exact hK14 (-1)
        · refine s_iload_n C dX4_untilOver_56 57 rfl 2 rfl ?_
          refine s_goto C dX4_untilOver_57 61 (by decide) ?_
          refine s_r ?_
          refine s_lv [] rfl ?_
          exact hK14 v8
    · refine s_if_eq C dX4_untilOver_39 46 42 (by decide) rfl ?_ ?_
      · refine s_iconst (v := 0) C dX4_untilOver_46 (by decide) 47 rfl ?_
        refine s_r ?_
        refine s_lv [0, 1] rfl ?_
        exact hK11 0
      · refine s_iconst (v := 1) C dX4_untilOver_42 (by decide) 43 rfl ?_
        refine s_goto C dX4_untilOver_43 47 (by decide) ?_
        refine s_r ?_
        refine s_lv [0, 1] rfl ?_
        exact hK11 1
  · refine s_aload_n C dX4_untilOver_10 11 rfl 0 rfl ?_
    refine s_getI C hR fd_PatchCordsModel_over (Or.inl q1817) dX4_untilOver_11 14 rfl (fun x6 => ?_)
    refine s_if_ne C dX4_untilOver_14 35 17 (by decide) rfl ?_ ?_
    · refine s_iload_n C dX4_untilOver_17 18 rfl 1 rfl ?_
      refine s_sipush (v := 200) C dX4_untilOver_18 (by decide) 21 rfl ?_
      refine s_icmp_ge C dX4_untilOver_21 35 24 (by decide) rfl ?_ ?_
      · refine s_r ?_
        refine s_lv [0, 1] rfl ?_
        exact hx5 s3
      · refine s_aload_n C dX4_untilOver_24 25 rfl 0 rfl ?_
        refine s_iconst (v := 0) C dX4_untilOver_25 (by decide) 26 rfl ?_
        refine s_call_v (rn_V (As := [.int 0]) C (ct_at hR hA (ct_on (ct_X4_stepsOn g TA a0 0))) (rv_on C hR (q := vw_12) rfl) (lw_V q2007 q2009 qs59 q112 q2010) ⟨rfl, nv_X4_stepsOn⟩ ⟨by decide, by decide⟩ rfl (bl rfl) dX4_untilOver_26) 29 rfl ?_
        refine s_iinc C dX4_untilOver_29 (s3 + 1) rfl 1 rfl (by decide) 32 rfl [(1, .int (s3 + 1)), (0, .ref a0)] rfl ?_
        refine s_goto C dX4_untilOver_32 10 (by decide) ?_
        refine s_r ?_
        refine s_lv [1, 0] rfl ?_
        exact hk4 (s3 + 1)
    · refine s_r ?_
      refine s_lv [0, 1] rfl ?_
      exact hx5 s3
theorem nv_X4_stepsUntilOverload : yX4_stepsUntilOverload.cls ≠ "java/lang/invoke/MethodHandle" ∧ yX4_stepsUntilOverload.cls ≠ "java/lang/invoke/VarHandle" ∧ (parseMethodDescriptor yX4_stepsUntilOverload.desc).map (fun d => d.parameters.length) = some 0 := by decide +kernel
theorem ct_X4_stepsUntilOverload {l : Launch} (g : sm_G) (TA : Nat → Prop) (a0 : Nat) : sm_CT l g (so_R g TA) (so_A g TA) yX4_stepsUntilOverload cX4_stepsUntilOverload 1 (some .int) 7 158 [.ref a0] em_i (f_X4_stepsUntilOverload g a0) := by
  refine sm_of (own := "PatchCordsModel") rfl rfl (bl rfl) (fun Y C hR hA hl hm => ?_)
  subst hl
  refine s_lv (L' := [(0, .ref a0)]) [0] rfl ?_
  refine s_top ?_
  unfold f_X4_stepsUntilOverload
  refine s_aload_n C dX4_stepsUntilOverload_0 1 rfl 0 rfl ?_
  refine s_aload_n C dX4_stepsUntilOverload_1 2 rfl 0 rfl ?_
  refine s_call_i (rn_V (As := []) C (ct_at hR hA (ct_on (ct_X4_untilOver g TA a0))) (rv_on C hR (q := vw_12) rfl) (lw_V q2282 q2284 qs87 q112 q2285) ⟨rfl, nv_X4_untilOver⟩ ⟨by decide, by decide⟩ rfl (bl rfl) dX4_stepsUntilOverload_2) 5 rfl (fun x1 => ?_)
  refine s_call_i (rn_V (As := [.int x1]) C (ct_at hR hA (ct_on (ct_X4_tells g TA a0 x1))) (rv_on C hR (q := vw_12) rfl) (lw_V q2078 q2080 qs70 q112 q2081) ⟨rfl, nv_X4_tells⟩ ⟨by decide, by decide⟩ rfl (bl rfl) dX4_stepsUntilOverload_5) 8 rfl (fun x2 => ?_)
  exact s_iret C rfl rfl dX4_stepsUntilOverload_8
theorem nv_X4_best : yX4_best.cls ≠ "java/lang/invoke/MethodHandle" ∧ yX4_best.cls ≠ "java/lang/invoke/VarHandle" ∧ (parseMethodDescriptor yX4_best.desc).map (fun d => d.parameters.length) = some 3 := by decide +kernel
theorem ct_X4_best {l : Launch} (g : sm_G) (TA : Nat → Prop) (a0 : Nat) (p0 : Int32) (p1 : Int32) (p2 : Int32) : sm_CT l g (so_R g TA) (so_A g TA) yX4_best cX4_best 9 (some .int) 8 182 [.ref a0, .int p0, .int p1, .int p2] em_i (f_X4_best g a0 p0 p1 p2) := by
  refine sm_of (own := "PatchCordsModel") rfl rfl (bl rfl) (fun Y C hR hA hl hm => ?_)
  subst hl
  refine s_lv (L' := [(0, .ref a0), (1, .int p0), (2, .int p1), (3, .int p2)]) [0, 1, 2, 3] rfl ?_
  refine s_top ?_
  unfold f_X4_best
  refine s_iconst (v := (-1)) C dX4_best_0 (by decide) 1 rfl ?_
  refine s_istore C dX4_best_1 (by decide) 3 rfl [(4, .int (-1)), (0, .ref a0), (1, .int p0), (2, .int p1), (3, .int p2)] rfl ?_
  refine s_iconst (v := 0) C dX4_best_3 (by decide) 4 rfl ?_
  refine s_istore C dX4_best_4 (by decide) 6 rfl [(5, .int 0), (4, .int (-1)), (0, .ref a0), (1, .int p0), (2, .int p1), (3, .int p2)] rfl ?_
  refine s_aload_n C dX4_best_6 7 rfl 2 rfl ?_
  refine s_iload_n C dX4_best_7 8 rfl 3 rfl ?_
  refine s_iconst (v := 1) C dX4_best_8 (by decide) 9 rfl ?_
  refine s_call_i (rn_V (As := [.int p0, .int 1]) C (ct_at hR hA (ct_on (ct_X4_of g TA a0 p0 1))) (rv_on C hR (q := vw_12) rfl) (lw_V q1916 q1918 qs44 q112 q1919) ⟨rfl, nv_X4_of⟩ ⟨by decide, by decide⟩ rfl (bl rfl) dX4_best_9) 12 rfl (fun x1 => ?_)
  refine s_istore C dX4_best_12 (by decide) 14 rfl [(6, .int x1), (5, .int 0), (4, .int (-1)), (0, .ref a0), (1, .int p0), (2, .int p1), (3, .int p2)] rfl ?_
  refine s_iconst (v := 0) C dX4_best_14 (by decide) 15 rfl ?_
  refine s_istore C dX4_best_15 (by decide) 17 rfl [(7, .int 0), (6, .int x1), (5, .int 0), (4, .int (-1)), (0, .ref a0), (1, .int p0), (2, .int p1), (3, .int p2)] rfl ?_
  refine s_lv [4, 5, 6, 7, 3, 2, 1, 0] rfl ?_
  refine s_loop (fun (s2 : Int32 × Int32 × Int32) => [(0, .ref a0), (1, .int p0), (2, .int p1), (3, .int p2), (4, .int s2.1), (5, .int s2.2.1), (6, .int x1), (7, .int s2.2.2)]) (fun (v13 : Int32) => [(0, .ref a0), (1, .int p0), (4, .int v13), (6, .int x1)]) 94 ((-1), 0, 0) rfl (fun v13 => ?_) (fun _ s2 hk3 hx4 => ?_)
  · refine s_aload_n C dX4_best_94 95 rfl 0 rfl ?_
    refine s_iload_n C dX4_best_95 96 rfl 1 rfl ?_
    refine s_iconst (v := 1) C dX4_best_96 (by decide) 97 rfl ?_
    refine s_iload C dX4_best_97 99 rfl 3 rfl ?_
    refine s_call_v (rn_V (As := [.int p0, .int 1, .int x1]) C (ct_at hR hA (ct_on (ct_X4_puts g TA a0 p0 1 x1))) (rv_on C hR (q := vw_12) rfl) (lw_V q1892 q1894 qs39 q112 q1895) ⟨rfl, nv_X4_puts⟩ ⟨by decide, by decide⟩ rfl (bl rfl) dX4_best_99) 102 rfl ?_
    refine s_iload C dX4_best_102 104 rfl 2 rfl ?_
    exact s_iret C rfl rfl dX4_best_104
  · refine s_iload C dX4_best_17 19 rfl 7 rfl ?_
    refine s_sipush (v := 1000) C dX4_best_19 (by decide) 22 rfl ?_
    refine s_icmp_gt C dX4_best_22 94 25 (by decide) rfl ?_ ?_
    · refine s_r ?_
      refine s_lv [0, 1, 4, 6] rfl ?_
      exact hx4 s2.1
    · refine s_aload_n C dX4_best_25 26 rfl 0 rfl ?_
      refine s_iload_n C dX4_best_26 27 rfl 1 rfl ?_
      refine s_iconst (v := 1) C dX4_best_27 (by decide) 28 rfl ?_
      refine s_iload C dX4_best_28 30 rfl 7 rfl ?_
      refine s_call_v (rn_V (As := [.int p0, .int 1, .int s2.2.2]) C (ct_at hR hA (ct_on (ct_X4_puts g TA a0 p0 1 s2.2.2))) (rv_on C hR (q := vw_12) rfl) (lw_V q1892 q1894 qs39 q112 q1895) ⟨rfl, nv_X4_puts⟩ ⟨by decide, by decide⟩ rfl (bl rfl) dX4_best_30) 33 rfl ?_
      refine s_aload_n C dX4_best_33 34 rfl 0 rfl ?_
      refine s_iload_n C dX4_best_34 35 rfl 2 rfl ?_
      refine s_bipush (v := 20) C dX4_best_35 (by decide) 37 rfl ?_
      refine s_call_i (rn_V (As := [.int p1, .int 20]) C (ct_at hR hA (ct_on (ct_X4_outputThen g TA a0 p1 20))) (rv_on C hR (q := vw_12) rfl) (lw_V q2266 q2268 qs84 q112 q2269) ⟨rfl, nv_X4_outputThen⟩ ⟨by decide, by decide⟩ rfl (bl rfl) dX4_best_37) 40 rfl (fun x6 => ?_)
      refine s_call_i (rn_S (As := [.int x6]) C (ct_at hR hA (ct_X4_size g TA x6)) (lw_S q2034 q2035 q112 q2036) nv_X4_size ⟨by decide, by decide⟩ rfl (bl rfl) dX4_best_40) 43 rfl (fun x7 => ?_)
      refine s_iload_n C dX4_best_43 44 rfl 3 rfl ?_
      refine s_isub C dX4_best_44 45 rfl ?_
      refine s_call_i (rn_S (As := [.int (x7 - p2)]) C (ct_at hR hA (ct_X4_size g TA (x7 - p2))) (lw_S q2034 q2035 q112 q2036) nv_X4_size ⟨by decide, by decide⟩ rfl (bl rfl) dX4_best_45) 48 rfl (fun x8 => ?_)
      refine s_istore C dX4_best_48 (by decide) 50 rfl [(8, .int x8), (0, .ref a0), (1, .int p0), (2, .int p1), (3, .int p2), (4, .int s2.1), (5, .int s2.2.1), (6, .int x1), (7, .int s2.2.2)] rfl ?_
      refine s_iload C dX4_best_50 52 rfl 5 rfl ?_
      refine s_iconst (v := (-1)) C dX4_best_52 (by decide) 53 rfl ?_
      refine s_cut (J := 70) (LJ := (fun (v9 : Int32) => [(0, .ref a0), (1, .int p0), (2, .int p1), (3, .int p2), (5, .int s2.2.1), (6, .int x1), (7, .int s2.2.2), (8, .int x8)])) (SJ := (fun (v9 : Int32) => [.int v9])) (fun v9 => ?_) (fun _ _ hK10 => ?_)
      · refine s_istore C dX4_best_70 (by decide) 72 rfl [(4, .int v9), (0, .ref a0), (1, .int p0), (2, .int p1), (3, .int p2), (5, .int s2.2.1), (6, .int x1), (7, .int s2.2.2), (8, .int x8)] rfl ?_
        refine s_iload C dX4_best_72 74 rfl 0 rfl ?_
        refine s_iload C dX4_best_74 76 rfl 7 rfl ?_
        refine s_cut (J := 86) (LJ := (fun (v11 : Int32) => [(0, .ref a0), (1, .int p0), (2, .int p1), (3, .int p2), (4, .int v9), (6, .int x1), (7, .int s2.2.2)])) (SJ := (fun (v11 : Int32) => [.int v11])) (fun v11 => ?_) (fun _ _ hK12 => ?_)
        · refine s_istore C dX4_best_86 (by decide) 88 rfl [(5, .int v11), (0, .ref a0), (1, .int p0), (2, .int p1), (3, .int p2), (4, .int v9), (6, .int x1), (7, .int s2.2.2)] rfl ?_
          refine s_iinc C dX4_best_88 (s2.2.2 + 50) rfl 7 rfl (by decide) 91 rfl [(7, .int (s2.2.2 + 50)), (5, .int v11), (0, .ref a0), (1, .int p0), (2, .int p1), (3, .int p2), (4, .int v9), (6, .int x1)] rfl ?_
          refine s_goto C dX4_best_91 17 (by decide) ?_
          refine s_r ?_
          refine s_lv [2, 3, 4, 5, 6, 1, 7, 0] rfl ?_
          exact hk3 (v9, v11, s2.2.2 + 50)
        · refine s_icmp_ne C dX4_best_76 84 79 (by decide) rfl ?_ ?_
          · refine s_iload C dX4_best_79 81 rfl 8 rfl ?_
            refine s_goto C dX4_best_81 86 (by decide) ?_
            refine s_r ?_
            refine s_lv [1, 2, 3, 4, 0, 6, 7] rfl ?_
            exact hK12 x8
          · refine s_iload C dX4_best_84 86 rfl 5 rfl ?_
            refine s_r ?_
            refine s_lv [1, 2, 3, 4, 0, 6, 7] rfl ?_
            exact hK12 s2.2.1
      · refine s_icmp_eq C dX4_best_53 63 56 (by decide) rfl ?_ ?_
        · refine s_iload C dX4_best_63 65 rfl 8 rfl ?_
          refine s_goto C dX4_best_65 70 (by decide) ?_
          refine s_r ?_
          refine s_lv [1, 2, 3, 4, 6, 7, 8, 0] rfl ?_
          exact hK10 s2.2.2
        · refine s_iload C dX4_best_56 58 rfl 0 rfl ?_
          refine s_iload C dX4_best_58 60 rfl 6 rfl ?_
          refine s_icmp_ge C dX4_best_60 68 63 (by decide) rfl ?_ ?_
          · refine s_iload C dX4_best_68 70 rfl 5 rfl ?_
            refine s_r ?_
            refine s_lv [1, 2, 3, 4, 6, 7, 8, 0] rfl ?_
            exact hK10 s2.1
          · refine s_iload C dX4_best_63 65 rfl 8 rfl ?_
            refine s_goto C dX4_best_65 70 (by decide) ?_
            refine s_r ?_
            refine s_lv [1, 2, 3, 4, 6, 7, 8, 0] rfl ?_
            exact hK10 s2.2.2
theorem nv_X4_bestFactor : yX4_bestFactor.cls ≠ "java/lang/invoke/MethodHandle" ∧ yX4_bestFactor.cls ≠ "java/lang/invoke/VarHandle" ∧ (parseMethodDescriptor yX4_bestFactor.desc).map (fun d => d.parameters.length) = some 3 := by decide +kernel
theorem ct_X4_bestFactor {l : Launch} (g : sm_G) (TA : Nat → Prop) (a0 : Nat) (p0 : Int32) (p1 : Int32) (p2 : Int32) : sm_CT l g (so_R g TA) (so_A g TA) yX4_bestFactor cX4_bestFactor 4 (some .int) 9 210 [.ref a0, .int p0, .int p1, .int p2] em_i (f_X4_bestFactor g a0 p0 p1 p2) := by
  refine sm_of (own := "PatchCordsModel") rfl rfl (bl rfl) (fun Y C hR hA hl hm => ?_)
  subst hl
  refine s_lv (L' := [(0, .ref a0), (1, .int p0), (2, .int p1), (3, .int p2)]) [0, 1, 2, 3] rfl ?_
  refine s_top ?_
  unfold f_X4_bestFactor
  refine s_aload_n C dX4_bestFactor_0 1 rfl 0 rfl ?_
  refine s_aload_n C dX4_bestFactor_1 2 rfl 0 rfl ?_
  refine s_iload_n C dX4_bestFactor_2 3 rfl 1 rfl ?_
  refine s_call_i (rn_V (As := [.int p0]) C (ct_at hR hA (ct_on (ct_X4_isModule g TA a0 p0))) (rv_on C hR (q := vw_12) rfl) (lw_V q1904 q1906 qs41 q112 q1907) ⟨rfl, nv_X4_isModule⟩ ⟨by decide, by decide⟩ rfl (bl rfl) dX4_bestFactor_3) 6 rfl (fun x1 => ?_)
  refine s_cut (J := 46) (LJ := (fun (v2 : Int32) => [(0, .ref a0), (1, .int p0), (2, .int p1), (3, .int p2)])) (SJ := (fun (v2 : Int32) => [.int v2, .ref a0])) (fun v2 => ?_) (fun _ _ hK3 => ?_)
  · refine s_put C hR hA fd_PatchCordsModel_thrown (Or.inl q1808) dX4_bestFactor_46 rfl rfl 49 rfl ?_
    refine s_aload_n C dX4_bestFactor_49 50 rfl 0 rfl ?_
    refine s_getI C hR fd_PatchCordsModel_thrown (Or.inl q1808) dX4_bestFactor_50 53 rfl (fun x7 => ?_)
    refine s_cut (J := 67) (LJ := (fun (v8 : Int32) => [])) (SJ := (fun (v8 : Int32) => [.int v8])) (fun v8 => ?_) (fun _ _ hK9 => ?_)
    · exact s_iret C rfl rfl dX4_bestFactor_67
    · refine s_if_le C dX4_bestFactor_53 60 56 (by decide) rfl ?_ ?_
      · refine s_aload_n C dX4_bestFactor_60 61 rfl 0 rfl ?_
        refine s_iload_n C dX4_bestFactor_61 62 rfl 1 rfl ?_
        refine s_iload_n C dX4_bestFactor_62 63 rfl 2 rfl ?_
        refine s_iload_n C dX4_bestFactor_63 64 rfl 3 rfl ?_
        refine s_call_i (rn_V (As := [.int p0, .int p1, .int p2]) C (ct_at hR hA (ct_on (ct_X4_best g TA a0 p0 p1 p2))) (rv_on C hR (q := vw_12) rfl) (lw_V q2290 q2292 qs88 q112 q2293) ⟨rfl, nv_X4_best⟩ ⟨by decide, by decide⟩ rfl (bl rfl) dX4_bestFactor_64) 67 rfl (fun x10 => ?_)
        refine s_r ?_
        refine s_lv [] rfl ?_
        exact hK9 x10
      · refine s_iconst (v := 0) C dX4_bestFactor_56 (by decide) 57 rfl ?_
        refine s_goto C dX4_bestFactor_57 67 (by decide) ?_
        refine s_r ?_
        refine s_lv [] rfl ?_
        exact hK9 0
  · refine s_if_eq C dX4_bestFactor_6 17 9 (by decide) rfl ?_ ?_
    · refine s_iconst (v := 1) C dX4_bestFactor_17 (by decide) 18 rfl ?_
      refine s_goto C dX4_bestFactor_18 46 (by decide) ?_
      refine s_r ?_
      refine s_lv [0, 1, 2, 3] rfl ?_
      exact hK3 1
    · refine s_aload_n C dX4_bestFactor_9 10 rfl 0 rfl ?_
      refine s_iload_n C dX4_bestFactor_10 11 rfl 2 rfl ?_
      refine s_call_i (rn_V (As := [.int p1]) C (ct_at hR hA (ct_on (ct_X4_isModule g TA a0 p1))) (rv_on C hR (q := vw_12) rfl) (lw_V q1904 q1906 qs41 q112 q1907) ⟨rfl, nv_X4_isModule⟩ ⟨by decide, by decide⟩ rfl (bl rfl) dX4_bestFactor_11) 14 rfl (fun x4 => ?_)
      refine s_if_ne C dX4_bestFactor_14 21 17 (by decide) rfl ?_ ?_
      · refine s_iconst (v := 1) C dX4_bestFactor_17 (by decide) 18 rfl ?_
        refine s_goto C dX4_bestFactor_18 46 (by decide) ?_
        refine s_r ?_
        refine s_lv [0, 1, 2, 3] rfl ?_
        exact hK3 1
      · refine s_aload_n C dX4_bestFactor_21 22 rfl 0 rfl ?_
        refine s_iload_n C dX4_bestFactor_22 23 rfl 1 rfl ?_
        refine s_call_i (rn_V (As := [.int p0]) C (ct_at hR hA (ct_on (ct_X4_kind g TA a0 p0))) (rv_on C hR (q := vw_12) rfl) (lw_V q1912 q1914 qs43 q112 q1915) ⟨rfl, nv_X4_kind⟩ ⟨by decide, by decide⟩ rfl (bl rfl) dX4_bestFactor_23) 26 rfl (fun x5 => ?_)
        refine s_iconst (v := 2) C dX4_bestFactor_26 (by decide) 27 rfl ?_
        refine s_icmp_ne C dX4_bestFactor_27 45 30 (by decide) rfl ?_ ?_
        · refine s_iload_n C dX4_bestFactor_30 31 rfl 3 rfl ?_
          refine s_iconst (v := 0) C dX4_bestFactor_31 (by decide) 32 rfl ?_
          refine s_sipush (v := 10000) C dX4_bestFactor_32 (by decide) 35 rfl ?_
          refine s_call_i (rn_S (As := [.int p2, .int 0, .int 10000]) C (ct_at hR hA (ct_X4_within g TA p2 0 10000)) (lw_S q1877 q1878 q112 q1879) nv_X4_within ⟨by decide, by decide⟩ rfl (bl rfl) dX4_bestFactor_35) 38 rfl (fun x6 => ?_)
          refine s_if_eq C dX4_bestFactor_38 45 41 (by decide) rfl ?_ ?_
          · refine s_iconst (v := 2) C dX4_bestFactor_45 (by decide) 46 rfl ?_
            refine s_r ?_
            refine s_lv [0, 1, 2, 3] rfl ?_
            exact hK3 2
          · refine s_iconst (v := 0) C dX4_bestFactor_41 (by decide) 42 rfl ?_
            refine s_goto C dX4_bestFactor_42 46 (by decide) ?_
            refine s_r ?_
            refine s_lv [0, 1, 2, 3] rfl ?_
            exact hK3 0
        · refine s_iconst (v := 2) C dX4_bestFactor_45 (by decide) 46 rfl ?_
          refine s_r ?_
          refine s_lv [0, 1, 2, 3] rfl ?_
          exact hK3 2
theorem nv_X4_keep : yX4_keep.cls ≠ "java/lang/invoke/MethodHandle" ∧ yX4_keep.cls ≠ "java/lang/invoke/VarHandle" ∧ (parseMethodDescriptor yX4_keep.desc).map (fun d => d.parameters.length) = some 0 := by decide +kernel
theorem ct_X4_keep {l : Launch} (g : sm_G) (TA : Nat → Prop) (a0 : Nat) : sm_CT l g (so_R g TA) (so_A g TA) yX4_keep cX4_keep 2 (some .int) 0 0 [.ref a0] em_i (f_X4_keep g a0) := by
  refine sm_of (own := "PatchCordsModel") rfl rfl (bl rfl) (fun Y C hR hA hl hm => ?_)
  subst hl
  refine s_lv (L' := [(0, .ref a0)]) [0] rfl ?_
  refine s_top ?_
  unfold f_X4_keep
  refine s_aload_n C dX4_keep_0 1 rfl 0 rfl ?_
  refine s_iconst (v := 0) C dX4_keep_1 (by decide) 2 rfl ?_
  refine s_put C hR hA fd_PatchCordsModel_thrown (Or.inl q1808) dX4_keep_2 rfl rfl 5 rfl ?_
  refine s_aload_n C dX4_keep_5 6 rfl 0 rfl ?_
  refine s_iconst (v := 1) C dX4_keep_6 (by decide) 7 rfl ?_
  refine s_put C hR hA fd_PatchCordsModel_isTaken (Or.inl q1813) dX4_keep_7 rfl rfl 10 rfl ?_
  refine s_iconst (v := 0) C dX4_keep_10 (by decide) 11 rfl ?_
  refine s_istore_n C dX4_keep_11 rfl (by decide) 12 rfl [(1, .int 0), (0, .ref a0)] rfl ?_
  refine s_lv [1, 0] rfl ?_
  refine s_loop (fun (s1 : Int32) => [(0, .ref a0), (1, .int s1)]) (fun (v7 : Unit) => [(0, .ref a0)]) 37 0 rfl (fun v7 => ?_) (fun _ s1 hk2 hx3 => ?_)
  · refine s_aload_n C dX4_keep_37 38 rfl 0 rfl ?_
    refine s_getR C hR fd_PatchCordsModel_state (Or.inl q1809) dX4_keep_38 41 rfl (fun x8 => ?_)
    refine s_iconst (v := 0) C dX4_keep_41 (by decide) 42 rfl ?_
    refine s_iald C hR dX4_keep_42 43 rfl (fun x9 => ?_)
    exact s_iret C rfl rfl dX4_keep_43
  · refine s_iload_n C dX4_keep_12 13 rfl 1 rfl ?_
    refine s_sipush (v := 242) C dX4_keep_13 (by decide) 16 rfl ?_
    refine s_icmp_ge C dX4_keep_16 37 19 (by decide) rfl ?_ ?_
    · refine s_r ?_
      refine s_lv [0] rfl ?_
      exact hx3 ()
    · refine s_aload_n C dX4_keep_19 20 rfl 0 rfl ?_
      refine s_getR C hR fd_PatchCordsModel_snapshot (Or.inl q1812) dX4_keep_20 23 rfl (fun x4 => ?_)
      refine s_iload_n C dX4_keep_23 24 rfl 1 rfl ?_
      refine s_aload_n C dX4_keep_24 25 rfl 0 rfl ?_
      refine s_getR C hR fd_PatchCordsModel_state (Or.inl q1809) dX4_keep_25 28 rfl (fun x5 => ?_)
      refine s_iload_n C dX4_keep_28 29 rfl 1 rfl ?_
      refine s_iald C hR dX4_keep_29 30 rfl (fun x6 => ?_)
      refine s_iast C hR hA dX4_keep_30 31 rfl ?_
      refine s_iinc C dX4_keep_31 (s1 + 1) rfl 1 rfl (by decide) 34 rfl [(1, .int (s1 + 1)), (0, .ref a0)] rfl ?_
      refine s_goto C dX4_keep_34 12 (by decide) ?_
      refine s_r ?_
      refine s_lv [1, 0] rfl ?_
      exact hk2 (s1 + 1)
theorem nv_X4_goBack : yX4_goBack.cls ≠ "java/lang/invoke/MethodHandle" ∧ yX4_goBack.cls ≠ "java/lang/invoke/VarHandle" ∧ (parseMethodDescriptor yX4_goBack.desc).map (fun d => d.parameters.length) = some 0 := by decide +kernel
theorem ct_X4_goBack {l : Launch} (g : sm_G) (TA : Nat → Prop) (a0 : Nat) : sm_CT l g (so_R g TA) (so_A g TA) yX4_goBack cX4_goBack 2 (some .int) 1 21 [.ref a0] em_i (f_X4_goBack g a0) := by
  refine sm_of (own := "PatchCordsModel") rfl rfl (bl rfl) (fun Y C hR hA hl hm => ?_)
  subst hl
  refine s_lv (L' := [(0, .ref a0)]) [0] rfl ?_
  refine s_top ?_
  unfold f_X4_goBack
  refine s_aload_n C dX4_goBack_0 1 rfl 0 rfl ?_
  refine s_aload_n C dX4_goBack_1 2 rfl 0 rfl ?_
  refine s_getI C hR fd_PatchCordsModel_isTaken (Or.inl q1813) dX4_goBack_2 5 rfl (fun x1 => ?_)
  refine s_cut (J := 13) (LJ := (fun (v2 : Int32) => [(0, .ref a0)])) (SJ := (fun (v2 : Int32) => [.int v2, .ref a0])) (fun v2 => ?_) (fun _ _ hK3 => ?_)
  · refine s_put C hR hA fd_PatchCordsModel_thrown (Or.inl q1808) dX4_goBack_13 rfl rfl 16 rfl ?_
    refine s_aload_n C dX4_goBack_16 17 rfl 0 rfl ?_
    refine s_getI C hR fd_PatchCordsModel_thrown (Or.inl q1808) dX4_goBack_17 20 rfl (fun x4 => ?_)
    refine s_if_le C dX4_goBack_20 25 23 (by decide) rfl ?_ ?_
    · refine s_aload_n C dX4_goBack_25 26 rfl 0 rfl ?_
      refine s_call_v (rn_V (As := []) C (ct_at hR hA (ct_on (ct_X4_saves g TA a0))) (rv_on C hR (q := vw_12) rfl) (lw_V q1884 q1886 qs37 q112 q1887) ⟨rfl, nv_X4_saves⟩ ⟨by decide, by decide⟩ rfl (bl rfl) dX4_goBack_26) 29 rfl ?_
      refine s_iconst (v := 0) C dX4_goBack_29 (by decide) 30 rfl ?_
      refine s_istore_n C dX4_goBack_30 rfl (by decide) 31 rfl [(1, .int 0), (0, .ref a0)] rfl ?_
      refine s_lv [1, 0] rfl ?_
      refine s_loop (fun (s6 : Int32) => [(0, .ref a0), (1, .int s6)]) (fun (v12 : Unit) => [(0, .ref a0)]) 56 0 rfl (fun v12 => ?_) (fun _ s6 hk7 hx8 => ?_)
      · refine s_aload_n C dX4_goBack_56 57 rfl 0 rfl ?_
        refine s_getR C hR fd_PatchCordsModel_state (Or.inl q1809) dX4_goBack_57 60 rfl (fun x13 => ?_)
        refine s_iconst (v := 0) C dX4_goBack_60 (by decide) 61 rfl ?_
        refine s_iald C hR dX4_goBack_61 62 rfl (fun x14 => ?_)
        exact s_iret C rfl rfl dX4_goBack_62
      · refine s_iload_n C dX4_goBack_31 32 rfl 1 rfl ?_
        refine s_sipush (v := 242) C dX4_goBack_32 (by decide) 35 rfl ?_
        refine s_icmp_ge C dX4_goBack_35 56 38 (by decide) rfl ?_ ?_
        · refine s_r ?_
          refine s_lv [0] rfl ?_
          exact hx8 ()
        · refine s_aload_n C dX4_goBack_38 39 rfl 0 rfl ?_
          refine s_getR C hR fd_PatchCordsModel_state (Or.inl q1809) dX4_goBack_39 42 rfl (fun x9 => ?_)
          refine s_iload_n C dX4_goBack_42 43 rfl 1 rfl ?_
          refine s_aload_n C dX4_goBack_43 44 rfl 0 rfl ?_
          refine s_getR C hR fd_PatchCordsModel_snapshot (Or.inl q1812) dX4_goBack_44 47 rfl (fun x10 => ?_)
          refine s_iload_n C dX4_goBack_47 48 rfl 1 rfl ?_
          refine s_iald C hR dX4_goBack_48 49 rfl (fun x11 => ?_)
          refine s_iast C hR hA dX4_goBack_49 50 rfl ?_
          refine s_iinc C dX4_goBack_50 (s6 + 1) rfl 1 rfl (by decide) 53 rfl [(1, .int (s6 + 1)), (0, .ref a0)] rfl ?_
          refine s_goto C dX4_goBack_53 31 (by decide) ?_
          refine s_r ?_
          refine s_lv [1, 0] rfl ?_
          exact hk7 (s6 + 1)
    · refine s_iconst (v := 0) C dX4_goBack_23 (by decide) 24 rfl ?_
      exact s_iret C rfl rfl dX4_goBack_24
  · refine s_if_eq C dX4_goBack_5 12 8 (by decide) rfl ?_ ?_
    · refine s_iconst (v := 1) C dX4_goBack_12 (by decide) 13 rfl ?_
      refine s_r ?_
      refine s_lv [0] rfl ?_
      exact hK3 1
    · refine s_iconst (v := 0) C dX4_goBack_8 (by decide) 9 rfl ?_
      refine s_goto C dX4_goBack_9 13 (by decide) ?_
      refine s_r ?_
      refine s_lv [0] rfl ?_
      exact hK3 0
theorem nv_X4_append : yX4_append.cls ≠ "java/lang/invoke/MethodHandle" ∧ yX4_append.cls ≠ "java/lang/invoke/VarHandle" ∧ (parseMethodDescriptor yX4_append.desc).map (fun d => d.parameters.length) = some 1 := by decide +kernel
theorem ct_X4_append {l : Launch} (g : sm_G) (TA : Nat → Prop) (a0 : Nat) (p0 : Int32) : sm_CT l g (so_R g TA) (so_A g TA) yX4_append cX4_append 2 (some .int) 1 22 [.ref a0, .int p0] em_i (f_X4_append g a0 p0) := by
  refine sm_of (own := "PatchCordsModel") rfl rfl (bl rfl) (fun Y C hR hA hl hm => ?_)
  subst hl
  refine s_lv (L' := [(0, .ref a0), (1, .int p0)]) [0, 1] rfl ?_
  refine s_top ?_
  unfold f_X4_append
  refine s_aload_n C dX4_append_0 1 rfl 0 rfl ?_
  refine s_iload_n C dX4_append_1 2 rfl 1 rfl ?_
  refine s_bipush (v := 33) C dX4_append_2 (by decide) 4 rfl ?_
  refine s_bipush (v := 126) C dX4_append_4 (by decide) 6 rfl ?_
  refine s_call_i (rn_S (As := [.int p0, .int 33, .int 126]) C (ct_at hR hA (ct_X4_within g TA p0 33 126)) (lw_S q1877 q1878 q112 q1879) nv_X4_within ⟨by decide, by decide⟩ rfl (bl rfl) dX4_append_6) 9 rfl (fun x1 => ?_)
  refine s_cut (J := 30) (LJ := (fun (v2 : Int32) => [(0, .ref a0), (1, .int p0)])) (SJ := (fun (v2 : Int32) => [.int v2, .ref a0])) (fun v2 => ?_) (fun _ _ hK3 => ?_)
  · refine s_put C hR hA fd_PatchCordsModel_thrown (Or.inl q1808) dX4_append_30 rfl rfl 33 rfl ?_
    refine s_aload_n C dX4_append_33 34 rfl 0 rfl ?_
    refine s_getI C hR fd_PatchCordsModel_thrown (Or.inl q1808) dX4_append_34 37 rfl (fun x5 => ?_)
    refine s_if_le C dX4_append_37 42 40 (by decide) rfl ?_ ?_
    · refine s_aload_n C dX4_append_42 43 rfl 0 rfl ?_
      refine s_getR C hR fd_PatchCordsModel_text (Or.inl q1820) dX4_append_43 46 rfl (fun x6 => ?_)
      refine s_aload_n C dX4_append_46 47 rfl 0 rfl ?_
      refine s_getI C hR fd_PatchCordsModel_textLength (Or.inl q1821) dX4_append_47 50 rfl (fun x7 => ?_)
      refine s_iload_n C dX4_append_50 51 rfl 1 rfl ?_
      refine s_iast C hR hA dX4_append_51 52 rfl ?_
      refine s_aload_n C dX4_append_52 53 rfl 0 rfl ?_
      refine s_dup C dX4_append_53 rfl 54 rfl ?_
      refine s_getI C hR fd_PatchCordsModel_textLength (Or.inl q1821) dX4_append_54 57 rfl (fun x8 => ?_)
      refine s_iconst (v := 1) C dX4_append_57 (by decide) 58 rfl ?_
      refine s_iadd C dX4_append_58 59 rfl ?_
      refine s_put C hR hA fd_PatchCordsModel_textLength (Or.inl q1821) dX4_append_59 rfl rfl 62 rfl ?_
      refine s_aload_n C dX4_append_62 63 rfl 0 rfl ?_
      refine s_getI C hR fd_PatchCordsModel_textLength (Or.inl q1821) dX4_append_63 66 rfl (fun x9 => ?_)
      exact s_iret C rfl rfl dX4_append_66
    · refine s_iconst (v := 0) C dX4_append_40 (by decide) 41 rfl ?_
      exact s_iret C rfl rfl dX4_append_41
  · refine s_if_ne C dX4_append_9 16 12 (by decide) rfl ?_ ?_
    · refine s_iconst (v := 1) C dX4_append_12 (by decide) 13 rfl ?_
      refine s_goto C dX4_append_13 30 (by decide) ?_
      refine s_r ?_
      refine s_lv [0, 1] rfl ?_
      exact hK3 1
    · refine s_aload_n C dX4_append_16 17 rfl 0 rfl ?_
      refine s_getI C hR fd_PatchCordsModel_textLength (Or.inl q1821) dX4_append_17 20 rfl (fun x4 => ?_)
      refine s_bipush (v := 60) C dX4_append_20 (by decide) 22 rfl ?_
      refine s_icmp_ne C dX4_append_22 29 25 (by decide) rfl ?_ ?_
      · refine s_iconst (v := 2) C dX4_append_25 (by decide) 26 rfl ?_
        refine s_goto C dX4_append_26 30 (by decide) ?_
        refine s_r ?_
        refine s_lv [0, 1] rfl ?_
        exact hK3 2
      · refine s_iconst (v := 0) C dX4_append_29 (by decide) 30 rfl ?_
        refine s_r ?_
        refine s_lv [0, 1] rfl ?_
        exact hK3 0
theorem nv_X4_clearText : yX4_clearText.cls ≠ "java/lang/invoke/MethodHandle" ∧ yX4_clearText.cls ≠ "java/lang/invoke/VarHandle" ∧ (parseMethodDescriptor yX4_clearText.desc).map (fun d => d.parameters.length) = some 0 := by decide +kernel
theorem ct_X4_clearText {l : Launch} (g : sm_G) (TA : Nat → Prop) (a0 : Nat) : sm_CT l g (so_R g TA) (so_A g TA) yX4_clearText cX4_clearText 2 (some .int) 0 0 [.ref a0] em_i (f_X4_clearText g a0) := by
  refine sm_of (own := "PatchCordsModel") rfl rfl (bl rfl) (fun Y C hR hA hl hm => ?_)
  subst hl
  refine s_lv (L' := [(0, .ref a0)]) [0] rfl ?_
  refine s_top ?_
  unfold f_X4_clearText
  refine s_aload_n C dX4_clearText_0 1 rfl 0 rfl ?_
  refine s_iconst (v := 0) C dX4_clearText_1 (by decide) 2 rfl ?_
  refine s_put C hR hA fd_PatchCordsModel_thrown (Or.inl q1808) dX4_clearText_2 rfl rfl 5 rfl ?_
  refine s_aload_n C dX4_clearText_5 6 rfl 0 rfl ?_
  refine s_getI C hR fd_PatchCordsModel_textLength (Or.inl q1821) dX4_clearText_6 9 rfl (fun x1 => ?_)
  refine s_istore_n C dX4_clearText_9 rfl (by decide) 10 rfl [(1, .int x1), (0, .ref a0)] rfl ?_
  refine s_aload_n C dX4_clearText_10 11 rfl 1 rfl ?_
  refine s_iconst (v := 0) C dX4_clearText_11 (by decide) 12 rfl ?_
  refine s_put C hR hA fd_PatchCordsModel_textLength (Or.inl q1821) dX4_clearText_12 rfl rfl 15 rfl ?_
  refine s_iload_n C dX4_clearText_15 16 rfl 0 rfl ?_
  exact s_iret C rfl rfl dX4_clearText_16
theorem nv_X4_accepts : yX4_accepts.cls ≠ "java/lang/invoke/MethodHandle" ∧ yX4_accepts.cls ≠ "java/lang/invoke/VarHandle" ∧ (parseMethodDescriptor yX4_accepts.desc).map (fun d => d.parameters.length) = some 2 := by decide +kernel
theorem ct_X4_accepts {l : Launch} (g : sm_G) (TA : Nat → Prop) (a0 : Nat) (p0 : Int32) (p1 : Int32) : sm_CT l g (so_R g TA) (so_A g TA) yX4_accepts cX4_accepts 4 (some .boolean) 1 22 [.ref a0, .int p0, .int p1] em_i (f_X4_accepts g a0 p0 p1) := by
  refine sm_of (own := "PatchCordsModel") rfl rfl (bl rfl) (fun Y C hR hA hl hm => ?_)
  subst hl
  refine s_lv (L' := [(0, .ref a0), (1, .int p0), (2, .int p1)]) [0, 1, 2] rfl ?_
  refine s_top ?_
  unfold f_X4_accepts
  refine s_aload_n C dX4_accepts_0 1 rfl 0 rfl ?_
  refine s_getI C hR fd_PatchCordsModel_reading (Or.inl q1822) dX4_accepts_1 4 rfl (fun x1 => ?_)
  refine s_aload_n C dX4_accepts_4 5 rfl 0 rfl ?_
  refine s_getI C hR fd_PatchCordsModel_textLength (Or.inl q1821) dX4_accepts_5 8 rfl (fun x2 => ?_)
  refine s_cut (J := 33) (LJ := (fun (v3 : Int32) => [(0, .ref a0)])) (SJ := (fun (v3 : Int32) => [.int v3])) (fun v3 => ?_) (fun _ _ hK4 => ?_)
  · refine s_istore_n C dX4_accepts_33 rfl (by decide) 34 rfl [(3, .int v3), (0, .ref a0)] rfl ?_
    refine s_aload_n C dX4_accepts_34 35 rfl 1 rfl ?_
    refine s_dup C dX4_accepts_35 rfl 36 rfl ?_
    refine s_getI C hR fd_PatchCordsModel_reading (Or.inl q1822) dX4_accepts_36 39 rfl (fun x9 => ?_)
    refine s_iload_n C dX4_accepts_39 40 rfl 0 rfl ?_
    refine s_cut (J := 48) (LJ := (fun (v10 : Int32) => [(3, .int v3)])) (SJ := (fun (v10 : Int32) => [.int v10, .int x9, .ref a0])) (fun v10 => ?_) (fun _ _ hK11 => ?_)
    · refine s_iadd C dX4_accepts_48 49 rfl ?_
      refine s_put C hR hA fd_PatchCordsModel_reading (Or.inl q1822) dX4_accepts_49 rfl rfl 52 rfl ?_
      refine s_iload_n C dX4_accepts_52 53 rfl 0 rfl ?_
      refine s_zb (fun h => ?_)
      exact s_iret C rfl (s_zn h) dX4_accepts_53
    · refine s_if_eq C dX4_accepts_40 47 43 (by decide) rfl ?_ ?_
      · refine s_iconst (v := 0) C dX4_accepts_47 (by decide) 48 rfl ?_
        refine s_r ?_
        refine s_lv [0] rfl ?_
        exact hK11 0
      · refine s_iconst (v := 1) C dX4_accepts_43 (by decide) 44 rfl ?_
        refine s_goto C dX4_accepts_44 48 (by decide) ?_
        refine s_r ?_
        refine s_lv [0] rfl ?_
        exact hK11 1
  · refine s_icmp_ge C dX4_accepts_8 32 11 (by decide) rfl ?_ ?_
    · refine s_iconst (v := 0) C dX4_accepts_32 (by decide) 33 rfl ?_
      refine s_r ?_
      refine s_lv [0] rfl ?_
      exact hK4 0
    · refine s_aload_n C dX4_accepts_11 12 rfl 0 rfl ?_
      refine s_getR C hR fd_PatchCordsModel_text (Or.inl q1820) dX4_accepts_12 15 rfl (fun x5 => ?_)
      refine s_aload_n C dX4_accepts_15 16 rfl 0 rfl ?_
      refine s_getI C hR fd_PatchCordsModel_reading (Or.inl q1822) dX4_accepts_16 19 rfl (fun x6 => ?_)
      refine s_iald C hR dX4_accepts_19 20 rfl (fun x7 => ?_)
      refine s_iload_n C dX4_accepts_20 21 rfl 1 rfl ?_
      refine s_iload_n C dX4_accepts_21 22 rfl 2 rfl ?_
      refine s_call_i (rn_S (As := [.int x7, .int p0, .int p1]) C (ct_at hR hA (ct_X4_within g TA x7 p0 p1)) (lw_S q1877 q1878 q112 q1879) nv_X4_within ⟨by decide, by decide⟩ rfl (bl rfl) dX4_accepts_22) 25 rfl (fun x8 => ?_)
      refine s_if_eq C dX4_accepts_25 32 28 (by decide) rfl ?_ ?_
      · refine s_iconst (v := 0) C dX4_accepts_32 (by decide) 33 rfl ?_
        refine s_r ?_
        refine s_lv [0] rfl ?_
        exact hK4 0
      · refine s_iconst (v := 1) C dX4_accepts_28 (by decide) 29 rfl ?_
        refine s_goto C dX4_accepts_29 33 (by decide) ?_
        refine s_r ?_
        refine s_lv [0] rfl ?_
        exact hK4 1
theorem nv_X4_readsNumber : yX4_readsNumber.cls ≠ "java/lang/invoke/MethodHandle" ∧ yX4_readsNumber.cls ≠ "java/lang/invoke/VarHandle" ∧ (parseMethodDescriptor yX4_readsNumber.desc).map (fun d => d.parameters.length) = some 2 := by decide +kernel
theorem ct_X4_readsNumber {l : Launch} (g : sm_G) (TA : Nat → Prop) (a0 : Nat) (p0 : Int32) (p1 : Int32) : sm_CT l g (so_R g TA) (so_A g TA) yX4_readsNumber cX4_readsNumber 3 (some .boolean) 2 45 [.ref a0, .int p0, .int p1] em_i (f_X4_readsNumber g a0 p0 p1) := by
  refine sm_of (own := "PatchCordsModel") rfl rfl (bl rfl) (fun Y C hR hA hl hm => ?_)
  subst hl
  refine s_lv (L' := [(0, .ref a0), (1, .int p0), (2, .int p1)]) [0, 1, 2] rfl ?_
  refine s_top ?_
  unfold f_X4_readsNumber
  refine s_aload_n C dX4_readsNumber_0 1 rfl 0 rfl ?_
  refine s_bipush (v := 48) C dX4_readsNumber_1 (by decide) 3 rfl ?_
  refine s_iload_n C dX4_readsNumber_3 4 rfl 1 rfl ?_
  refine s_iadd C dX4_readsNumber_4 5 rfl ?_
  refine s_iload_n C dX4_readsNumber_5 6 rfl 2 rfl ?_
  refine s_bipush (v := 9) C dX4_readsNumber_6 (by decide) 8 rfl ?_
  refine s_cut (J := 20) (LJ := (fun (v1 : Int32) => [(0, .ref a0), (2, .int p1)])) (SJ := (fun (v1 : Int32) => [.int v1, .int (48 + p0), .ref a0])) (fun v1 => ?_) (fun _ _ hK2 => ?_)
  · refine s_call_i (rn_V (As := [.int (48 + p0), .int v1]) C (ct_at hR hA (ct_on (ct_X4_accepts g TA a0 (48 + p0) v1))) (rv_on C hR (q := vw_12) rfl) (lw_V q2326 q2328 qs92 q112 q2329) ⟨rfl, nv_X4_accepts⟩ ⟨by decide, by decide⟩ rfl (bl rfl) dX4_readsNumber_20) 23 rfl (fun x3 => ?_)
    refine s_if_ne C dX4_readsNumber_23 28 26 (by decide) rfl ?_ ?_
    · refine s_iconst (v := 0) C dX4_readsNumber_26 (by decide) 27 rfl ?_
      exact s_iret C rfl rfl dX4_readsNumber_27
    · refine s_aload_n C dX4_readsNumber_28 29 rfl 0 rfl ?_
      refine s_aload_n C dX4_readsNumber_29 30 rfl 0 rfl ?_
      refine s_getR C hR fd_PatchCordsModel_text (Or.inl q1820) dX4_readsNumber_30 33 rfl (fun x4 => ?_)
      refine s_aload_n C dX4_readsNumber_33 34 rfl 0 rfl ?_
      refine s_getI C hR fd_PatchCordsModel_reading (Or.inl q1822) dX4_readsNumber_34 37 rfl (fun x5 => ?_)
      refine s_iconst (v := 1) C dX4_readsNumber_37 (by decide) 38 rfl ?_
      refine s_isub C dX4_readsNumber_38 39 rfl ?_
      refine s_iald C hR dX4_readsNumber_39 40 rfl (fun x6 => ?_)
      refine s_bipush (v := 48) C dX4_readsNumber_40 (by decide) 42 rfl ?_
      refine s_isub C dX4_readsNumber_42 43 rfl ?_
      refine s_put C hR hA fd_PatchCordsModel_number (Or.inl q1823) dX4_readsNumber_43 rfl rfl 46 rfl ?_
      refine s_lv [0, 1] rfl ?_
      refine s_loop (fun (s7 : Unit) => [(0, .ref a0), (2, .int p1)]) (fun (v26 : Unit) => []) 144 () rfl (fun v26 => ?_) (fun _ s7 hk8 hx9 => ?_)
      · refine s_iconst (v := 1) C dX4_readsNumber_144 (by decide) 145 rfl ?_
        exact s_iret C rfl rfl dX4_readsNumber_145
      · refine s_aload_n C dX4_readsNumber_46 47 rfl 0 rfl ?_
        refine s_getI C hR fd_PatchCordsModel_number (Or.inl q1823) dX4_readsNumber_47 50 rfl (fun x10 => ?_)
        refine s_if_le C dX4_readsNumber_50 144 53 (by decide) rfl ?_ ?_
        · refine s_r ?_
          refine s_lv [] rfl ?_
          exact hx9 ()
        · refine s_aload_n C dX4_readsNumber_53 54 rfl 0 rfl ?_
          refine s_getI C hR fd_PatchCordsModel_reading (Or.inl q1822) dX4_readsNumber_54 57 rfl (fun x11 => ?_)
          refine s_aload_n C dX4_readsNumber_57 58 rfl 0 rfl ?_
          refine s_getI C hR fd_PatchCordsModel_textLength (Or.inl q1821) dX4_readsNumber_58 61 rfl (fun x12 => ?_)
          refine s_icmp_ge C dX4_readsNumber_61 144 64 (by decide) rfl ?_ ?_
          · refine s_r ?_
            refine s_lv [] rfl ?_
            exact hx9 ()
          · refine s_aload_n C dX4_readsNumber_64 65 rfl 0 rfl ?_
            refine s_getR C hR fd_PatchCordsModel_text (Or.inl q1820) dX4_readsNumber_65 68 rfl (fun x13 => ?_)
            refine s_aload_n C dX4_readsNumber_68 69 rfl 0 rfl ?_
            refine s_getI C hR fd_PatchCordsModel_reading (Or.inl q1822) dX4_readsNumber_69 72 rfl (fun x14 => ?_)
            refine s_iald C hR dX4_readsNumber_72 73 rfl (fun x15 => ?_)
            refine s_bipush (v := 48) C dX4_readsNumber_73 (by decide) 75 rfl ?_
            refine s_bipush (v := 57) C dX4_readsNumber_75 (by decide) 77 rfl ?_
            refine s_call_i (rn_S (As := [.int x15, .int 48, .int 57]) C (ct_at hR hA (ct_X4_within g TA x15 48 57)) (lw_S q1877 q1878 q112 q1879) nv_X4_within ⟨by decide, by decide⟩ rfl (bl rfl) dX4_readsNumber_77) 80 rfl (fun x16 => ?_)
            refine s_if_eq C dX4_readsNumber_80 144 83 (by decide) rfl ?_ ?_
            · refine s_r ?_
              refine s_lv [] rfl ?_
              exact hx9 ()
            · refine s_bipush (v := 10) C dX4_readsNumber_83 (by decide) 85 rfl ?_
              refine s_aload_n C dX4_readsNumber_85 86 rfl 0 rfl ?_
              refine s_getI C hR fd_PatchCordsModel_number (Or.inl q1823) dX4_readsNumber_86 89 rfl (fun x17 => ?_)
              refine s_imul C dX4_readsNumber_89 90 rfl ?_
              refine s_aload_n C dX4_readsNumber_90 91 rfl 0 rfl ?_
              refine s_getR C hR fd_PatchCordsModel_text (Or.inl q1820) dX4_readsNumber_91 94 rfl (fun x18 => ?_)
              refine s_aload_n C dX4_readsNumber_94 95 rfl 0 rfl ?_
              refine s_getI C hR fd_PatchCordsModel_reading (Or.inl q1822) dX4_readsNumber_95 98 rfl (fun x19 => ?_)
              refine s_iald C hR dX4_readsNumber_98 99 rfl (fun x20 => ?_)
              refine s_iadd C dX4_readsNumber_99 100 rfl ?_
              refine s_bipush (v := 48) C dX4_readsNumber_100 (by decide) 102 rfl ?_
              refine s_isub C dX4_readsNumber_102 103 rfl ?_
              refine s_iload_n C dX4_readsNumber_103 104 rfl 1 rfl ?_
              refine s_icmp_gt C dX4_readsNumber_104 144 107 (by decide) rfl ?_ ?_
              · refine s_r ?_
                refine s_lv [] rfl ?_
                exact hx9 ()
              · refine s_aload_n C dX4_readsNumber_107 108 rfl 0 rfl ?_
                refine s_bipush (v := 10) C dX4_readsNumber_108 (by decide) 110 rfl ?_
                refine s_aload_n C dX4_readsNumber_110 111 rfl 0 rfl ?_
                refine s_getI C hR fd_PatchCordsModel_number (Or.inl q1823) dX4_readsNumber_111 114 rfl (fun x21 => ?_)
                refine s_imul C dX4_readsNumber_114 115 rfl ?_
                refine s_aload_n C dX4_readsNumber_115 116 rfl 0 rfl ?_
                refine s_getR C hR fd_PatchCordsModel_text (Or.inl q1820) dX4_readsNumber_116 119 rfl (fun x22 => ?_)
                refine s_aload_n C dX4_readsNumber_119 120 rfl 0 rfl ?_
                refine s_getI C hR fd_PatchCordsModel_reading (Or.inl q1822) dX4_readsNumber_120 123 rfl (fun x23 => ?_)
                refine s_iald C hR dX4_readsNumber_123 124 rfl (fun x24 => ?_)
                refine s_iadd C dX4_readsNumber_124 125 rfl ?_
                refine s_bipush (v := 48) C dX4_readsNumber_125 (by decide) 127 rfl ?_
                refine s_isub C dX4_readsNumber_127 128 rfl ?_
                refine s_put C hR hA fd_PatchCordsModel_number (Or.inl q1823) dX4_readsNumber_128 rfl rfl 131 rfl ?_
                refine s_aload_n C dX4_readsNumber_131 132 rfl 0 rfl ?_
                refine s_dup C dX4_readsNumber_132 rfl 133 rfl ?_
                refine s_getI C hR fd_PatchCordsModel_reading (Or.inl q1822) dX4_readsNumber_133 136 rfl (fun x25 => ?_)
                refine s_iconst (v := 1) C dX4_readsNumber_136 (by decide) 137 rfl ?_
                refine s_iadd C dX4_readsNumber_137 138 rfl ?_
                refine s_put C hR hA fd_PatchCordsModel_reading (Or.inl q1822) dX4_readsNumber_138 rfl rfl 141 rfl ?_
                refine s_goto C dX4_readsNumber_141 46 (by decide) ?_
                refine s_r ?_
                refine s_lv [0, 1] rfl ?_
                exact hk8 ()
  · refine s_icmp_ge C dX4_readsNumber_8 18 11 (by decide) rfl ?_ ?_
    · refine s_bipush (v := 57) C dX4_readsNumber_18 (by decide) 20 rfl ?_
      refine s_r ?_
      refine s_lv [0, 2] rfl ?_
      exact hK2 57
    · refine s_bipush (v := 48) C dX4_readsNumber_11 (by decide) 13 rfl ?_
      refine s_iload_n C dX4_readsNumber_13 14 rfl 2 rfl ?_
      refine s_iadd C dX4_readsNumber_14 15 rfl ?_
      refine s_goto C dX4_readsNumber_15 20 (by decide) ?_
      refine s_r ?_
      refine s_lv [0, 2] rfl ?_
      exact hK2 (48 + p1)
theorem nv_X4_readsModule : yX4_readsModule.cls ≠ "java/lang/invoke/MethodHandle" ∧ yX4_readsModule.cls ≠ "java/lang/invoke/VarHandle" ∧ (parseMethodDescriptor yX4_readsModule.desc).map (fun d => d.parameters.length) = some 0 := by decide +kernel
theorem ct_X4_readsModule {l : Launch} (g : sm_G) (TA : Nat → Prop) (a0 : Nat) : sm_CT l g (so_R g TA) (so_A g TA) yX4_readsModule cX4_readsModule 2 (some .boolean) 3 67 [.ref a0] em_i (f_X4_readsModule g a0) := by
  refine sm_of (own := "PatchCordsModel") rfl rfl (bl rfl) (fun Y C hR hA hl hm => ?_)
  subst hl
  refine s_lv (L' := [(0, .ref a0)]) [0] rfl ?_
  refine s_top ?_
  unfold f_X4_readsModule
  refine s_aload_n C dX4_readsModule_0 1 rfl 0 rfl ?_
  refine s_iconst (v := 0) C dX4_readsModule_1 (by decide) 2 rfl ?_
  refine s_bipush (v := 15) C dX4_readsModule_2 (by decide) 4 rfl ?_
  refine s_call_i (rn_V (As := [.int 0, .int 15]) C (ct_at hR hA (ct_on (ct_X4_readsNumber g TA a0 0 15))) (rv_on C hR (q := vw_12) rfl) (lw_V q2322 q2324 qs91 q112 q2325) ⟨rfl, nv_X4_readsNumber⟩ ⟨by decide, by decide⟩ rfl (bl rfl) dX4_readsModule_4) 7 rfl (fun x1 => ?_)
  refine s_istore_n C dX4_readsModule_7 rfl (by decide) 8 rfl [(1, .int x1), (0, .ref a0)] rfl ?_
  refine s_aload_n C dX4_readsModule_8 9 rfl 1 rfl ?_
  refine s_aload_n C dX4_readsModule_9 10 rfl 1 rfl ?_
  refine s_getI C hR fd_PatchCordsModel_number (Or.inl q1823) dX4_readsModule_10 13 rfl (fun x2 => ?_)
  refine s_put C hR hA fd_PatchCordsModel_one (Or.inl q1825) dX4_readsModule_13 rfl rfl 16 rfl ?_
  refine s_iload_n C dX4_readsModule_16 17 rfl 0 rfl ?_
  refine s_zb (fun h => ?_)
  exact s_iret C rfl (s_zn h) dX4_readsModule_17
theorem nv_X4_readsInput : yX4_readsInput.cls ≠ "java/lang/invoke/MethodHandle" ∧ yX4_readsInput.cls ≠ "java/lang/invoke/VarHandle" ∧ (parseMethodDescriptor yX4_readsInput.desc).map (fun d => d.parameters.length) = some 0 := by decide +kernel
theorem ct_X4_readsInput {l : Launch} (g : sm_G) (TA : Nat → Prop) (a0 : Nat) : sm_CT l g (so_R g TA) (so_A g TA) yX4_readsInput cX4_readsInput 2 (some .boolean) 3 67 [.ref a0] em_i (f_X4_readsInput g a0) := by
  refine sm_of (own := "PatchCordsModel") rfl rfl (bl rfl) (fun Y C hR hA hl hm => ?_)
  subst hl
  refine s_lv (L' := [(0, .ref a0)]) [0] rfl ?_
  refine s_top ?_
  unfold f_X4_readsInput
  refine s_aload_n C dX4_readsInput_0 1 rfl 0 rfl ?_
  refine s_bipush (v := 46) C dX4_readsInput_1 (by decide) 3 rfl ?_
  refine s_bipush (v := 46) C dX4_readsInput_3 (by decide) 5 rfl ?_
  refine s_call_i (rn_V (As := [.int 46, .int 46]) C (ct_at hR hA (ct_on (ct_X4_accepts g TA a0 46 46))) (rv_on C hR (q := vw_12) rfl) (lw_V q2326 q2328 qs92 q112 q2329) ⟨rfl, nv_X4_accepts⟩ ⟨by decide, by decide⟩ rfl (bl rfl) dX4_readsInput_5) 8 rfl (fun x1 => ?_)
  refine s_cut (J := 25) (LJ := (fun (v2 : Int32) => [(0, .ref a0)])) (SJ := (fun (v2 : Int32) => [.int v2])) (fun v2 => ?_) (fun _ _ hK3 => ?_)
  · refine s_istore_n C dX4_readsInput_25 rfl (by decide) 26 rfl [(1, .int v2), (0, .ref a0)] rfl ?_
    refine s_aload_n C dX4_readsInput_26 27 rfl 1 rfl ?_
    refine s_aload_n C dX4_readsInput_27 28 rfl 1 rfl ?_
    refine s_getI C hR fd_PatchCordsModel_number (Or.inl q1823) dX4_readsInput_28 31 rfl (fun x5 => ?_)
    refine s_put C hR hA fd_PatchCordsModel_inputRead (Or.inl q1827) dX4_readsInput_31 rfl rfl 34 rfl ?_
    refine s_iload_n C dX4_readsInput_34 35 rfl 0 rfl ?_
    refine s_zb (fun h => ?_)
    exact s_iret C rfl (s_zn h) dX4_readsInput_35
  · refine s_if_eq C dX4_readsInput_8 24 11 (by decide) rfl ?_ ?_
    · refine s_iconst (v := 0) C dX4_readsInput_24 (by decide) 25 rfl ?_
      refine s_r ?_
      refine s_lv [0] rfl ?_
      exact hK3 0
    · refine s_aload_n C dX4_readsInput_11 12 rfl 0 rfl ?_
      refine s_iconst (v := 0) C dX4_readsInput_12 (by decide) 13 rfl ?_
      refine s_iconst (v := 3) C dX4_readsInput_13 (by decide) 14 rfl ?_
      refine s_call_i (rn_V (As := [.int 0, .int 3]) C (ct_at hR hA (ct_on (ct_X4_readsNumber g TA a0 0 3))) (rv_on C hR (q := vw_12) rfl) (lw_V q2322 q2324 qs91 q112 q2325) ⟨rfl, nv_X4_readsNumber⟩ ⟨by decide, by decide⟩ rfl (bl rfl) dX4_readsInput_14) 17 rfl (fun x4 => ?_)
      refine s_if_eq C dX4_readsInput_17 24 20 (by decide) rfl ?_ ?_
      · refine s_iconst (v := 0) C dX4_readsInput_24 (by decide) 25 rfl ?_
        refine s_r ?_
        refine s_lv [0] rfl ?_
        exact hK3 0
      · refine s_iconst (v := 1) C dX4_readsInput_20 (by decide) 21 rfl ?_
        refine s_goto C dX4_readsInput_21 25 (by decide) ?_
        refine s_r ?_
        refine s_lv [0] rfl ?_
        exact hK3 1
theorem nv_X4_readsJoin : yX4_readsJoin.cls ≠ "java/lang/invoke/MethodHandle" ∧ yX4_readsJoin.cls ≠ "java/lang/invoke/VarHandle" ∧ (parseMethodDescriptor yX4_readsJoin.desc).map (fun d => d.parameters.length) = some 0 := by decide +kernel
theorem ct_X4_readsJoin {l : Launch} (g : sm_G) (TA : Nat → Prop) (a0 : Nat) : sm_CT l g (so_R g TA) (so_A g TA) yX4_readsJoin cX4_readsJoin 1 (some .boolean) 4 88 [.ref a0] em_i (f_X4_readsJoin g a0) := by
  refine sm_of (own := "PatchCordsModel") rfl rfl (bl rfl) (fun Y C hR hA hl hm => ?_)
  subst hl
  refine s_lv (L' := [(0, .ref a0)]) [0] rfl ?_
  refine s_top ?_
  unfold f_X4_readsJoin
  refine s_aload_n C dX4_readsJoin_0 1 rfl 0 rfl ?_
  refine s_call_i (rn_V (As := []) C (ct_at hR hA (ct_on (ct_X4_readsModule g TA a0))) (rv_on C hR (q := vw_12) rfl) (lw_V q2330 q2332 qs93 q112 q2333) ⟨rfl, nv_X4_readsModule⟩ ⟨by decide, by decide⟩ rfl (bl rfl) dX4_readsJoin_1) 4 rfl (fun x1 => ?_)
  refine s_if_eq C dX4_readsJoin_4 28 7 (by decide) rfl ?_ ?_
  · refine s_iconst (v := 0) C dX4_readsJoin_28 (by decide) 29 rfl ?_
    exact s_iret C rfl rfl dX4_readsJoin_29
  · refine s_aload_n C dX4_readsJoin_7 8 rfl 0 rfl ?_
    refine s_bipush (v := 62) C dX4_readsJoin_8 (by decide) 10 rfl ?_
    refine s_bipush (v := 62) C dX4_readsJoin_10 (by decide) 12 rfl ?_
    refine s_call_i (rn_V (As := [.int 62, .int 62]) C (ct_at hR hA (ct_on (ct_X4_accepts g TA a0 62 62))) (rv_on C hR (q := vw_12) rfl) (lw_V q2326 q2328 qs92 q112 q2329) ⟨rfl, nv_X4_accepts⟩ ⟨by decide, by decide⟩ rfl (bl rfl) dX4_readsJoin_12) 15 rfl (fun x2 => ?_)
    refine s_if_eq C dX4_readsJoin_15 28 18 (by decide) rfl ?_ ?_
    · refine s_iconst (v := 0) C dX4_readsJoin_28 (by decide) 29 rfl ?_
      exact s_iret C rfl rfl dX4_readsJoin_29
    · refine s_aload_n C dX4_readsJoin_18 19 rfl 0 rfl ?_
      refine s_iconst (v := 0) C dX4_readsJoin_19 (by decide) 20 rfl ?_
      refine s_bipush (v := 15) C dX4_readsJoin_20 (by decide) 22 rfl ?_
      refine s_call_i (rn_V (As := [.int 0, .int 15]) C (ct_at hR hA (ct_on (ct_X4_readsNumber g TA a0 0 15))) (rv_on C hR (q := vw_12) rfl) (lw_V q2322 q2324 qs91 q112 q2325) ⟨rfl, nv_X4_readsNumber⟩ ⟨by decide, by decide⟩ rfl (bl rfl) dX4_readsJoin_22) 25 rfl (fun x3 => ?_)
      refine s_if_ne C dX4_readsJoin_25 30 28 (by decide) rfl ?_ ?_
      · refine s_iconst (v := 0) C dX4_readsJoin_28 (by decide) 29 rfl ?_
        exact s_iret C rfl rfl dX4_readsJoin_29
      · refine s_aload_n C dX4_readsJoin_30 31 rfl 0 rfl ?_
        refine s_aload_n C dX4_readsJoin_31 32 rfl 0 rfl ?_
        refine s_getI C hR fd_PatchCordsModel_number (Or.inl q1823) dX4_readsJoin_32 35 rfl (fun x4 => ?_)
        refine s_put C hR hA fd_PatchCordsModel_other (Or.inl q1826) dX4_readsJoin_35 rfl rfl 38 rfl ?_
        refine s_aload_n C dX4_readsJoin_38 39 rfl 0 rfl ?_
        refine s_call_i (rn_V (As := []) C (ct_at hR hA (ct_on (ct_X4_readsInput g TA a0))) (rv_on C hR (q := vw_12) rfl) (lw_V q2334 q2336 qs94 q112 q2337) ⟨rfl, nv_X4_readsInput⟩ ⟨by decide, by decide⟩ rfl (bl rfl) dX4_readsJoin_39) 42 rfl (fun x5 => ?_)
        refine s_zb (fun h => ?_)
        exact s_iret C rfl (s_zn h) dX4_readsJoin_42
theorem nv_X4_readsVoltage : yX4_readsVoltage.cls ≠ "java/lang/invoke/MethodHandle" ∧ yX4_readsVoltage.cls ≠ "java/lang/invoke/VarHandle" ∧ (parseMethodDescriptor yX4_readsVoltage.desc).map (fun d => d.parameters.length) = some 0 := by decide +kernel
theorem ct_X4_readsVoltage {l : Launch} (g : sm_G) (TA : Nat → Prop) (a0 : Nat) : sm_CT l g (so_R g TA) (so_A g TA) yX4_readsVoltage cX4_readsVoltage 3 (some .boolean) 3 67 [.ref a0] em_i (f_X4_readsVoltage g a0) := by
  refine sm_of (own := "PatchCordsModel") rfl rfl (bl rfl) (fun Y C hR hA hl hm => ?_)
  subst hl
  refine s_lv (L' := [(0, .ref a0)]) [0] rfl ?_
  refine s_top ?_
  unfold f_X4_readsVoltage
  refine s_aload_n C dX4_readsVoltage_0 1 rfl 0 rfl ?_
  refine s_bipush (v := 45) C dX4_readsVoltage_1 (by decide) 3 rfl ?_
  refine s_bipush (v := 45) C dX4_readsVoltage_3 (by decide) 5 rfl ?_
  refine s_call_i (rn_V (As := [.int 45, .int 45]) C (ct_at hR hA (ct_on (ct_X4_accepts g TA a0 45 45))) (rv_on C hR (q := vw_12) rfl) (lw_V q2326 q2328 qs92 q112 q2329) ⟨rfl, nv_X4_accepts⟩ ⟨by decide, by decide⟩ rfl (bl rfl) dX4_readsVoltage_5) 8 rfl (fun x1 => ?_)
  refine s_istore_n C dX4_readsVoltage_8 rfl (by decide) 9 rfl [(1, .int x1), (0, .ref a0)] rfl ?_
  refine s_aload_n C dX4_readsVoltage_9 10 rfl 1 rfl ?_
  refine s_iconst (v := 0) C dX4_readsVoltage_10 (by decide) 11 rfl ?_
  refine s_sipush (v := 10000) C dX4_readsVoltage_11 (by decide) 14 rfl ?_
  refine s_call_i (rn_V (As := [.int 0, .int 10000]) C (ct_at hR hA (ct_on (ct_X4_readsNumber g TA a0 0 10000))) (rv_on C hR (q := vw_12) rfl) (lw_V q2322 q2324 qs91 q112 q2325) ⟨rfl, nv_X4_readsNumber⟩ ⟨by decide, by decide⟩ rfl (bl rfl) dX4_readsVoltage_14) 17 rfl (fun x2 => ?_)
  refine s_istore_n C dX4_readsVoltage_17 rfl (by decide) 18 rfl [(2, .int x2), (1, .int x1), (0, .ref a0)] rfl ?_
  refine s_aload_n C dX4_readsVoltage_18 19 rfl 2 rfl ?_
  refine s_iload_n C dX4_readsVoltage_19 20 rfl 1 rfl ?_
  refine s_cut (J := 35) (LJ := (fun (v3 : Int32) => [(2, .int x2)])) (SJ := (fun (v3 : Int32) => [.int v3, .ref a0])) (fun v3 => ?_) (fun _ _ hK4 => ?_)
  · refine s_put C hR hA fd_PatchCordsModel_number (Or.inl q1823) dX4_readsVoltage_35 rfl rfl 38 rfl ?_
    refine s_iload_n C dX4_readsVoltage_38 39 rfl 0 rfl ?_
    refine s_zb (fun h => ?_)
    exact s_iret C rfl (s_zn h) dX4_readsVoltage_39
  · refine s_if_eq C dX4_readsVoltage_20 31 23 (by decide) rfl ?_ ?_
    · refine s_aload_n C dX4_readsVoltage_31 32 rfl 2 rfl ?_
      refine s_getI C hR fd_PatchCordsModel_number (Or.inl q1823) dX4_readsVoltage_32 35 rfl (fun x5 => ?_)
      refine s_r ?_
      refine s_lv [0] rfl ?_
      exact hK4 x5
    · refine s_aload_n C dX4_readsVoltage_23 24 rfl 2 rfl ?_
      refine s_getI C hR fd_PatchCordsModel_number (Or.inl q1823) dX4_readsVoltage_24 27 rfl (fun x6 => ?_)
      refine s_ineg C dX4_readsVoltage_27 28 rfl ?_
      refine s_goto C dX4_readsVoltage_28 35 (by decide) ?_
      refine s_r ?_
      refine s_lv [0] rfl ?_
      exact hK4 (-x6)
theorem nv_X4_readsItem : yX4_readsItem.cls ≠ "java/lang/invoke/MethodHandle" ∧ yX4_readsItem.cls ≠ "java/lang/invoke/VarHandle" ∧ (parseMethodDescriptor yX4_readsItem.desc).map (fun d => d.parameters.length) = some 0 := by decide +kernel
theorem ct_X4_readsItem {l : Launch} (g : sm_G) (TA : Nat → Prop) (a0 : Nat) : sm_CT l g (so_R g TA) (so_A g TA) yX4_readsItem cX4_readsItem 1 (some .boolean) 5 108 [.ref a0] em_i (f_X4_readsItem g a0) := by
  refine sm_of (own := "PatchCordsModel") rfl rfl (bl rfl) (fun Y C hR hA hl hm => ?_)
  subst hl
  refine s_lv (L' := [(0, .ref a0)]) [0] rfl ?_
  refine s_top ?_
  unfold f_X4_readsItem
  refine s_aload_n C dX4_readsItem_0 1 rfl 0 rfl ?_
  refine s_aload_n C dX4_readsItem_1 2 rfl 0 rfl ?_
  refine s_getI C hR fd_PatchCordsModel_reading (Or.inl q1822) dX4_readsItem_2 5 rfl (fun x1 => ?_)
  refine s_aload_n C dX4_readsItem_5 6 rfl 0 rfl ?_
  refine s_getI C hR fd_PatchCordsModel_textLength (Or.inl q1821) dX4_readsItem_6 9 rfl (fun x2 => ?_)
  refine s_cut (J := 25) (LJ := (fun (v3 : Int32) => [(0, .ref a0)])) (SJ := (fun (v3 : Int32) => [.int v3, .ref a0])) (fun v3 => ?_) (fun _ _ hK4 => ?_)
  · refine s_put C hR hA fd_PatchCordsModel_item (Or.inl q1824) dX4_readsItem_25 rfl rfl 28 rfl ?_
    refine s_aload_n C dX4_readsItem_28 29 rfl 0 rfl ?_
    refine s_getI C hR fd_PatchCordsModel_item (Or.inl q1824) dX4_readsItem_29 32 rfl (fun x8 => ?_)
    refine s_bipush (v := 110) C dX4_readsItem_32 (by decide) 34 rfl ?_
    refine s_cut (J := 92) (LJ := (fun (v9 : Unit) => [(0, .ref a0)])) (SJ := (fun (v9 : Unit) => [])) (fun v9 => ?_) (fun _ _ hK10 => ?_)
    · refine s_aload_n C dX4_readsItem_92 93 rfl 0 rfl ?_
      refine s_getI C hR fd_PatchCordsModel_item (Or.inl q1824) dX4_readsItem_93 96 rfl (fun x20 => ?_)
      refine s_bipush (v := 110) C dX4_readsItem_96 (by decide) 98 rfl ?_
      refine s_cut (J := 253) (LJ := (fun (v21 : Int32) => [])) (SJ := (fun (v21 : Int32) => [.int v21])) (fun v21 => ?_) (fun _ _ hK22 => ?_)
      · refine s_zb (fun h => ?_)
        exact s_iret C rfl (s_zn h) dX4_readsItem_253
      · refine s_icmp_ne C dX4_readsItem_98 110 101 (by decide) rfl ?_ ?_
        · refine s_aload_n C dX4_readsItem_101 102 rfl 0 rfl ?_
          refine s_iconst (v := 0) C dX4_readsItem_102 (by decide) 103 rfl ?_
          refine s_iconst (v := 5) C dX4_readsItem_103 (by decide) 104 rfl ?_
          refine s_call_i (rn_V (As := [.int 0, .int 5]) C (ct_at hR hA (ct_on (ct_X4_readsNumber g TA a0 0 5))) (rv_on C hR (q := vw_12) rfl) (lw_V q2322 q2324 qs91 q112 q2325) ⟨rfl, nv_X4_readsNumber⟩ ⟨by decide, by decide⟩ rfl (bl rfl) dX4_readsItem_104) 107 rfl (fun x37 => ?_)
          refine s_goto C dX4_readsItem_107 253 (by decide) ?_
          refine s_r ?_
          refine s_lv [] rfl ?_
          exact hK22 x37
        · refine s_aload_n C dX4_readsItem_110 111 rfl 0 rfl ?_
          refine s_getI C hR fd_PatchCordsModel_item (Or.inl q1824) dX4_readsItem_111 114 rfl (fun x23 => ?_)
          refine s_bipush (v := 43) C dX4_readsItem_114 (by decide) 116 rfl ?_
          refine s_icmp_ne C dX4_readsItem_116 130 119 (by decide) rfl ?_ ?_
          · refine s_aload_n C dX4_readsItem_119 120 rfl 0 rfl ?_
            refine s_iconst (v := 1) C dX4_readsItem_120 (by decide) 121 rfl ?_
            refine s_sipush (v := 999) C dX4_readsItem_121 (by decide) 124 rfl ?_
            refine s_call_i (rn_V (As := [.int 1, .int 999]) C (ct_at hR hA (ct_on (ct_X4_readsNumber g TA a0 1 999))) (rv_on C hR (q := vw_12) rfl) (lw_V q2322 q2324 qs91 q112 q2325) ⟨rfl, nv_X4_readsNumber⟩ ⟨by decide, by decide⟩ rfl (bl rfl) dX4_readsItem_124) 127 rfl (fun x36 => ?_)
            refine s_goto C dX4_readsItem_127 253 (by decide) ?_
            refine s_r ?_
            refine s_lv [] rfl ?_
            exact hK22 x36
          · refine s_aload_n C dX4_readsItem_130 131 rfl 0 rfl ?_
            refine s_getI C hR fd_PatchCordsModel_item (Or.inl q1824) dX4_readsItem_131 134 rfl (fun x24 => ?_)
            refine s_bipush (v := 120) C dX4_readsItem_134 (by decide) 136 rfl ?_
            refine s_icmp_ne C dX4_readsItem_136 161 139 (by decide) rfl ?_ ?_
            · refine s_aload_n C dX4_readsItem_139 140 rfl 0 rfl ?_
              refine s_call_i (rn_V (As := []) C (ct_at hR hA (ct_on (ct_X4_readsModule g TA a0))) (rv_on C hR (q := vw_12) rfl) (lw_V q2330 q2332 qs93 q112 q2333) ⟨rfl, nv_X4_readsModule⟩ ⟨by decide, by decide⟩ rfl (bl rfl) dX4_readsItem_140) 143 rfl (fun x34 => ?_)
              refine s_if_eq C dX4_readsItem_143 157 146 (by decide) rfl ?_ ?_
              · refine s_iconst (v := 0) C dX4_readsItem_157 (by decide) 158 rfl ?_
                refine s_goto C dX4_readsItem_158 253 (by decide) ?_
                refine s_r ?_
                refine s_lv [] rfl ?_
                exact hK22 0
              · refine s_aload_n C dX4_readsItem_146 147 rfl 0 rfl ?_
                refine s_call_i (rn_V (As := []) C (ct_at hR hA (ct_on (ct_X4_readsInput g TA a0))) (rv_on C hR (q := vw_12) rfl) (lw_V q2334 q2336 qs94 q112 q2337) ⟨rfl, nv_X4_readsInput⟩ ⟨by decide, by decide⟩ rfl (bl rfl) dX4_readsItem_147) 150 rfl (fun x35 => ?_)
                refine s_if_eq C dX4_readsItem_150 157 153 (by decide) rfl ?_ ?_
                · refine s_iconst (v := 0) C dX4_readsItem_157 (by decide) 158 rfl ?_
                  refine s_goto C dX4_readsItem_158 253 (by decide) ?_
                  refine s_r ?_
                  refine s_lv [] rfl ?_
                  exact hK22 0
                · refine s_iconst (v := 1) C dX4_readsItem_153 (by decide) 154 rfl ?_
                  refine s_goto C dX4_readsItem_154 253 (by decide) ?_
                  refine s_r ?_
                  refine s_lv [] rfl ?_
                  exact hK22 1
            · refine s_aload_n C dX4_readsItem_161 162 rfl 0 rfl ?_
              refine s_getI C hR fd_PatchCordsModel_item (Or.inl q1824) dX4_readsItem_162 165 rfl (fun x25 => ?_)
              refine s_bipush (v := 118) C dX4_readsItem_165 (by decide) 167 rfl ?_
              refine s_icmp_ne C dX4_readsItem_167 203 170 (by decide) rfl ?_ ?_
              · refine s_aload_n C dX4_readsItem_170 171 rfl 0 rfl ?_
                refine s_call_i (rn_V (As := []) C (ct_at hR hA (ct_on (ct_X4_readsModule g TA a0))) (rv_on C hR (q := vw_12) rfl) (lw_V q2330 q2332 qs93 q112 q2333) ⟨rfl, nv_X4_readsModule⟩ ⟨by decide, by decide⟩ rfl (bl rfl) dX4_readsItem_171) 174 rfl (fun x31 => ?_)
                refine s_if_eq C dX4_readsItem_174 199 177 (by decide) rfl ?_ ?_
                · refine s_iconst (v := 0) C dX4_readsItem_199 (by decide) 200 rfl ?_
                  refine s_goto C dX4_readsItem_200 253 (by decide) ?_
                  refine s_r ?_
                  refine s_lv [] rfl ?_
                  exact hK22 0
                · refine s_aload_n C dX4_readsItem_177 178 rfl 0 rfl ?_
                  refine s_bipush (v := 58) C dX4_readsItem_178 (by decide) 180 rfl ?_
                  refine s_bipush (v := 58) C dX4_readsItem_180 (by decide) 182 rfl ?_
                  refine s_call_i (rn_V (As := [.int 58, .int 58]) C (ct_at hR hA (ct_on (ct_X4_accepts g TA a0 58 58))) (rv_on C hR (q := vw_12) rfl) (lw_V q2326 q2328 qs92 q112 q2329) ⟨rfl, nv_X4_accepts⟩ ⟨by decide, by decide⟩ rfl (bl rfl) dX4_readsItem_182) 185 rfl (fun x32 => ?_)
                  refine s_if_eq C dX4_readsItem_185 199 188 (by decide) rfl ?_ ?_
                  · refine s_iconst (v := 0) C dX4_readsItem_199 (by decide) 200 rfl ?_
                    refine s_goto C dX4_readsItem_200 253 (by decide) ?_
                    refine s_r ?_
                    refine s_lv [] rfl ?_
                    exact hK22 0
                  · refine s_aload_n C dX4_readsItem_188 189 rfl 0 rfl ?_
                    refine s_call_i (rn_V (As := []) C (ct_at hR hA (ct_on (ct_X4_readsVoltage g TA a0))) (rv_on C hR (q := vw_12) rfl) (lw_V q2338 q2340 qs95 q112 q2341) ⟨rfl, nv_X4_readsVoltage⟩ ⟨by decide, by decide⟩ rfl (bl rfl) dX4_readsItem_189) 192 rfl (fun x33 => ?_)
                    refine s_if_eq C dX4_readsItem_192 199 195 (by decide) rfl ?_ ?_
                    · refine s_iconst (v := 0) C dX4_readsItem_199 (by decide) 200 rfl ?_
                      refine s_goto C dX4_readsItem_200 253 (by decide) ?_
                      refine s_r ?_
                      refine s_lv [] rfl ?_
                      exact hK22 0
                    · refine s_iconst (v := 1) C dX4_readsItem_195 (by decide) 196 rfl ?_
                      refine s_goto C dX4_readsItem_196 253 (by decide) ?_
                      refine s_r ?_
                      refine s_lv [] rfl ?_
                      exact hK22 1
              · refine s_aload_n C dX4_readsItem_203 204 rfl 0 rfl ?_
                refine s_getI C hR fd_PatchCordsModel_item (Or.inl q1824) dX4_readsItem_204 207 rfl (fun x26 => ?_)
                refine s_bipush (v := 102) C dX4_readsItem_207 (by decide) 209 rfl ?_
                refine s_icmp_ne C dX4_readsItem_209 249 212 (by decide) rfl ?_ ?_
                · refine s_aload_n C dX4_readsItem_212 213 rfl 0 rfl ?_
                  refine s_call_i (rn_V (As := []) C (ct_at hR hA (ct_on (ct_X4_readsModule g TA a0))) (rv_on C hR (q := vw_12) rfl) (lw_V q2330 q2332 qs93 q112 q2333) ⟨rfl, nv_X4_readsModule⟩ ⟨by decide, by decide⟩ rfl (bl rfl) dX4_readsItem_213) 216 rfl (fun x28 => ?_)
                  refine s_if_eq C dX4_readsItem_216 245 219 (by decide) rfl ?_ ?_
                  · refine s_iconst (v := 0) C dX4_readsItem_245 (by decide) 246 rfl ?_
                    refine s_goto C dX4_readsItem_246 253 (by decide) ?_
                    refine s_r ?_
                    refine s_lv [] rfl ?_
                    exact hK22 0
                  · refine s_aload_n C dX4_readsItem_219 220 rfl 0 rfl ?_
                    refine s_bipush (v := 58) C dX4_readsItem_220 (by decide) 222 rfl ?_
                    refine s_bipush (v := 58) C dX4_readsItem_222 (by decide) 224 rfl ?_
                    refine s_call_i (rn_V (As := [.int 58, .int 58]) C (ct_at hR hA (ct_on (ct_X4_accepts g TA a0 58 58))) (rv_on C hR (q := vw_12) rfl) (lw_V q2326 q2328 qs92 q112 q2329) ⟨rfl, nv_X4_accepts⟩ ⟨by decide, by decide⟩ rfl (bl rfl) dX4_readsItem_224) 227 rfl (fun x29 => ?_)
                    refine s_if_eq C dX4_readsItem_227 245 230 (by decide) rfl ?_ ?_
                    · refine s_iconst (v := 0) C dX4_readsItem_245 (by decide) 246 rfl ?_
                      refine s_goto C dX4_readsItem_246 253 (by decide) ?_
                      refine s_r ?_
                      refine s_lv [] rfl ?_
                      exact hK22 0
                    · refine s_aload_n C dX4_readsItem_230 231 rfl 0 rfl ?_
                      refine s_iconst (v := 0) C dX4_readsItem_231 (by decide) 232 rfl ?_
                      refine s_sipush (v := 1000) C dX4_readsItem_232 (by decide) 235 rfl ?_
                      refine s_call_i (rn_V (As := [.int 0, .int 1000]) C (ct_at hR hA (ct_on (ct_X4_readsNumber g TA a0 0 1000))) (rv_on C hR (q := vw_12) rfl) (lw_V q2322 q2324 qs91 q112 q2325) ⟨rfl, nv_X4_readsNumber⟩ ⟨by decide, by decide⟩ rfl (bl rfl) dX4_readsItem_235) 238 rfl (fun x30 => ?_)
                      refine s_if_eq C dX4_readsItem_238 245 241 (by decide) rfl ?_ ?_
                      · refine s_iconst (v := 0) C dX4_readsItem_245 (by decide) 246 rfl ?_
                        refine s_goto C dX4_readsItem_246 253 (by decide) ?_
                        refine s_r ?_
                        refine s_lv [] rfl ?_
                        exact hK22 0
                      · refine s_iconst (v := 1) C dX4_readsItem_241 (by decide) 242 rfl ?_
                        refine s_goto C dX4_readsItem_242 253 (by decide) ?_
                        refine s_r ?_
                        refine s_lv [] rfl ?_
                        exact hK22 1
                · refine s_aload_n C dX4_readsItem_249 250 rfl 0 rfl ?_
                  refine s_call_i (rn_V (As := []) C (ct_at hR hA (ct_on (ct_X4_readsJoin g TA a0))) (rv_on C hR (q := vw_12) rfl) (lw_V q2342 q2344 qs96 q112 q2345) ⟨rfl, nv_X4_readsJoin⟩ ⟨by decide, by decide⟩ rfl (bl rfl) dX4_readsItem_250) 253 rfl (fun x27 => ?_)
                  refine s_r ?_
                  refine s_lv [] rfl ?_
                  exact hK22 x27
    · refine s_icmp_eq C dX4_readsItem_34 73 37 (by decide) rfl ?_ ?_
      · refine s_aload_n C dX4_readsItem_73 74 rfl 0 rfl ?_
        refine s_dup C dX4_readsItem_74 rfl 75 rfl ?_
        refine s_getI C hR fd_PatchCordsModel_reading (Or.inl q1822) dX4_readsItem_75 78 rfl (fun x11 => ?_)
        refine s_iconst (v := 1) C dX4_readsItem_78 (by decide) 79 rfl ?_
        refine s_iadd C dX4_readsItem_79 80 rfl ?_
        refine s_put C hR hA fd_PatchCordsModel_reading (Or.inl q1822) dX4_readsItem_80 rfl rfl 83 rfl ?_
        refine s_goto C dX4_readsItem_83 92 (by decide) ?_
        refine s_r ?_
        refine s_lv [0] rfl ?_
        exact hK10 ()
      · refine s_aload_n C dX4_readsItem_37 38 rfl 0 rfl ?_
        refine s_getI C hR fd_PatchCordsModel_item (Or.inl q1824) dX4_readsItem_38 41 rfl (fun x12 => ?_)
        refine s_bipush (v := 120) C dX4_readsItem_41 (by decide) 43 rfl ?_
        refine s_icmp_eq C dX4_readsItem_43 73 46 (by decide) rfl ?_ ?_
        · refine s_aload_n C dX4_readsItem_73 74 rfl 0 rfl ?_
          refine s_dup C dX4_readsItem_74 rfl 75 rfl ?_
          refine s_getI C hR fd_PatchCordsModel_reading (Or.inl q1822) dX4_readsItem_75 78 rfl (fun x13 => ?_)
          refine s_iconst (v := 1) C dX4_readsItem_78 (by decide) 79 rfl ?_
          refine s_iadd C dX4_readsItem_79 80 rfl ?_
          refine s_put C hR hA fd_PatchCordsModel_reading (Or.inl q1822) dX4_readsItem_80 rfl rfl 83 rfl ?_
          refine s_goto C dX4_readsItem_83 92 (by decide) ?_
          refine s_r ?_
          refine s_lv [0] rfl ?_
          exact hK10 ()
        · refine s_aload_n C dX4_readsItem_46 47 rfl 0 rfl ?_
          refine s_getI C hR fd_PatchCordsModel_item (Or.inl q1824) dX4_readsItem_47 50 rfl (fun x14 => ?_)
          refine s_bipush (v := 118) C dX4_readsItem_50 (by decide) 52 rfl ?_
          refine s_icmp_eq C dX4_readsItem_52 73 55 (by decide) rfl ?_ ?_
          · refine s_aload_n C dX4_readsItem_73 74 rfl 0 rfl ?_
            refine s_dup C dX4_readsItem_74 rfl 75 rfl ?_
            refine s_getI C hR fd_PatchCordsModel_reading (Or.inl q1822) dX4_readsItem_75 78 rfl (fun x15 => ?_)
            refine s_iconst (v := 1) C dX4_readsItem_78 (by decide) 79 rfl ?_
            refine s_iadd C dX4_readsItem_79 80 rfl ?_
            refine s_put C hR hA fd_PatchCordsModel_reading (Or.inl q1822) dX4_readsItem_80 rfl rfl 83 rfl ?_
            refine s_goto C dX4_readsItem_83 92 (by decide) ?_
            refine s_r ?_
            refine s_lv [0] rfl ?_
            exact hK10 ()
          · refine s_aload_n C dX4_readsItem_55 56 rfl 0 rfl ?_
            refine s_getI C hR fd_PatchCordsModel_item (Or.inl q1824) dX4_readsItem_56 59 rfl (fun x16 => ?_)
            refine s_bipush (v := 102) C dX4_readsItem_59 (by decide) 61 rfl ?_
            refine s_icmp_eq C dX4_readsItem_61 73 64 (by decide) rfl ?_ ?_
            · refine s_aload_n C dX4_readsItem_73 74 rfl 0 rfl ?_
              refine s_dup C dX4_readsItem_74 rfl 75 rfl ?_
              refine s_getI C hR fd_PatchCordsModel_reading (Or.inl q1822) dX4_readsItem_75 78 rfl (fun x17 => ?_)
              refine s_iconst (v := 1) C dX4_readsItem_78 (by decide) 79 rfl ?_
              refine s_iadd C dX4_readsItem_79 80 rfl ?_
              refine s_put C hR hA fd_PatchCordsModel_reading (Or.inl q1822) dX4_readsItem_80 rfl rfl 83 rfl ?_
              refine s_goto C dX4_readsItem_83 92 (by decide) ?_
              refine s_r ?_
              refine s_lv [0] rfl ?_
              exact hK10 ()
            · refine s_aload_n C dX4_readsItem_64 65 rfl 0 rfl ?_
              refine s_getI C hR fd_PatchCordsModel_item (Or.inl q1824) dX4_readsItem_65 68 rfl (fun x18 => ?_)
              refine s_bipush (v := 43) C dX4_readsItem_68 (by decide) 70 rfl ?_
              refine s_icmp_ne C dX4_readsItem_70 86 73 (by decide) rfl ?_ ?_
              · refine s_aload_n C dX4_readsItem_73 74 rfl 0 rfl ?_
                refine s_dup C dX4_readsItem_74 rfl 75 rfl ?_
                refine s_getI C hR fd_PatchCordsModel_reading (Or.inl q1822) dX4_readsItem_75 78 rfl (fun x19 => ?_)
                refine s_iconst (v := 1) C dX4_readsItem_78 (by decide) 79 rfl ?_
                refine s_iadd C dX4_readsItem_79 80 rfl ?_
                refine s_put C hR hA fd_PatchCordsModel_reading (Or.inl q1822) dX4_readsItem_80 rfl rfl 83 rfl ?_
                refine s_goto C dX4_readsItem_83 92 (by decide) ?_
                refine s_r ?_
                refine s_lv [0] rfl ?_
                exact hK10 ()
              · refine s_aload_n C dX4_readsItem_86 87 rfl 0 rfl ?_
                refine s_bipush (v := 62) C dX4_readsItem_87 (by decide) 89 rfl ?_
                refine s_put C hR hA fd_PatchCordsModel_item (Or.inl q1824) dX4_readsItem_89 rfl rfl 92 rfl ?_
                refine s_r ?_
                refine s_lv [0] rfl ?_
                exact hK10 ()
  · refine s_icmp_ge C dX4_readsItem_9 24 12 (by decide) rfl ?_ ?_
    · refine s_iconst (v := (-1)) C dX4_readsItem_24 (by decide) 25 rfl ?_
      refine s_r ?_
      refine s_lv [0] rfl ?_
      exact hK4 (-1)
    · refine s_aload_n C dX4_readsItem_12 13 rfl 0 rfl ?_
      refine s_getR C hR fd_PatchCordsModel_text (Or.inl q1820) dX4_readsItem_13 16 rfl (fun x5 => ?_)
      refine s_aload_n C dX4_readsItem_16 17 rfl 0 rfl ?_
      refine s_getI C hR fd_PatchCordsModel_reading (Or.inl q1822) dX4_readsItem_17 20 rfl (fun x6 => ?_)
      refine s_iald C hR dX4_readsItem_20 21 rfl (fun x7 => ?_)
      refine s_goto C dX4_readsItem_21 25 (by decide) ?_
      refine s_r ?_
      refine s_lv [0] rfl ?_
      exact hK4 x7
theorem nv_X4_findError : yX4_findError.cls ≠ "java/lang/invoke/MethodHandle" ∧ yX4_findError.cls ≠ "java/lang/invoke/VarHandle" ∧ (parseMethodDescriptor yX4_findError.desc).map (fun d => d.parameters.length) = some 0 := by decide +kernel
theorem ct_X4_findError {l : Launch} (g : sm_G) (TA : Nat → Prop) (a0 : Nat) : sm_CT l g (so_R g TA) (so_A g TA) yX4_findError cX4_findError 1 (some .int) 6 128 [.ref a0] em_i (f_X4_findError g a0) := by
  refine sm_of (own := "PatchCordsModel") rfl rfl (bl rfl) (fun Y C hR hA hl hm => ?_)
  subst hl
  refine s_lv (L' := [(0, .ref a0)]) [0] rfl ?_
  refine s_top ?_
  unfold f_X4_findError
  refine s_aload_n C dX4_findError_0 1 rfl 0 rfl ?_
  refine s_iconst (v := 0) C dX4_findError_1 (by decide) 2 rfl ?_
  refine s_put C hR hA fd_PatchCordsModel_reading (Or.inl q1822) dX4_findError_2 rfl rfl 5 rfl ?_
  refine s_lv [0] rfl ?_
  refine s_loop3 (fun (s1 : Unit) => [(0, .ref a0)]) (fun (v11 : Unit) => [(0, .ref a0)]) (fun (v13 : Unit) => []) (fun (v14 : Unit) => [(0, .ref a0)]) 12 28 44 () rfl (fun v11 => ?_) (fun v13 => ?_) (fun v14 => ?_) (fun _ s1 hk2 hx30 hx31 hx32 => ?_)
  · refine s_aload_n C dX4_findError_12 13 rfl 0 rfl ?_
    refine s_getI C hR fd_PatchCordsModel_reading (Or.inl q1822) dX4_findError_13 16 rfl (fun x12 => ?_)
    exact s_iret C rfl rfl dX4_findError_16
  · refine s_iconst (v := (-1)) C dX4_findError_28 (by decide) 29 rfl ?_
    exact s_iret C rfl rfl dX4_findError_29
  · refine s_aload_n C dX4_findError_44 45 rfl 0 rfl ?_
    refine s_getI C hR fd_PatchCordsModel_reading (Or.inl q1822) dX4_findError_45 48 rfl (fun x15 => ?_)
    exact s_iret C rfl rfl dX4_findError_48
  · refine s_aload_n C dX4_findError_5 6 rfl 0 rfl ?_
    refine s_call_i (rn_V (As := []) C (ct_at hR hA (ct_on (ct_X4_readsItem g TA a0))) (rv_on C hR (q := vw_12) rfl) (lw_V q2318 q2320 qs90 q112 q2321) ⟨rfl, nv_X4_readsItem⟩ ⟨by decide, by decide⟩ rfl (bl rfl) dX4_findError_6) 9 rfl (fun x4 => ?_)
    refine s_if_ne C dX4_findError_9 17 12 (by decide) rfl ?_ ?_
    · refine s_r ?_
      refine s_lv [0] rfl ?_
      exact hx30 ()
    · refine s_aload_n C dX4_findError_17 18 rfl 0 rfl ?_
      refine s_getI C hR fd_PatchCordsModel_reading (Or.inl q1822) dX4_findError_18 21 rfl (fun x5 => ?_)
      refine s_aload_n C dX4_findError_21 22 rfl 0 rfl ?_
      refine s_getI C hR fd_PatchCordsModel_textLength (Or.inl q1821) dX4_findError_22 25 rfl (fun x6 => ?_)
      refine s_icmp_ne C dX4_findError_25 30 28 (by decide) rfl ?_ ?_
      · refine s_r ?_
        refine s_lv [] rfl ?_
        exact hx31 ()
      · refine s_aload_n C dX4_findError_30 31 rfl 0 rfl ?_
        refine s_getR C hR fd_PatchCordsModel_text (Or.inl q1820) dX4_findError_31 34 rfl (fun x7 => ?_)
        refine s_aload_n C dX4_findError_34 35 rfl 0 rfl ?_
        refine s_getI C hR fd_PatchCordsModel_reading (Or.inl q1822) dX4_findError_35 38 rfl (fun x8 => ?_)
        refine s_iald C hR dX4_findError_38 39 rfl (fun x9 => ?_)
        refine s_bipush (v := 59) C dX4_findError_39 (by decide) 41 rfl ?_
        refine s_icmp_eq C dX4_findError_41 49 44 (by decide) rfl ?_ ?_
        · refine s_aload_n C dX4_findError_49 50 rfl 0 rfl ?_
          refine s_dup C dX4_findError_50 rfl 51 rfl ?_
          refine s_getI C hR fd_PatchCordsModel_reading (Or.inl q1822) dX4_findError_51 54 rfl (fun x10 => ?_)
          refine s_iconst (v := 1) C dX4_findError_54 (by decide) 55 rfl ?_
          refine s_iadd C dX4_findError_55 56 rfl ?_
          refine s_put C hR hA fd_PatchCordsModel_reading (Or.inl q1822) dX4_findError_56 rfl rfl 59 rfl ?_
          refine s_goto C dX4_findError_59 5 (by decide) ?_
          refine s_r ?_
          refine s_lv [0] rfl ?_
          exact hk2 ()
        · refine s_r ?_
          refine s_lv [0] rfl ?_
          exact hx32 ()
