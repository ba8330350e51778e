/-! THE REFERENCE'S WALKS -/
theorem nv_X4_laysOuts : yX4_laysOuts.cls ≠ "java/lang/invoke/MethodHandle" ∧ yX4_laysOuts.cls ≠ "java/lang/invoke/VarHandle" ∧ (parseMethodDescriptor yX4_laysOuts.desc).map (fun d => d.parameters.length) = some 0 := by decide +kernel
theorem ct_X4_laysOuts {l : Launch} (g : sm_G) (TA : Nat → Prop) (a0 : Nat) : sm_CT l g (so_R g TA) (so_A g TA) yX4_laysOuts cX4_laysOuts 5 none 4 90 [.ref a0] em_v (f_X4_laysOuts g a0) := by
  refine sm_of (own := "PatchCordsModel") rfl rfl (bl rfl) (fun Y C hR hA hl hm => ?_)
  subst hl
  refine s_lv (L' := [(0, .ref a0)]) [0] rfl ?_
  refine s_top ?_
  unfold f_X4_laysOuts
  refine s_aload_n C dX4_laysOuts_0 1 rfl 0 rfl ?_
  refine s_call_v (rn_V (As := []) C (ct_at hR hA (ct_on (ct_X4_laysLevels g TA a0))) (rv_on C hR (q := vw_12) rfl) (lw_V q2015 q2017 qs61 q112 q2018) ⟨rfl, nv_X4_laysLevels⟩ ⟨by decide, by decide⟩ rfl (bl rfl) dX4_laysOuts_1) 4 rfl ?_
  refine s_aload_n C dX4_laysOuts_4 5 rfl 0 rfl ?_
  refine s_iconst (v := 0) C dX4_laysOuts_5 (by decide) 6 rfl ?_
  refine s_put C hR hA fd_PatchCordsModel_over (Or.inl q1817) dX4_laysOuts_6 rfl rfl 9 rfl ?_
  refine s_iconst (v := 0) C dX4_laysOuts_9 (by decide) 10 rfl ?_
  refine s_istore_n C dX4_laysOuts_10 rfl (by decide) 11 rfl [(1, .int 0), (0, .ref a0)] rfl ?_
  refine s_lv [1, 0] rfl ?_
  refine s_loop (fun (s2 : Int32) => [(0, .ref a0), (1, .int s2)]) (fun (v28 : Unit) => []) 139 0 rfl (fun v28 => ?_) (fun _ s2 hk3 hx4 => ?_)
  · exact s_vret C rfl dX4_laysOuts_139
  · refine s_iload_n C dX4_laysOuts_11 12 rfl 1 rfl ?_
    refine s_bipush (v := 16) C dX4_laysOuts_12 (by decide) 14 rfl ?_
    refine s_icmp_gt C dX4_laysOuts_14 139 17 (by decide) rfl ?_ ?_
    · refine s_r ?_
      refine s_lv [] rfl ?_
      exact hx4 ()
    · refine s_iconst (v := 0) C dX4_laysOuts_17 (by decide) 18 rfl ?_
      refine s_istore_n C dX4_laysOuts_18 rfl (by decide) 19 rfl [(2, .int 0), (0, .ref a0), (1, .int s2)] rfl ?_
      refine s_lv [1, 2, 0] rfl ?_
      refine s_loop (fun (s5 : Int32) => [(0, .ref a0), (1, .int s2), (2, .int s5)]) (fun (v27 : Unit) => [(0, .ref a0), (1, .int s2)]) 133 0 rfl (fun v27 => ?_) (fun _ s5 hk6 hx7 => ?_)
      · refine s_iinc C dX4_laysOuts_133 (s2 + 1) rfl 1 rfl (by decide) 136 rfl [(1, .int (s2 + 1)), (0, .ref a0)] rfl ?_
        refine s_goto C dX4_laysOuts_136 11 (by decide) ?_
        refine s_r ?_
        refine s_lv [1, 0] rfl ?_
        exact hk3 (s2 + 1)
      · refine s_iload_n C dX4_laysOuts_19 20 rfl 2 rfl ?_
        refine s_aload_n C dX4_laysOuts_20 21 rfl 0 rfl ?_
        refine s_getR C hR fd_PatchCordsModel_state (Or.inl q1809) dX4_laysOuts_21 24 rfl (fun x8 => ?_)
        refine s_iconst (v := 0) C dX4_laysOuts_24 (by decide) 25 rfl ?_
        refine s_iald C hR dX4_laysOuts_25 26 rfl (fun x9 => ?_)
        refine s_icmp_ge C dX4_laysOuts_26 133 29 (by decide) rfl ?_ ?_
        · refine s_r ?_
          refine s_lv [0, 1] rfl ?_
          exact hx7 ()
        · refine s_aload_n C dX4_laysOuts_29 30 rfl 0 rfl ?_
          refine s_getR C hR fd_PatchCordsModel_levels (Or.inl q1815) dX4_laysOuts_30 33 rfl (fun x10 => ?_)
          refine s_iload_n C dX4_laysOuts_33 34 rfl 2 rfl ?_
          refine s_iald C hR dX4_laysOuts_34 35 rfl (fun x11 => ?_)
          refine s_iload_n C dX4_laysOuts_35 36 rfl 1 rfl ?_
          refine s_cut (J := 127) (LJ := (fun (v12 : Unit) => [(0, .ref a0), (1, .int s2), (2, .int s5)])) (SJ := (fun (v12 : Unit) => [])) (fun v12 => ?_) (fun _ _ hK13 => ?_)
          · refine s_iinc C dX4_laysOuts_127 (s5 + 1) rfl 2 rfl (by decide) 130 rfl [(2, .int (s5 + 1)), (0, .ref a0), (1, .int s2)] rfl ?_
            refine s_goto C dX4_laysOuts_130 19 (by decide) ?_
            refine s_r ?_
            refine s_lv [1, 2, 0] rfl ?_
            exact hk6 (s5 + 1)
          · refine s_icmp_ne C dX4_laysOuts_36 127 39 (by decide) rfl ?_ ?_
            · refine s_aload_n C dX4_laysOuts_39 40 rfl 0 rfl ?_
              refine s_iload_n C dX4_laysOuts_40 41 rfl 2 rfl ?_
              refine s_call_i (rn_V (As := [.int s5]) C (ct_at hR hA (ct_on (ct_X4_free g TA a0 s5))) (rv_on C hR (q := vw_12) rfl) (lw_V q2019 q2021 qs62 q112 q2022) ⟨rfl, nv_X4_free⟩ ⟨by decide, by decide⟩ rfl (bl rfl) dX4_laysOuts_41) 44 rfl (fun x14 => ?_)
              refine s_istore_n C dX4_laysOuts_44 rfl (by decide) 45 rfl [(3, .int x14), (0, .ref a0), (1, .int s2), (2, .int s5)] rfl ?_
              refine s_aload_n C dX4_laysOuts_45 46 rfl 1 rfl ?_
              refine s_getR C hR fd_PatchCordsModel_outs (Or.inl q1816) dX4_laysOuts_46 49 rfl (fun x15 => ?_)
              refine s_iload_n C dX4_laysOuts_49 50 rfl 3 rfl ?_
              refine s_iload_n C dX4_laysOuts_50 51 rfl 0 rfl ?_
              refine s_sipush (v := 10000) C dX4_laysOuts_51 (by decide) 54 rfl ?_
              refine s_call_i (rn_S (As := [.int x14, .int 10000]) C (ct_at hR hA (ct_X4_held g TA x14 10000)) (lw_S q2031 q2032 q112 q2033) nv_X4_held ⟨by decide, by decide⟩ rfl (bl rfl) dX4_laysOuts_54) 57 rfl (fun x16 => ?_)
              refine s_iast C hR hA dX4_laysOuts_57 58 rfl ?_
              refine s_aload_n C dX4_laysOuts_58 59 rfl 1 rfl ?_
              refine s_iload_n C dX4_laysOuts_59 60 rfl 3 rfl ?_
              refine s_call_i (rn_V (As := [.int s5]) C (ct_at hR hA (ct_on (ct_X4_kind g TA a0 s5))) (rv_on C hR (q := vw_12) rfl) (lw_V q1912 q1914 qs43 q112 q1915) ⟨rfl, nv_X4_kind⟩ ⟨by decide, by decide⟩ rfl (bl rfl) dX4_laysOuts_60) 63 rfl (fun x17 => ?_)
              refine s_iconst (v := 1) C dX4_laysOuts_63 (by decide) 64 rfl ?_
              refine s_cut (J := 104) (LJ := (fun (v18 : Int32) => [(0, .ref a0), (1, .int s2), (2, .int s5)])) (SJ := (fun (v18 : Int32) => [.int v18])) (fun v18 => ?_) (fun _ _ hK19 => ?_)
              · refine s_istore C dX4_laysOuts_104 (by decide) 106 rfl [(4, .int v18), (0, .ref a0), (1, .int s2), (2, .int s5)] rfl ?_
                refine s_aload_n C dX4_laysOuts_106 107 rfl 1 rfl ?_
                refine s_dup C dX4_laysOuts_107 rfl 108 rfl ?_
                refine s_getI C hR fd_PatchCordsModel_over (Or.inl q1817) dX4_laysOuts_108 111 rfl (fun x24 => ?_)
                refine s_iload C dX4_laysOuts_111 113 rfl 0 rfl ?_
                refine s_cut (J := 123) (LJ := (fun (v25 : Int32) => [(0, .ref a0), (1, .int s2), (2, .int s5)])) (SJ := (fun (v25 : Int32) => [.int v25, .int x24, .ref a0])) (fun v25 => ?_) (fun _ _ hK26 => ?_)
                · refine s_ior C dX4_laysOuts_123 124 rfl ?_
                  refine s_put C hR hA fd_PatchCordsModel_over (Or.inl q1817) dX4_laysOuts_124 rfl rfl 127 rfl ?_
                  refine s_r ?_
                  refine s_lv [0, 1, 2] rfl ?_
                  exact hK13 ()
                · refine s_if_eq C dX4_laysOuts_113 122 116 (by decide) rfl ?_ ?_
                  · refine s_iconst (v := 0) C dX4_laysOuts_122 (by decide) 123 rfl ?_
                    refine s_r ?_
                    refine s_lv [1, 2, 3] rfl ?_
                    exact hK26 0
                  · refine s_iconst (v := 1) C dX4_laysOuts_116 (by decide) 117 rfl ?_
                    refine s_iload_n C dX4_laysOuts_117 118 rfl 3 rfl ?_
                    refine s_ishl C dX4_laysOuts_118 119 rfl ?_
                    refine s_goto C dX4_laysOuts_119 123 (by decide) ?_
                    refine s_r ?_
                    refine s_lv [1, 2, 3] rfl ?_
                    exact hK26 ((1 : Int32) <<< (s5 &&& 31))
              · refine s_icmp_ne C dX4_laysOuts_64 89 67 (by decide) rfl ?_ ?_
                · refine s_aload_n C dX4_laysOuts_67 68 rfl 1 rfl ?_
                  refine s_iload_n C dX4_laysOuts_68 69 rfl 3 rfl ?_
                  refine s_iconst (v := 3) C dX4_laysOuts_69 (by decide) 70 rfl ?_
                  refine s_call_i (rn_V (As := [.int s5, .int 3]) C (ct_at hR hA (ct_on (ct_X4_of g TA a0 s5 3))) (rv_on C hR (q := vw_12) rfl) (lw_V q1916 q1918 qs44 q112 q1919) ⟨rfl, nv_X4_of⟩ ⟨by decide, by decide⟩ rfl (bl rfl) dX4_laysOuts_70) 73 rfl (fun x22 => ?_)
                  refine s_call_i (rn_S (As := [.int x22]) C (ct_at hR hA (ct_X4_size g TA x22)) (lw_S q2034 q2035 q112 q2036) nv_X4_size ⟨by decide, by decide⟩ rfl (bl rfl) dX4_laysOuts_73) 76 rfl (fun x23 => ?_)
                  refine s_ldc (v := 10000000) C q2037 dX4_laysOuts_76 78 rfl ?_
                  refine s_icmp_ne C dX4_laysOuts_78 85 81 (by decide) rfl ?_ ?_
                  · refine s_iconst (v := 1) C dX4_laysOuts_81 (by decide) 82 rfl ?_
                    refine s_goto C dX4_laysOuts_82 104 (by decide) ?_
                    refine s_r ?_
                    refine s_lv [1, 2, 3] rfl ?_
                    exact hK19 1
                  · refine s_iconst (v := 0) C dX4_laysOuts_85 (by decide) 86 rfl ?_
                    refine s_goto C dX4_laysOuts_86 104 (by decide) ?_
                    refine s_r ?_
                    refine s_lv [1, 2, 3] rfl ?_
                    exact hK19 0
                · refine s_iload_n C dX4_laysOuts_89 90 rfl 0 rfl ?_
                  refine s_aload_n C dX4_laysOuts_90 91 rfl 1 rfl ?_
                  refine s_getR C hR fd_PatchCordsModel_outs (Or.inl q1816) dX4_laysOuts_91 94 rfl (fun x20 => ?_)
                  refine s_iload_n C dX4_laysOuts_94 95 rfl 3 rfl ?_
                  refine s_iald C hR dX4_laysOuts_95 96 rfl (fun x21 => ?_)
                  refine s_icmp_eq C dX4_laysOuts_96 103 99 (by decide) rfl ?_ ?_
                  · refine s_iconst (v := 0) C dX4_laysOuts_103 (by decide) 104 rfl ?_
                    refine s_r ?_
                    refine s_lv [1, 2, 3] rfl ?_
                    exact hK19 0
                  · refine s_iconst (v := 1) C dX4_laysOuts_99 (by decide) 100 rfl ?_
                    refine s_goto C dX4_laysOuts_100 104 (by decide) ?_
                    refine s_r ?_
                    refine s_lv [1, 2, 3] rfl ?_
                    exact hK19 1
            · refine s_r ?_
              refine s_lv [0, 1, 2] rfl ?_
              exact hK13 ()
theorem nv_X4_rate : yX4_rate.cls ≠ "java/lang/invoke/MethodHandle" ∧ yX4_rate.cls ≠ "java/lang/invoke/VarHandle" ∧ (parseMethodDescriptor yX4_rate.desc).map (fun d => d.parameters.length) = some 1 := by decide +kernel
theorem ct_X4_rate {l : Launch} (g : sm_G) (TA : Nat → Prop) (a0 : Nat) (p0 : Int32) : sm_CT l g (so_R g TA) (so_A g TA) yX4_rate cX4_rate 2 (some .int) 3 68 [.ref a0, .int p0] em_i (f_X4_rate g a0 p0) := by
  refine sm_of (own := "PatchCordsModel") rfl rfl (bl rfl) (fun Y C hR hA hl hm => ?_)
  subst hl
  refine s_lv (L' := [(0, .ref a0), (1, .int p0)]) [0, 1] rfl ?_
  refine s_top ?_
  unfold f_X4_rate
  refine s_aload_n C dX4_rate_0 1 rfl 0 rfl ?_
  refine s_iload_n C dX4_rate_1 2 rfl 1 rfl ?_
  refine s_call_i (rn_V (As := [.int p0]) C (ct_at hR hA (ct_on (ct_X4_weighted g TA a0 p0))) (rv_on C hR (q := vw_12) rfl) (lw_V q2023 q2025 qs63 q112 q2026) ⟨rfl, nv_X4_weighted⟩ ⟨by decide, by decide⟩ rfl (bl rfl) dX4_rate_2) 5 rfl (fun x1 => ?_)
  refine s_ineg C dX4_rate_5 6 rfl ?_
  refine s_sipush (v := 1000) C dX4_rate_6 (by decide) 9 rfl ?_
  refine s_imul C dX4_rate_9 10 rfl ?_
  refine s_aload_n C dX4_rate_10 11 rfl 0 rfl ?_
  refine s_iload_n C dX4_rate_11 12 rfl 1 rfl ?_
  refine s_iconst (v := 2) C dX4_rate_12 (by decide) 13 rfl ?_
  refine s_call_i (rn_V (As := [.int p0, .int 2]) C (ct_at hR hA (ct_on (ct_X4_of g TA a0 p0 2))) (rv_on C hR (q := vw_12) rfl) (lw_V q1916 q1918 qs44 q112 q1919) ⟨rfl, nv_X4_of⟩ ⟨by decide, by decide⟩ rfl (bl rfl) dX4_rate_13) 16 rfl (fun x2 => ?_)
  refine s_idv C dX4_rate_16 17 rfl (fun x3 => ?_)
  exact s_iret C rfl rfl dX4_rate_17
theorem nv_X4_laysRates : yX4_laysRates.cls ≠ "java/lang/invoke/MethodHandle" ∧ yX4_laysRates.cls ≠ "java/lang/invoke/VarHandle" ∧ (parseMethodDescriptor yX4_laysRates.desc).map (fun d => d.parameters.length) = some 0 := by decide +kernel
theorem ct_X4_laysRates {l : Launch} (g : sm_G) (TA : Nat → Prop) (a0 : Nat) : sm_CT l g (so_R g TA) (so_A g TA) yX4_laysRates cX4_laysRates 2 none 4 89 [.ref a0] em_v (f_X4_laysRates g a0) := by
  refine sm_of (own := "PatchCordsModel") rfl rfl (bl rfl) (fun Y C hR hA hl hm => ?_)
  subst hl
  refine s_lv (L' := [(0, .ref a0)]) [0] rfl ?_
  refine s_top ?_
  unfold f_X4_laysRates
  refine s_iconst (v := 0) C dX4_laysRates_0 (by decide) 1 rfl ?_
  refine s_istore_n C dX4_laysRates_1 rfl (by decide) 2 rfl [(1, .int 0), (0, .ref a0)] rfl ?_
  refine s_lv [1, 0] rfl ?_
  refine s_loop (fun (s1 : Int32) => [(0, .ref a0), (1, .int s1)]) (fun (v11 : Unit) => []) 42 0 rfl (fun v11 => ?_) (fun _ s1 hk2 hx3 => ?_)
  · exact s_vret C rfl dX4_laysRates_42
  · refine s_iload_n C dX4_laysRates_2 3 rfl 1 rfl ?_
    refine s_aload_n C dX4_laysRates_3 4 rfl 0 rfl ?_
    refine s_getR C hR fd_PatchCordsModel_state (Or.inl q1809) dX4_laysRates_4 7 rfl (fun x4 => ?_)
    refine s_iconst (v := 0) C dX4_laysRates_7 (by decide) 8 rfl ?_
    refine s_iald C hR dX4_laysRates_8 9 rfl (fun x5 => ?_)
    refine s_icmp_ge C dX4_laysRates_9 42 12 (by decide) rfl ?_ ?_
    · refine s_r ?_
      refine s_lv [] rfl ?_
      exact hx3 ()
    · refine s_aload_n C dX4_laysRates_12 13 rfl 0 rfl ?_
      refine s_getR C hR fd_PatchCordsModel_rates (Or.inl q1818) dX4_laysRates_13 16 rfl (fun x6 => ?_)
      refine s_iload_n C dX4_laysRates_16 17 rfl 1 rfl ?_
      refine s_aload_n C dX4_laysRates_17 18 rfl 0 rfl ?_
      refine s_iload_n C dX4_laysRates_18 19 rfl 1 rfl ?_
      refine s_call_i (rn_V (As := [.int s1]) C (ct_at hR hA (ct_on (ct_X4_kind g TA a0 s1))) (rv_on C hR (q := vw_12) rfl) (lw_V q1912 q1914 qs43 q112 q1915) ⟨rfl, nv_X4_kind⟩ ⟨by decide, by decide⟩ rfl (bl rfl) dX4_laysRates_19) 22 rfl (fun x7 => ?_)
      refine s_iconst (v := 1) C dX4_laysRates_22 (by decide) 23 rfl ?_
      refine s_cut (J := 35) (LJ := (fun (v8 : Int32) => [(0, .ref a0), (1, .int s1)])) (SJ := (fun (v8 : Int32) => [.int v8, .int s1, .ref x6])) (fun v8 => ?_) (fun _ _ hK9 => ?_)
      · refine s_iast C hR hA dX4_laysRates_35 36 rfl ?_
        refine s_iinc C dX4_laysRates_36 (s1 + 1) rfl 1 rfl (by decide) 39 rfl [(1, .int (s1 + 1)), (0, .ref a0)] rfl ?_
        refine s_goto C dX4_laysRates_39 2 (by decide) ?_
        refine s_r ?_
        refine s_lv [1, 0] rfl ?_
        exact hk2 (s1 + 1)
      · refine s_icmp_ne C dX4_laysRates_23 34 26 (by decide) rfl ?_ ?_
        · refine s_aload_n C dX4_laysRates_26 27 rfl 0 rfl ?_
          refine s_iload_n C dX4_laysRates_27 28 rfl 1 rfl ?_
          refine s_call_i (rn_V (As := [.int s1]) C (ct_at hR hA (ct_on (ct_X4_rate g TA a0 s1))) (rv_on C hR (q := vw_12) rfl) (lw_V q2042 q2044 qs66 q112 q2045) ⟨rfl, nv_X4_rate⟩ ⟨by decide, by decide⟩ rfl (bl rfl) dX4_laysRates_28) 31 rfl (fun x10 => ?_)
          refine s_goto C dX4_laysRates_31 35 (by decide) ?_
          refine s_r ?_
          refine s_lv [0, 1] rfl ?_
          exact hK9 x10
        · refine s_iconst (v := 0) C dX4_laysRates_34 (by decide) 35 rfl ?_
          refine s_r ?_
          refine s_lv [0, 1] rfl ?_
          exact hK9 0
theorem nv_X4_charges : yX4_charges.cls ≠ "java/lang/invoke/MethodHandle" ∧ yX4_charges.cls ≠ "java/lang/invoke/VarHandle" ∧ (parseMethodDescriptor yX4_charges.desc).map (fun d => d.parameters.length) = some 1 := by decide +kernel
theorem ct_X4_charges {l : Launch} (g : sm_G) (TA : Nat → Prop) (a0 : Nat) (p0 : Int32) : sm_CT l g (so_R g TA) (so_A g TA) yX4_charges cX4_charges 3 none 2 43 [.ref a0, .int p0] em_v (f_X4_charges g a0 p0) := by
  refine sm_of (own := "PatchCordsModel") rfl rfl (bl rfl) (fun Y C hR hA hl hm => ?_)
  subst hl
  refine s_lv (L' := [(0, .ref a0), (1, .int p0)]) [0, 1] rfl ?_
  refine s_top ?_
  unfold f_X4_charges
  refine s_iconst (v := 0) C dX4_charges_0 (by decide) 1 rfl ?_
  refine s_istore_n C dX4_charges_1 rfl (by decide) 2 rfl [(2, .int 0), (0, .ref a0), (1, .int p0)] rfl ?_
  refine s_lv [1, 2, 0] rfl ?_
  refine s_loop (fun (s1 : Int32) => [(0, .ref a0), (1, .int p0), (2, .int s1)]) (fun (v16 : Unit) => []) 53 0 rfl (fun v16 => ?_) (fun _ s1 hk2 hx3 => ?_)
  · exact s_vret C rfl dX4_charges_53
  · refine s_iload_n C dX4_charges_2 3 rfl 2 rfl ?_
    refine s_aload_n C dX4_charges_3 4 rfl 0 rfl ?_
    refine s_getR C hR fd_PatchCordsModel_state (Or.inl q1809) dX4_charges_4 7 rfl (fun x4 => ?_)
    refine s_iconst (v := 0) C dX4_charges_7 (by decide) 8 rfl ?_
    refine s_iald C hR dX4_charges_8 9 rfl (fun x5 => ?_)
    refine s_icmp_ge C dX4_charges_9 53 12 (by decide) rfl ?_ ?_
    · refine s_r ?_
      refine s_lv [] rfl ?_
      exact hx3 ()
    · refine s_aload_n C dX4_charges_12 13 rfl 0 rfl ?_
      refine s_iload_n C dX4_charges_13 14 rfl 2 rfl ?_
      refine s_call_i (rn_V (As := [.int s1]) C (ct_at hR hA (ct_on (ct_X4_kind g TA a0 s1))) (rv_on C hR (q := vw_12) rfl) (lw_V q1912 q1914 qs43 q112 q1915) ⟨rfl, nv_X4_kind⟩ ⟨by decide, by decide⟩ rfl (bl rfl) dX4_charges_14) 17 rfl (fun x6 => ?_)
      refine s_iconst (v := 1) C dX4_charges_17 (by decide) 18 rfl ?_
      refine s_cut (J := 47) (LJ := (fun (v7 : Unit) => [(0, .ref a0), (1, .int p0), (2, .int s1)])) (SJ := (fun (v7 : Unit) => [])) (fun v7 => ?_) (fun _ _ hK8 => ?_)
      · refine s_iinc C dX4_charges_47 (s1 + 1) rfl 2 rfl (by decide) 50 rfl [(2, .int (s1 + 1)), (0, .ref a0), (1, .int p0)] rfl ?_
        refine s_goto C dX4_charges_50 2 (by decide) ?_
        refine s_r ?_
        refine s_lv [1, 2, 0] rfl ?_
        exact hk2 (s1 + 1)
      · refine s_icmp_ne C dX4_charges_18 47 21 (by decide) rfl ?_ ?_
        · refine s_aload_n C dX4_charges_21 22 rfl 0 rfl ?_
          refine s_iload_n C dX4_charges_22 23 rfl 2 rfl ?_
          refine s_iconst (v := 3) C dX4_charges_23 (by decide) 24 rfl ?_
          refine s_aload_n C dX4_charges_24 25 rfl 0 rfl ?_
          refine s_getR C hR fd_PatchCordsModel_before (Or.inl q1819) dX4_charges_25 28 rfl (fun x9 => ?_)
          refine s_iload_n C dX4_charges_28 29 rfl 2 rfl ?_
          refine s_iald C hR dX4_charges_29 30 rfl (fun x10 => ?_)
          refine s_aload_n C dX4_charges_30 31 rfl 0 rfl ?_
          refine s_getR C hR fd_PatchCordsModel_rates (Or.inl q1818) dX4_charges_31 34 rfl (fun x11 => ?_)
          refine s_iload_n C dX4_charges_34 35 rfl 2 rfl ?_
          refine s_iald C hR dX4_charges_35 36 rfl (fun x12 => ?_)
          refine s_iload_n C dX4_charges_36 37 rfl 1 rfl ?_
          refine s_idv C dX4_charges_37 38 rfl (fun x13 => ?_)
          refine s_iadd C dX4_charges_38 39 rfl ?_
          refine s_ldc (v := 10000000) C q2037 dX4_charges_39 41 rfl ?_
          refine s_call_i (rn_S (As := [.int (x10 + x13), .int 10000000]) C (ct_at hR hA (ct_X4_held g TA (x10 + x13) 10000000)) (lw_S q2031 q2032 q112 q2033) nv_X4_held ⟨by decide, by decide⟩ rfl (bl rfl) dX4_charges_41) 44 rfl (fun x14 => ?_)
          refine s_call_v (rn_V (As := [.int s1, .int 3, .int x14]) C (ct_at hR hA (ct_on (ct_X4_puts g TA a0 s1 3 x14))) (rv_on C hR (q := vw_12) rfl) (lw_V q1892 q1894 qs39 q112 q1895) ⟨rfl, nv_X4_puts⟩ ⟨by decide, by decide⟩ rfl (bl rfl) dX4_charges_44) 47 rfl ?_
          refine s_r ?_
          refine s_lv [0, 1, 2] rfl ?_
          exact hK8 ()
        · refine s_r ?_
          refine s_lv [0, 1, 2] rfl ?_
          exact hK8 ()
theorem nv_X4_notesRecord : yX4_notesRecord.cls ≠ "java/lang/invoke/MethodHandle" ∧ yX4_notesRecord.cls ≠ "java/lang/invoke/VarHandle" ∧ (parseMethodDescriptor yX4_notesRecord.desc).map (fun d => d.parameters.length) = some 0 := by decide +kernel
theorem ct_X4_notesRecord {l : Launch} (g : sm_G) (TA : Nat → Prop) (a0 : Nat) : sm_CT l g (so_R g TA) (so_A g TA) yX4_notesRecord cX4_notesRecord 4 none 0 0 [.ref a0] em_v (f_X4_notesRecord g a0) := by
  refine sm_of (own := "PatchCordsModel") rfl rfl (bl rfl) (fun Y C hR hA hl hm => ?_)
  subst hl
  refine s_lv (L' := [(0, .ref a0)]) [0] rfl ?_
  refine s_top ?_
  unfold f_X4_notesRecord
  refine s_aload_n C dX4_notesRecord_0 1 rfl 0 rfl ?_
  refine s_getR C hR fd_PatchCordsModel_state (Or.inl q1809) dX4_notesRecord_1 4 rfl (fun x1 => ?_)
  refine s_iconst (v := 5) C dX4_notesRecord_4 (by decide) 5 rfl ?_
  refine s_iald C hR dX4_notesRecord_5 6 rfl (fun x2 => ?_)
  refine s_iconst (v := (-1)) C dX4_notesRecord_6 (by decide) 7 rfl ?_
  refine s_icmp_ne C dX4_notesRecord_7 11 10 (by decide) rfl ?_ ?_
  · exact s_vret C rfl dX4_notesRecord_10
  · refine s_aload_n C dX4_notesRecord_11 12 rfl 0 rfl ?_
    refine s_getR C hR fd_PatchCordsModel_outs (Or.inl q1816) dX4_notesRecord_12 15 rfl (fun x3 => ?_)
    refine s_aload_n C dX4_notesRecord_15 16 rfl 0 rfl ?_
    refine s_getR C hR fd_PatchCordsModel_state (Or.inl q1809) dX4_notesRecord_16 19 rfl (fun x4 => ?_)
    refine s_iconst (v := 5) C dX4_notesRecord_19 (by decide) 20 rfl ?_
    refine s_iald C hR dX4_notesRecord_20 21 rfl (fun x5 => ?_)
    refine s_iald C hR dX4_notesRecord_21 22 rfl (fun x6 => ?_)
    refine s_istore_n C dX4_notesRecord_22 rfl (by decide) 23 rfl [(1, .int x6), (0, .ref a0)] rfl ?_
    refine s_aload_n C dX4_notesRecord_23 24 rfl 1 rfl ?_
    refine s_getR C hR fd_PatchCordsModel_state (Or.inl q1809) dX4_notesRecord_24 27 rfl (fun x7 => ?_)
    refine s_bipush (v := 6) C dX4_notesRecord_27 (by decide) 29 rfl ?_
    refine s_iald C hR dX4_notesRecord_29 30 rfl (fun x8 => ?_)
    refine s_cut (J := 62) (LJ := (fun (v9 : Int32) => [(0, .ref a0), (1, .int x6)])) (SJ := (fun (v9 : Int32) => [.int v9])) (fun v9 => ?_) (fun _ _ hK10 => ?_)
    · refine s_istore_n C dX4_notesRecord_62 rfl (by decide) 63 rfl [(2, .int v9), (0, .ref a0), (1, .int x6)] rfl ?_
      refine s_iload_n C dX4_notesRecord_63 64 rfl 0 rfl ?_
      refine s_cut (J := 127) (LJ := (fun (v15 : Unit) => [(0, .ref a0), (1, .int x6)])) (SJ := (fun (v15 : Unit) => [])) (fun v15 => ?_) (fun _ _ hK16 => ?_)
      · refine s_aload_n C dX4_notesRecord_127 128 rfl 0 rfl ?_
        refine s_getR C hR fd_PatchCordsModel_state (Or.inl q1809) dX4_notesRecord_128 131 rfl (fun x31 => ?_)
        refine s_bipush (v := 6) C dX4_notesRecord_131 (by decide) 133 rfl ?_
        refine s_iald C hR dX4_notesRecord_133 134 rfl (fun x32 => ?_)
        refine s_bipush (v := 24) C dX4_notesRecord_134 (by decide) 136 rfl ?_
        refine s_cut (J := 184) (LJ := (fun (v33 : Unit) => [(0, .ref a0), (1, .int x6)])) (SJ := (fun (v33 : Unit) => [])) (fun v33 => ?_) (fun _ _ hK34 => ?_)
        · refine s_aload_n C dX4_notesRecord_184 185 rfl 0 rfl ?_
          refine s_getR C hR fd_PatchCordsModel_state (Or.inl q1809) dX4_notesRecord_185 188 rfl (fun x44 => ?_)
          refine s_bipush (v := 10) C dX4_notesRecord_188 (by decide) 190 rfl ?_
          refine s_aload_n C dX4_notesRecord_190 191 rfl 0 rfl ?_
          refine s_getR C hR fd_PatchCordsModel_state (Or.inl q1809) dX4_notesRecord_191 194 rfl (fun x45 => ?_)
          refine s_bipush (v := 6) C dX4_notesRecord_194 (by decide) 196 rfl ?_
          refine s_iald C hR dX4_notesRecord_196 197 rfl (fun x46 => ?_)
          refine s_iadd C dX4_notesRecord_197 198 rfl ?_
          refine s_iload_n C dX4_notesRecord_198 199 rfl 1 rfl ?_
          refine s_iast C hR hA dX4_notesRecord_199 200 rfl ?_
          refine s_aload_n C dX4_notesRecord_200 201 rfl 0 rfl ?_
          refine s_getR C hR fd_PatchCordsModel_state (Or.inl q1809) dX4_notesRecord_201 204 rfl (fun x47 => ?_)
          refine s_bipush (v := 6) C dX4_notesRecord_204 (by decide) 206 rfl ?_
          refine s_dup2 C dX4_notesRecord_206 rfl rfl 207 rfl ?_
          refine s_iald C hR dX4_notesRecord_207 208 rfl (fun x48 => ?_)
          refine s_iconst (v := 1) C dX4_notesRecord_208 (by decide) 209 rfl ?_
          refine s_iadd C dX4_notesRecord_209 210 rfl ?_
          refine s_iast C hR hA dX4_notesRecord_210 211 rfl ?_
          exact s_vret C rfl dX4_notesRecord_211
        · refine s_icmp_ne C dX4_notesRecord_136 184 139 (by decide) rfl ?_ ?_
          · refine s_iconst (v := 0) C dX4_notesRecord_139 (by decide) 140 rfl ?_
            refine s_istore_n C dX4_notesRecord_140 rfl (by decide) 141 rfl [(3, .int 0), (0, .ref a0), (1, .int x6)] rfl ?_
            refine s_lv [1, 2, 0] rfl ?_
            refine s_loop (fun (s35 : Int32) => [(0, .ref a0), (1, .int x6), (3, .int s35)]) (fun (v41 : Unit) => [(0, .ref a0), (1, .int x6)]) 173 0 rfl (fun v41 => ?_) (fun _ s35 hk36 hx37 => ?_)
            · refine s_aload_n C dX4_notesRecord_173 174 rfl 0 rfl ?_
              refine s_getR C hR fd_PatchCordsModel_state (Or.inl q1809) dX4_notesRecord_174 177 rfl (fun x42 => ?_)
              refine s_bipush (v := 6) C dX4_notesRecord_177 (by decide) 179 rfl ?_
              refine s_dup2 C dX4_notesRecord_179 rfl rfl 180 rfl ?_
              refine s_iald C hR dX4_notesRecord_180 181 rfl (fun x43 => ?_)
              refine s_iconst (v := 1) C dX4_notesRecord_181 (by decide) 182 rfl ?_
              refine s_isub C dX4_notesRecord_182 183 rfl ?_
              refine s_iast C hR hA dX4_notesRecord_183 184 rfl ?_
              refine s_r ?_
              refine s_lv [0, 1] rfl ?_
              exact hK34 ()
            · refine s_iload_n C dX4_notesRecord_141 142 rfl 2 rfl ?_
              refine s_bipush (v := 23) C dX4_notesRecord_142 (by decide) 144 rfl ?_
              refine s_icmp_ge C dX4_notesRecord_144 173 147 (by decide) rfl ?_ ?_
              · refine s_r ?_
                refine s_lv [0, 1] rfl ?_
                exact hx37 ()
              · refine s_aload_n C dX4_notesRecord_147 148 rfl 0 rfl ?_
                refine s_getR C hR fd_PatchCordsModel_state (Or.inl q1809) dX4_notesRecord_148 151 rfl (fun x38 => ?_)
                refine s_bipush (v := 10) C dX4_notesRecord_151 (by decide) 153 rfl ?_
                refine s_iload_n C dX4_notesRecord_153 154 rfl 2 rfl ?_
                refine s_iadd C dX4_notesRecord_154 155 rfl ?_
                refine s_aload_n C dX4_notesRecord_155 156 rfl 0 rfl ?_
                refine s_getR C hR fd_PatchCordsModel_state (Or.inl q1809) dX4_notesRecord_156 159 rfl (fun x39 => ?_)
                refine s_bipush (v := 10) C dX4_notesRecord_159 (by decide) 161 rfl ?_
                refine s_iload_n C dX4_notesRecord_161 162 rfl 2 rfl ?_
                refine s_iadd C dX4_notesRecord_162 163 rfl ?_
                refine s_iconst (v := 1) C dX4_notesRecord_163 (by decide) 164 rfl ?_
                refine s_iadd C dX4_notesRecord_164 165 rfl ?_
                refine s_iald C hR dX4_notesRecord_165 166 rfl (fun x40 => ?_)
                refine s_iast C hR hA dX4_notesRecord_166 167 rfl ?_
                refine s_iinc C dX4_notesRecord_167 (s35 + 1) rfl 2 rfl (by decide) 170 rfl [(3, .int (s35 + 1)), (0, .ref a0), (1, .int x6)] rfl ?_
                refine s_goto C dX4_notesRecord_170 141 (by decide) ?_
                refine s_r ?_
                refine s_lv [1, 2, 0] rfl ?_
                exact hk36 (s35 + 1)
          · refine s_r ?_
            refine s_lv [0, 1] rfl ?_
            exact hK34 ()
      · refine s_if_eq C dX4_notesRecord_64 127 67 (by decide) rfl ?_ ?_
        · refine s_r ?_
          refine s_lv [1, 2] rfl ?_
          exact hK16 ()
        · refine s_aload_n C dX4_notesRecord_67 68 rfl 1 rfl ?_
          refine s_getR C hR fd_PatchCordsModel_state (Or.inl q1809) dX4_notesRecord_68 71 rfl (fun x17 => ?_)
          refine s_bipush (v := 7) C dX4_notesRecord_71 (by decide) 73 rfl ?_
          refine s_dup2 C dX4_notesRecord_73 rfl rfl 74 rfl ?_
          refine s_iald C hR dX4_notesRecord_74 75 rfl (fun x18 => ?_)
          refine s_iconst (v := 1) C dX4_notesRecord_75 (by decide) 76 rfl ?_
          refine s_iadd C dX4_notesRecord_76 77 rfl ?_
          refine s_iast C hR hA dX4_notesRecord_77 78 rfl ?_
          refine s_aload_n C dX4_notesRecord_78 79 rfl 1 rfl ?_
          refine s_getR C hR fd_PatchCordsModel_state (Or.inl q1809) dX4_notesRecord_79 82 rfl (fun x19 => ?_)
          refine s_bipush (v := 9) C dX4_notesRecord_82 (by decide) 84 rfl ?_
          refine s_aload_n C dX4_notesRecord_84 85 rfl 1 rfl ?_
          refine s_getR C hR fd_PatchCordsModel_state (Or.inl q1809) dX4_notesRecord_85 88 rfl (fun x20 => ?_)
          refine s_bipush (v := 7) C dX4_notesRecord_88 (by decide) 90 rfl ?_
          refine s_iald C hR dX4_notesRecord_90 91 rfl (fun x21 => ?_)
          refine s_iconst (v := 1) C dX4_notesRecord_91 (by decide) 92 rfl ?_
          refine s_cut (J := 113) (LJ := (fun (v22 : Int32) => [(0, .ref a0), (1, .int x6)])) (SJ := (fun (v22 : Int32) => [.int v22, .int 9, .ref x19])) (fun v22 => ?_) (fun _ _ hK23 => ?_)
          · refine s_iast C hR hA dX4_notesRecord_113 114 rfl ?_
            refine s_aload_n C dX4_notesRecord_114 115 rfl 0 rfl ?_
            refine s_getR C hR fd_PatchCordsModel_state (Or.inl q1809) dX4_notesRecord_115 118 rfl (fun x28 => ?_)
            refine s_bipush (v := 8) C dX4_notesRecord_118 (by decide) 120 rfl ?_
            refine s_aload_n C dX4_notesRecord_120 121 rfl 0 rfl ?_
            refine s_getR C hR fd_PatchCordsModel_state (Or.inl q1809) dX4_notesRecord_121 124 rfl (fun x29 => ?_)
            refine s_iconst (v := 4) C dX4_notesRecord_124 (by decide) 125 rfl ?_
            refine s_iald C hR dX4_notesRecord_125 126 rfl (fun x30 => ?_)
            refine s_iast C hR hA dX4_notesRecord_126 127 rfl ?_
            refine s_r ?_
            refine s_lv [0, 1] rfl ?_
            exact hK16 ()
          · refine s_icmp_le C dX4_notesRecord_92 112 95 (by decide) rfl ?_ ?_
            · refine s_iconst (v := (-1)) C dX4_notesRecord_112 (by decide) 113 rfl ?_
              refine s_r ?_
              refine s_lv [1, 2] rfl ?_
              exact hK23 (-1)
            · refine s_aload_n C dX4_notesRecord_95 96 rfl 1 rfl ?_
              refine s_getR C hR fd_PatchCordsModel_state (Or.inl q1809) dX4_notesRecord_96 99 rfl (fun x24 => ?_)
              refine s_iconst (v := 4) C dX4_notesRecord_99 (by decide) 100 rfl ?_
              refine s_iald C hR dX4_notesRecord_100 101 rfl (fun x25 => ?_)
              refine s_aload_n C dX4_notesRecord_101 102 rfl 1 rfl ?_
              refine s_getR C hR fd_PatchCordsModel_state (Or.inl q1809) dX4_notesRecord_102 105 rfl (fun x26 => ?_)
              refine s_bipush (v := 8) C dX4_notesRecord_105 (by decide) 107 rfl ?_
              refine s_iald C hR dX4_notesRecord_107 108 rfl (fun x27 => ?_)
              refine s_isub C dX4_notesRecord_108 109 rfl ?_
              refine s_goto C dX4_notesRecord_109 113 (by decide) ?_
              refine s_r ?_
              refine s_lv [1, 2] rfl ?_
              exact hK23 (x25 - x27)
    · refine s_if_le C dX4_notesRecord_30 61 33 (by decide) rfl ?_ ?_
      · refine s_iconst (v := 0) C dX4_notesRecord_61 (by decide) 62 rfl ?_
        refine s_r ?_
        refine s_lv [1, 0] rfl ?_
        exact hK10 0
      · refine s_aload_n C dX4_notesRecord_33 34 rfl 1 rfl ?_
        refine s_getR C hR fd_PatchCordsModel_state (Or.inl q1809) dX4_notesRecord_34 37 rfl (fun x11 => ?_)
        refine s_bipush (v := 10) C dX4_notesRecord_37 (by decide) 39 rfl ?_
        refine s_aload_n C dX4_notesRecord_39 40 rfl 1 rfl ?_
        refine s_getR C hR fd_PatchCordsModel_state (Or.inl q1809) dX4_notesRecord_40 43 rfl (fun x12 => ?_)
        refine s_bipush (v := 6) C dX4_notesRecord_43 (by decide) 45 rfl ?_
        refine s_iald C hR dX4_notesRecord_45 46 rfl (fun x13 => ?_)
        refine s_iadd C dX4_notesRecord_46 47 rfl ?_
        refine s_iconst (v := 1) C dX4_notesRecord_47 (by decide) 48 rfl ?_
        refine s_isub C dX4_notesRecord_48 49 rfl ?_
        refine s_iald C hR dX4_notesRecord_49 50 rfl (fun x14 => ?_)
        refine s_if_ge C dX4_notesRecord_50 61 53 (by decide) rfl ?_ ?_
        · refine s_iconst (v := 0) C dX4_notesRecord_61 (by decide) 62 rfl ?_
          refine s_r ?_
          refine s_lv [1, 0] rfl ?_
          exact hK10 0
        · refine s_iload_n C dX4_notesRecord_53 54 rfl 0 rfl ?_
          refine s_if_lt C dX4_notesRecord_54 61 57 (by decide) rfl ?_ ?_
          · refine s_iconst (v := 0) C dX4_notesRecord_61 (by decide) 62 rfl ?_
            refine s_r ?_
            refine s_lv [1, 0] rfl ?_
            exact hK10 0
          · refine s_iconst (v := 1) C dX4_notesRecord_57 (by decide) 58 rfl ?_
            refine s_goto C dX4_notesRecord_58 62 (by decide) ?_
            refine s_r ?_
            refine s_lv [1, 0] rfl ?_
            exact hK10 1
theorem nv_X4_stepsOn : yX4_stepsOn.cls ≠ "java/lang/invoke/MethodHandle" ∧ yX4_stepsOn.cls ≠ "java/lang/invoke/VarHandle" ∧ (parseMethodDescriptor yX4_stepsOn.desc).map (fun d => d.parameters.length) = some 1 := by decide +kernel
theorem ct_X4_stepsOn {l : Launch} (g : sm_G) (TA : Nat → Prop) (a0 : Nat) (p0 : Int32) : sm_CT l g (so_R g TA) (so_A g TA) yX4_stepsOn cX4_stepsOn 3 none 5 114 [.ref a0, .int p0] em_v (f_X4_stepsOn g a0 p0) := by
  refine sm_of (own := "PatchCordsModel") rfl rfl (bl rfl) (fun Y C hR hA hl hm => ?_)
  subst hl
  refine s_lv (L' := [(0, .ref a0), (1, .int p0)]) [0, 1] rfl ?_
  refine s_top ?_
  unfold f_X4_stepsOn
  refine s_aload_n C dX4_stepsOn_0 1 rfl 0 rfl ?_
  refine s_call_v (rn_V (As := []) C (ct_at hR hA (ct_on (ct_X4_laysOuts g TA a0))) (rv_on C hR (q := vw_12) rfl) (lw_V q2011 q2013 qs60 q112 q2014) ⟨rfl, nv_X4_laysOuts⟩ ⟨by decide, by decide⟩ rfl (bl rfl) dX4_stepsOn_1) 4 rfl ?_
  refine s_aload_n C dX4_stepsOn_4 5 rfl 0 rfl ?_
  refine s_call_v (rn_V (As := []) C (ct_at hR hA (ct_on (ct_X4_laysRates g TA a0))) (rv_on C hR (q := vw_12) rfl) (lw_V q2038 q2040 qs65 q112 q2041) ⟨rfl, nv_X4_laysRates⟩ ⟨by decide, by decide⟩ rfl (bl rfl) dX4_stepsOn_5) 8 rfl ?_
  refine s_iconst (v := 0) C dX4_stepsOn_8 (by decide) 9 rfl ?_
  refine s_istore_n C dX4_stepsOn_9 rfl (by decide) 10 rfl [(2, .int 0), (0, .ref a0), (1, .int p0)] rfl ?_
  refine s_lv [1, 2, 0] rfl ?_
  refine s_loop (fun (s3 : Int32) => [(0, .ref a0), (1, .int p0), (2, .int s3)]) (fun (v10 : Unit) => [(0, .ref a0), (1, .int p0)]) 38 0 rfl (fun v10 => ?_) (fun _ s3 hk4 hx5 => ?_)
  · refine s_aload_n C dX4_stepsOn_38 39 rfl 0 rfl ?_
    refine s_getR C hR fd_PatchCordsModel_state (Or.inl q1809) dX4_stepsOn_39 42 rfl (fun x11 => ?_)
    refine s_iconst (v := 2) C dX4_stepsOn_42 (by decide) 43 rfl ?_
    refine s_iald C hR dX4_stepsOn_43 44 rfl (fun x12 => ?_)
    refine s_iconst (v := 1) C dX4_stepsOn_44 (by decide) 45 rfl ?_
    refine s_cut (J := 61) (LJ := (fun (v13 : Unit) => [(0, .ref a0), (1, .int p0)])) (SJ := (fun (v13 : Unit) => [])) (fun v13 => ?_) (fun _ _ hK14 => ?_)
    · refine s_aload_n C dX4_stepsOn_61 62 rfl 0 rfl ?_
      refine s_iconst (v := 1) C dX4_stepsOn_62 (by decide) 63 rfl ?_
      refine s_call_v (rn_V (As := [.int 1]) C (ct_at hR hA (ct_on (ct_X4_charges g TA a0 1))) (rv_on C hR (q := vw_12) rfl) (lw_V q2046 q2048 qs67 q112 q2049) ⟨rfl, nv_X4_charges⟩ ⟨by decide, by decide⟩ rfl (bl rfl) dX4_stepsOn_63) 66 rfl ?_
      refine s_aload_n C dX4_stepsOn_66 67 rfl 0 rfl ?_
      refine s_call_v (rn_V (As := []) C (ct_at hR hA (ct_on (ct_X4_laysOuts g TA a0))) (rv_on C hR (q := vw_12) rfl) (lw_V q2011 q2013 qs60 q112 q2014) ⟨rfl, nv_X4_laysOuts⟩ ⟨by decide, by decide⟩ rfl (bl rfl) dX4_stepsOn_67) 70 rfl ?_
      refine s_aload_n C dX4_stepsOn_70 71 rfl 0 rfl ?_
      refine s_getR C hR fd_PatchCordsModel_state (Or.inl q1809) dX4_stepsOn_71 74 rfl (fun x20 => ?_)
      refine s_iconst (v := 4) C dX4_stepsOn_74 (by decide) 75 rfl ?_
      refine s_dup2 C dX4_stepsOn_75 rfl rfl 76 rfl ?_
      refine s_iald C hR dX4_stepsOn_76 77 rfl (fun x21 => ?_)
      refine s_iconst (v := 1) C dX4_stepsOn_77 (by decide) 78 rfl ?_
      refine s_iadd C dX4_stepsOn_78 79 rfl ?_
      refine s_iast C hR hA dX4_stepsOn_79 80 rfl ?_
      refine s_iconst (v := 0) C dX4_stepsOn_80 (by decide) 81 rfl ?_
      refine s_istore_n C dX4_stepsOn_81 rfl (by decide) 82 rfl [(2, .int 0), (0, .ref a0), (1, .int p0)] rfl ?_
      refine s_lv [1, 2, 0] rfl ?_
      refine s_loop (fun (s22 : Int32) => [(0, .ref a0), (1, .int p0), (2, .int s22)]) (fun (v38 : Unit) => [(0, .ref a0), (1, .int p0)]) 140 0 rfl (fun v38 => ?_) (fun _ s22 hk23 hx24 => ?_)
      · refine s_aload_n C dX4_stepsOn_140 141 rfl 0 rfl ?_
        refine s_call_v (rn_V (As := []) C (ct_at hR hA (ct_on (ct_X4_notesRecord g TA a0))) (rv_on C hR (q := vw_12) rfl) (lw_V q2050 q2052 qs68 q112 q2053) ⟨rfl, nv_X4_notesRecord⟩ ⟨by decide, by decide⟩ rfl (bl rfl) dX4_stepsOn_141) 144 rfl ?_
        refine s_aload_n C dX4_stepsOn_144 145 rfl 0 rfl ?_
        refine s_getR C hR fd_PatchCordsModel_state (Or.inl q1809) dX4_stepsOn_145 148 rfl (fun x40 => ?_)
        refine s_iconst (v := 1) C dX4_stepsOn_148 (by decide) 149 rfl ?_
        refine s_iload_n C dX4_stepsOn_149 150 rfl 1 rfl ?_
        refine s_cut (J := 170) (LJ := (fun (v41 : Int32) => [])) (SJ := (fun (v41 : Int32) => [.int v41, .int 1, .ref x40])) (fun v41 => ?_) (fun _ _ hK42 => ?_)
        · refine s_iast C hR hA dX4_stepsOn_170 171 rfl ?_
          exact s_vret C rfl dX4_stepsOn_171
        · refine s_if_eq C dX4_stepsOn_150 164 153 (by decide) rfl ?_ ?_
          · refine s_aload_n C dX4_stepsOn_164 165 rfl 0 rfl ?_
            refine s_getR C hR fd_PatchCordsModel_state (Or.inl q1809) dX4_stepsOn_165 168 rfl (fun x43 => ?_)
            refine s_iconst (v := 1) C dX4_stepsOn_168 (by decide) 169 rfl ?_
            refine s_iald C hR dX4_stepsOn_169 170 rfl (fun x44 => ?_)
            refine s_r ?_
            refine s_lv [] rfl ?_
            exact hK42 x44
          · refine s_aload_n C dX4_stepsOn_153 154 rfl 0 rfl ?_
            refine s_getI C hR fd_PatchCordsModel_over (Or.inl q1817) dX4_stepsOn_154 157 rfl (fun x45 => ?_)
            refine s_if_eq C dX4_stepsOn_157 164 160 (by decide) rfl ?_ ?_
            · refine s_aload_n C dX4_stepsOn_164 165 rfl 0 rfl ?_
              refine s_getR C hR fd_PatchCordsModel_state (Or.inl q1809) dX4_stepsOn_165 168 rfl (fun x46 => ?_)
              refine s_iconst (v := 1) C dX4_stepsOn_168 (by decide) 169 rfl ?_
              refine s_iald C hR dX4_stepsOn_169 170 rfl (fun x47 => ?_)
              refine s_r ?_
              refine s_lv [] rfl ?_
              exact hK42 x47
            · refine s_iconst (v := 2) C dX4_stepsOn_160 (by decide) 161 rfl ?_
              refine s_goto C dX4_stepsOn_161 170 (by decide) ?_
              refine s_r ?_
              refine s_lv [] rfl ?_
              exact hK42 2
      · refine s_iload_n C dX4_stepsOn_82 83 rfl 2 rfl ?_
        refine s_aload_n C dX4_stepsOn_83 84 rfl 0 rfl ?_
        refine s_getR C hR fd_PatchCordsModel_state (Or.inl q1809) dX4_stepsOn_84 87 rfl (fun x25 => ?_)
        refine s_iconst (v := 0) C dX4_stepsOn_87 (by decide) 88 rfl ?_
        refine s_iald C hR dX4_stepsOn_88 89 rfl (fun x26 => ?_)
        refine s_icmp_ge C dX4_stepsOn_89 140 92 (by decide) rfl ?_ ?_
        · refine s_r ?_
          refine s_lv [0, 1] rfl ?_
          exact hx24 ()
        · refine s_aload_n C dX4_stepsOn_92 93 rfl 0 rfl ?_
          refine s_iload_n C dX4_stepsOn_93 94 rfl 2 rfl ?_
          refine s_iconst (v := 4) C dX4_stepsOn_94 (by decide) 95 rfl ?_
          refine s_aload_n C dX4_stepsOn_95 96 rfl 0 rfl ?_
          refine s_getR C hR fd_PatchCordsModel_outs (Or.inl q1816) dX4_stepsOn_96 99 rfl (fun x27 => ?_)
          refine s_iload_n C dX4_stepsOn_99 100 rfl 2 rfl ?_
          refine s_iald C hR dX4_stepsOn_100 101 rfl (fun x28 => ?_)
          refine s_call_i (rn_S (As := [.int x28]) C (ct_at hR hA (ct_X4_size g TA x28)) (lw_S q2034 q2035 q112 q2036) nv_X4_size ⟨by decide, by decide⟩ rfl (bl rfl) dX4_stepsOn_101) 104 rfl (fun x29 => ?_)
          refine s_aload_n C dX4_stepsOn_104 105 rfl 0 rfl ?_
          refine s_iload_n C dX4_stepsOn_105 106 rfl 2 rfl ?_
          refine s_iconst (v := 4) C dX4_stepsOn_106 (by decide) 107 rfl ?_
          refine s_call_i (rn_V (As := [.int s22, .int 4]) C (ct_at hR hA (ct_on (ct_X4_of g TA a0 s22 4))) (rv_on C hR (q := vw_12) rfl) (lw_V q1916 q1918 qs44 q112 q1919) ⟨rfl, nv_X4_of⟩ ⟨by decide, by decide⟩ rfl (bl rfl) dX4_stepsOn_107) 110 rfl (fun x30 => ?_)
          refine s_cut (J := 131) (LJ := (fun (v31 : Int32) => [(0, .ref a0), (1, .int p0), (2, .int s22)])) (SJ := (fun (v31 : Int32) => [.int v31, .int 4, .int s22, .ref a0])) (fun v31 => ?_) (fun _ _ hK32 => ?_)
          · refine s_call_v (rn_V (As := [.int s22, .int 4, .int v31]) C (ct_at hR hA (ct_on (ct_X4_puts g TA a0 s22 4 v31))) (rv_on C hR (q := vw_12) rfl) (lw_V q1892 q1894 qs39 q112 q1895) ⟨rfl, nv_X4_puts⟩ ⟨by decide, by decide⟩ rfl (bl rfl) dX4_stepsOn_131) 134 rfl ?_
            refine s_iinc C dX4_stepsOn_134 (s22 + 1) rfl 2 rfl (by decide) 137 rfl [(2, .int (s22 + 1)), (0, .ref a0), (1, .int p0)] rfl ?_
            refine s_goto C dX4_stepsOn_137 82 (by decide) ?_
            refine s_r ?_
            refine s_lv [1, 2, 0] rfl ?_
            exact hk23 (s22 + 1)
          · refine s_icmp_le C dX4_stepsOn_110 125 113 (by decide) rfl ?_ ?_
            · refine s_aload_n C dX4_stepsOn_125 126 rfl 0 rfl ?_
              refine s_iload_n C dX4_stepsOn_126 127 rfl 2 rfl ?_
              refine s_iconst (v := 4) C dX4_stepsOn_127 (by decide) 128 rfl ?_
              refine s_call_i (rn_V (As := [.int s22, .int 4]) C (ct_at hR hA (ct_on (ct_X4_of g TA a0 s22 4))) (rv_on C hR (q := vw_12) rfl) (lw_V q1916 q1918 qs44 q112 q1919) ⟨rfl, nv_X4_of⟩ ⟨by decide, by decide⟩ rfl (bl rfl) dX4_stepsOn_128) 131 rfl (fun x33 => ?_)
              refine s_r ?_
              refine s_lv [0, 1, 2] rfl ?_
              exact hK32 x33
            · refine s_aload_n C dX4_stepsOn_113 114 rfl 0 rfl ?_
              refine s_getR C hR fd_PatchCordsModel_outs (Or.inl q1816) dX4_stepsOn_114 117 rfl (fun x34 => ?_)
              refine s_iload_n C dX4_stepsOn_117 118 rfl 2 rfl ?_
              refine s_iald C hR dX4_stepsOn_118 119 rfl (fun x35 => ?_)
              refine s_call_i (rn_S (As := [.int x35]) C (ct_at hR hA (ct_X4_size g TA x35)) (lw_S q2034 q2035 q112 q2036) nv_X4_size ⟨by decide, by decide⟩ rfl (bl rfl) dX4_stepsOn_119) 122 rfl (fun x36 => ?_)
              refine s_goto C dX4_stepsOn_122 131 (by decide) ?_
              refine s_r ?_
              refine s_lv [0, 1, 2] rfl ?_
              exact hK32 x36
    · refine s_icmp_ne C dX4_stepsOn_45 61 48 (by decide) rfl ?_ ?_
      · refine s_aload_n C dX4_stepsOn_48 49 rfl 0 rfl ?_
        refine s_iconst (v := 2) C dX4_stepsOn_49 (by decide) 50 rfl ?_
        refine s_call_v (rn_V (As := [.int 2]) C (ct_at hR hA (ct_on (ct_X4_charges g TA a0 2))) (rv_on C hR (q := vw_12) rfl) (lw_V q2046 q2048 qs67 q112 q2049) ⟨rfl, nv_X4_charges⟩ ⟨by decide, by decide⟩ rfl (bl rfl) dX4_stepsOn_50) 53 rfl ?_
        refine s_aload_n C dX4_stepsOn_53 54 rfl 0 rfl ?_
        refine s_call_v (rn_V (As := []) C (ct_at hR hA (ct_on (ct_X4_laysOuts g TA a0))) (rv_on C hR (q := vw_12) rfl) (lw_V q2011 q2013 qs60 q112 q2014) ⟨rfl, nv_X4_laysOuts⟩ ⟨by decide, by decide⟩ rfl (bl rfl) dX4_stepsOn_54) 57 rfl ?_
        refine s_aload_n C dX4_stepsOn_57 58 rfl 0 rfl ?_
        refine s_call_v (rn_V (As := []) C (ct_at hR hA (ct_on (ct_X4_laysRates g TA a0))) (rv_on C hR (q := vw_12) rfl) (lw_V q2038 q2040 qs65 q112 q2041) ⟨rfl, nv_X4_laysRates⟩ ⟨by decide, by decide⟩ rfl (bl rfl) dX4_stepsOn_58) 61 rfl ?_
        refine s_r ?_
        refine s_lv [0, 1] rfl ?_
        exact hK14 ()
      · refine s_r ?_
        refine s_lv [0, 1] rfl ?_
        exact hK14 ()
  · refine s_iload_n C dX4_stepsOn_10 11 rfl 2 rfl ?_
    refine s_aload_n C dX4_stepsOn_11 12 rfl 0 rfl ?_
    refine s_getR C hR fd_PatchCordsModel_state (Or.inl q1809) dX4_stepsOn_12 15 rfl (fun x6 => ?_)
    refine s_iconst (v := 0) C dX4_stepsOn_15 (by decide) 16 rfl ?_
    refine s_iald C hR dX4_stepsOn_16 17 rfl (fun x7 => ?_)
    refine s_icmp_ge C dX4_stepsOn_17 38 20 (by decide) rfl ?_ ?_
    · refine s_r ?_
      refine s_lv [0, 1] rfl ?_
      exact hx5 ()
    · refine s_aload_n C dX4_stepsOn_20 21 rfl 0 rfl ?_
      refine s_getR C hR fd_PatchCordsModel_before (Or.inl q1819) dX4_stepsOn_21 24 rfl (fun x8 => ?_)
      refine s_iload_n C dX4_stepsOn_24 25 rfl 2 rfl ?_
      refine s_aload_n C dX4_stepsOn_25 26 rfl 0 rfl ?_
      refine s_iload_n C dX4_stepsOn_26 27 rfl 2 rfl ?_
      refine s_iconst (v := 3) C dX4_stepsOn_27 (by decide) 28 rfl ?_
      refine s_call_i (rn_V (As := [.int s3, .int 3]) C (ct_at hR hA (ct_on (ct_X4_of g TA a0 s3 3))) (rv_on C hR (q := vw_12) rfl) (lw_V q1916 q1918 qs44 q112 q1919) ⟨rfl, nv_X4_of⟩ ⟨by decide, by decide⟩ rfl (bl rfl) dX4_stepsOn_28) 31 rfl (fun x9 => ?_)
      refine s_iast C hR hA dX4_stepsOn_31 32 rfl ?_
      refine s_iinc C dX4_stepsOn_32 (s3 + 1) rfl 2 rfl (by decide) 35 rfl [(2, .int (s3 + 1)), (0, .ref a0), (1, .int p0)] rfl ?_
      refine s_goto C dX4_stepsOn_35 10 (by decide) ?_
      refine s_r ?_
      refine s_lv [1, 2, 0] rfl ?_
      exact hk4 (s3 + 1)
theorem nv_X4_passes : yX4_passes.cls ≠ "java/lang/invoke/MethodHandle" ∧ yX4_passes.cls ≠ "java/lang/invoke/VarHandle" ∧ (parseMethodDescriptor yX4_passes.desc).map (fun d => d.parameters.length) = some 1 := by decide +kernel
theorem ct_X4_passes {l : Launch} (g : sm_G) (TA : Nat → Prop) (a0 : Nat) (p0 : Int32) : sm_CT l g (so_R g TA) (so_A g TA) yX4_passes cX4_passes 4 (some .int) 6 136 [.ref a0, .int p0] em_i (f_X4_passes g a0 p0) := by
  refine sm_of (own := "PatchCordsModel") rfl rfl (bl rfl) (fun Y C hR hA hl hm => ?_)
  subst hl
  refine s_lv (L' := [(0, .ref a0), (1, .int p0)]) [0, 1] rfl ?_
  refine s_top ?_
  unfold f_X4_passes
  refine s_iconst (v := 0) C dX4_passes_0 (by decide) 1 rfl ?_
  refine s_istore_n C dX4_passes_1 rfl (by decide) 2 rfl [(2, .int 0), (0, .ref a0), (1, .int p0)] rfl ?_
  refine s_iconst (v := 0) C dX4_passes_2 (by decide) 3 rfl ?_
  refine s_istore_n C dX4_passes_3 rfl (by decide) 4 rfl [(3, .int 0), (2, .int 0), (0, .ref a0), (1, .int p0)] rfl ?_
  refine s_lv [2, 3, 1, 0] rfl ?_
  refine s_loop (fun (s1 : Int32 × Int32) => [(0, .ref a0), (1, .int p0), (2, .int s1.1), (3, .int s1.2)]) (fun (v11 : Int32) => [(2, .int v11)]) 47 (0, 0) rfl (fun v11 => ?_) (fun _ s1 hk2 hx3 => ?_)
  · refine s_iload_n C dX4_passes_47 48 rfl 0 rfl ?_
    exact s_iret C rfl rfl dX4_passes_48
  · refine s_iload_n C dX4_passes_4 5 rfl 3 rfl ?_
    refine s_iload_n C dX4_passes_5 6 rfl 1 rfl ?_
    refine s_icmp_ge C dX4_passes_6 47 9 (by decide) rfl ?_ ?_
    · refine s_r ?_
      refine s_lv [2] rfl ?_
      exact hx3 s1.1
    · refine s_aload_n C dX4_passes_9 10 rfl 0 rfl ?_
      refine s_getR C hR fd_PatchCordsModel_state (Or.inl q1809) dX4_passes_10 13 rfl (fun x4 => ?_)
      refine s_iconst (v := 1) C dX4_passes_13 (by decide) 14 rfl ?_
      refine s_iald C hR dX4_passes_14 15 rfl (fun x5 => ?_)
      refine s_iconst (v := 1) C dX4_passes_15 (by decide) 16 rfl ?_
      refine s_icmp_ne C dX4_passes_16 47 19 (by decide) rfl ?_ ?_
      · refine s_aload_n C dX4_passes_19 20 rfl 0 rfl ?_
        refine s_aload_n C dX4_passes_20 21 rfl 0 rfl ?_
        refine s_getR C hR fd_PatchCordsModel_state (Or.inl q1809) dX4_passes_21 24 rfl (fun x6 => ?_)
        refine s_iconst (v := 3) C dX4_passes_24 (by decide) 25 rfl ?_
        refine s_iald C hR dX4_passes_25 26 rfl (fun x7 => ?_)
        refine s_iconst (v := 1) C dX4_passes_26 (by decide) 27 rfl ?_
        refine s_cut (J := 35) (LJ := (fun (v8 : Int32) => [(0, .ref a0), (1, .int p0), (2, .int s1.1), (3, .int s1.2)])) (SJ := (fun (v8 : Int32) => [.int v8, .ref a0])) (fun v8 => ?_) (fun _ _ hK9 => ?_)
        · refine s_call_v (rn_V (As := [.int v8]) C (ct_at hR hA (ct_on (ct_X4_stepsOn g TA a0 v8))) (rv_on C hR (q := vw_12) rfl) (lw_V q2007 q2009 qs59 q112 q2010) ⟨rfl, nv_X4_stepsOn⟩ ⟨by decide, by decide⟩ rfl (bl rfl) dX4_passes_35) 38 rfl ?_
          refine s_iinc C dX4_passes_38 (s1.1 + 1) rfl 2 rfl (by decide) 41 rfl [(2, .int (s1.1 + 1)), (0, .ref a0), (1, .int p0), (3, .int s1.2)] rfl ?_
          refine s_iinc C dX4_passes_41 (s1.2 + 1) rfl 3 rfl (by decide) 44 rfl [(3, .int (s1.2 + 1)), (2, .int (s1.1 + 1)), (0, .ref a0), (1, .int p0)] rfl ?_
          refine s_goto C dX4_passes_44 4 (by decide) ?_
          refine s_r ?_
          refine s_lv [2, 3, 1, 0] rfl ?_
          exact hk2 (s1.1 + 1, s1.2 + 1)
        · refine s_icmp_ne C dX4_passes_27 34 30 (by decide) rfl ?_ ?_
          · refine s_iconst (v := 1) C dX4_passes_30 (by decide) 31 rfl ?_
            refine s_goto C dX4_passes_31 35 (by decide) ?_
            refine s_r ?_
            refine s_lv [0, 1, 2, 3] rfl ?_
            exact hK9 1
          · refine s_iconst (v := 0) C dX4_passes_34 (by decide) 35 rfl ?_
            refine s_r ?_
            refine s_lv [0, 1, 2, 3] rfl ?_
            exact hK9 0
      · refine s_r ?_
        refine s_lv [2] rfl ?_
        exact hx3 s1.1
theorem nv_X4_pass : yX4_pass.cls ≠ "java/lang/invoke/MethodHandle" ∧ yX4_pass.cls ≠ "java/lang/invoke/VarHandle" ∧ (parseMethodDescriptor yX4_pass.desc).map (fun d => d.parameters.length) = some 1 := by decide +kernel
theorem ct_X4_pass {l : Launch} (g : sm_G) (TA : Nat → Prop) (a0 : Nat) (p0 : Int32) : sm_CT l g (so_R g TA) (so_A g TA) yX4_pass cX4_pass 2 (some .int) 7 159 [.ref a0, .int p0] em_i (f_X4_pass g a0 p0) := by
  refine sm_of (own := "PatchCordsModel") rfl rfl (bl rfl) (fun Y C hR hA hl hm => ?_)
  subst hl
  refine s_lv (L' := [(0, .ref a0), (1, .int p0)]) [0, 1] rfl ?_
  refine s_top ?_
  unfold f_X4_pass
  refine s_aload_n C dX4_pass_0 1 rfl 0 rfl ?_
  refine s_iload_n C dX4_pass_1 2 rfl 1 rfl ?_
  refine s_iconst (v := 1) C dX4_pass_2 (by decide) 3 rfl ?_
  refine s_sipush (v := 999) C dX4_pass_3 (by decide) 6 rfl ?_
  refine s_call_i (rn_S (As := [.int p0, .int 1, .int 999]) C (ct_at hR hA (ct_X4_within g TA p0 1 999)) (lw_S q1877 q1878 q112 q1879) nv_X4_within ⟨by decide, by decide⟩ rfl (bl rfl) dX4_pass_6) 9 rfl (fun x1 => ?_)
  refine s_cut (J := 29) (LJ := (fun (v2 : Int32) => [(0, .ref a0), (1, .int p0)])) (SJ := (fun (v2 : Int32) => [.int v2, .ref a0])) (fun v2 => ?_) (fun _ _ hK3 => ?_)
  · refine s_put C hR hA fd_PatchCordsModel_thrown (Or.inl q1808) dX4_pass_29 rfl rfl 32 rfl ?_
    refine s_aload_n C dX4_pass_32 33 rfl 0 rfl ?_
    refine s_getI C hR fd_PatchCordsModel_thrown (Or.inl q1808) dX4_pass_33 36 rfl (fun x5 => ?_)
    refine s_if_le C dX4_pass_36 41 39 (by decide) rfl ?_ ?_
    · refine s_aload_n C dX4_pass_41 42 rfl 0 rfl ?_
      refine s_call_v (rn_V (As := []) C (ct_at hR hA (ct_on (ct_X4_saves g TA a0))) (rv_on C hR (q := vw_12) rfl) (lw_V q1884 q1886 qs37 q112 q1887) ⟨rfl, nv_X4_saves⟩ ⟨by decide, by decide⟩ rfl (bl rfl) dX4_pass_42) 45 rfl ?_
      refine s_aload_n C dX4_pass_45 46 rfl 0 rfl ?_
      refine s_iload_n C dX4_pass_46 47 rfl 1 rfl ?_
      refine s_call_i (rn_V (As := [.int p0]) C (ct_at hR hA (ct_on (ct_X4_passes g TA a0 p0))) (rv_on C hR (q := vw_12) rfl) (lw_V q2003 q2005 qs58 q112 q2006) ⟨rfl, nv_X4_passes⟩ ⟨by decide, by decide⟩ rfl (bl rfl) dX4_pass_47) 50 rfl (fun x7 => ?_)
      exact s_iret C rfl rfl dX4_pass_50
    · refine s_iconst (v := 0) C dX4_pass_39 (by decide) 40 rfl ?_
      exact s_iret C rfl rfl dX4_pass_40
  · refine s_if_ne C dX4_pass_9 16 12 (by decide) rfl ?_ ?_
    · refine s_iconst (v := 1) C dX4_pass_12 (by decide) 13 rfl ?_
      refine s_goto C dX4_pass_13 29 (by decide) ?_
      refine s_r ?_
      refine s_lv [0, 1] rfl ?_
      exact hK3 1
    · refine s_aload_n C dX4_pass_16 17 rfl 0 rfl ?_
      refine s_iload_n C dX4_pass_17 18 rfl 1 rfl ?_
      refine s_call_i (rn_V (As := [.int p0]) C (ct_at hR hA (ct_on (ct_X4_canPass g TA a0 p0))) (rv_on C hR (q := vw_12) rfl) (lw_V q1998 q2000 qs57 q112 q2001) ⟨rfl, nv_X4_canPass⟩ ⟨by decide, by decide⟩ rfl (bl rfl) dX4_pass_18) 21 rfl (fun x4 => ?_)
      refine s_if_eq C dX4_pass_21 28 24 (by decide) rfl ?_ ?_
      · refine s_iconst (v := 2) C dX4_pass_28 (by decide) 29 rfl ?_
        refine s_r ?_
        refine s_lv [0, 1] rfl ?_
        exact hK3 2
      · refine s_iconst (v := 0) C dX4_pass_24 (by decide) 25 rfl ?_
        refine s_goto C dX4_pass_25 29 (by decide) ?_
        refine s_r ?_
        refine s_lv [0, 1] rfl ?_
        exact hK3 0
theorem nv_X4_resets : yX4_resets.cls ≠ "java/lang/invoke/MethodHandle" ∧ yX4_resets.cls ≠ "java/lang/invoke/VarHandle" ∧ (parseMethodDescriptor yX4_resets.desc).map (fun d => d.parameters.length) = some 0 := by decide +kernel
theorem ct_X4_resets {l : Launch} (g : sm_G) (TA : Nat → Prop) (a0 : Nat) : sm_CT l g (so_R g TA) (so_A g TA) yX4_resets cX4_resets 2 none 2 43 [.ref a0] em_v (f_X4_resets g a0) := by
  refine sm_of (own := "PatchCordsModel") rfl rfl (bl rfl) (fun Y C hR hA hl hm => ?_)
  subst hl
  refine s_lv (L' := [(0, .ref a0)]) [0] rfl ?_
  refine s_top ?_
  unfold f_X4_resets
  refine s_iconst (v := 0) C dX4_resets_0 (by decide) 1 rfl ?_
  refine s_istore_n C dX4_resets_1 rfl (by decide) 2 rfl [(1, .int 0), (0, .ref a0)] rfl ?_
  refine s_lv [1, 0] rfl ?_
  refine s_loop (fun (s1 : Int32) => [(0, .ref a0), (1, .int s1)]) (fun (v12 : Unit) => []) 54 0 rfl (fun v12 => ?_) (fun _ s1 hk2 hx3 => ?_)
  · exact s_vret C rfl dX4_resets_54
  · refine s_iload_n C dX4_resets_2 3 rfl 1 rfl ?_
    refine s_aload_n C dX4_resets_3 4 rfl 0 rfl ?_
    refine s_getR C hR fd_PatchCordsModel_state (Or.inl q1809) dX4_resets_4 7 rfl (fun x4 => ?_)
    refine s_iconst (v := 0) C dX4_resets_7 (by decide) 8 rfl ?_
    refine s_iald C hR dX4_resets_8 9 rfl (fun x5 => ?_)
    refine s_icmp_ge C dX4_resets_9 54 12 (by decide) rfl ?_ ?_
    · refine s_r ?_
      refine s_lv [] rfl ?_
      exact hx3 ()
    · refine s_aload_n C dX4_resets_12 13 rfl 0 rfl ?_
      refine s_iload_n C dX4_resets_13 14 rfl 1 rfl ?_
      refine s_iconst (v := 4) C dX4_resets_14 (by decide) 15 rfl ?_
      refine s_iconst (v := 0) C dX4_resets_15 (by decide) 16 rfl ?_
      refine s_call_v (rn_V (As := [.int s1, .int 4, .int 0]) C (ct_at hR hA (ct_on (ct_X4_puts g TA a0 s1 4 0))) (rv_on C hR (q := vw_12) rfl) (lw_V q1892 q1894 qs39 q112 q1895) ⟨rfl, nv_X4_puts⟩ ⟨by decide, by decide⟩ rfl (bl rfl) dX4_resets_16) 19 rfl ?_
      refine s_aload_n C dX4_resets_19 20 rfl 0 rfl ?_
      refine s_iload_n C dX4_resets_20 21 rfl 1 rfl ?_
      refine s_iconst (v := 3) C dX4_resets_21 (by decide) 22 rfl ?_
      refine s_aload_n C dX4_resets_22 23 rfl 0 rfl ?_
      refine s_iload_n C dX4_resets_23 24 rfl 1 rfl ?_
      refine s_call_i (rn_V (As := [.int s1]) C (ct_at hR hA (ct_on (ct_X4_kind g TA a0 s1))) (rv_on C hR (q := vw_12) rfl) (lw_V q1912 q1914 qs43 q112 q1915) ⟨rfl, nv_X4_kind⟩ ⟨by decide, by decide⟩ rfl (bl rfl) dX4_resets_24) 27 rfl (fun x7 => ?_)
      refine s_iconst (v := 1) C dX4_resets_27 (by decide) 28 rfl ?_
      refine s_cut (J := 45) (LJ := (fun (v8 : Int32) => [(0, .ref a0), (1, .int s1)])) (SJ := (fun (v8 : Int32) => [.int v8, .int 3, .int s1, .ref a0])) (fun v8 => ?_) (fun _ _ hK9 => ?_)
      · refine s_call_v (rn_V (As := [.int s1, .int 3, .int v8]) C (ct_at hR hA (ct_on (ct_X4_puts g TA a0 s1 3 v8))) (rv_on C hR (q := vw_12) rfl) (lw_V q1892 q1894 qs39 q112 q1895) ⟨rfl, nv_X4_puts⟩ ⟨by decide, by decide⟩ rfl (bl rfl) dX4_resets_45) 48 rfl ?_
        refine s_iinc C dX4_resets_48 (s1 + 1) rfl 1 rfl (by decide) 51 rfl [(1, .int (s1 + 1)), (0, .ref a0)] rfl ?_
        refine s_goto C dX4_resets_51 2 (by decide) ?_
        refine s_r ?_
        refine s_lv [1, 0] rfl ?_
        exact hk2 (s1 + 1)
      · refine s_icmp_ne C dX4_resets_28 44 31 (by decide) rfl ?_ ?_
        · refine s_sipush (v := 1000) C dX4_resets_31 (by decide) 34 rfl ?_
          refine s_aload_n C dX4_resets_34 35 rfl 0 rfl ?_
          refine s_iload_n C dX4_resets_35 36 rfl 1 rfl ?_
          refine s_iconst (v := 1) C dX4_resets_36 (by decide) 37 rfl ?_
          refine s_call_i (rn_V (As := [.int s1, .int 1]) C (ct_at hR hA (ct_on (ct_X4_of g TA a0 s1 1))) (rv_on C hR (q := vw_12) rfl) (lw_V q1916 q1918 qs44 q112 q1919) ⟨rfl, nv_X4_of⟩ ⟨by decide, by decide⟩ rfl (bl rfl) dX4_resets_37) 40 rfl (fun x10 => ?_)
          refine s_imul C dX4_resets_40 41 rfl ?_
          refine s_goto C dX4_resets_41 45 (by decide) ?_
          refine s_r ?_
          refine s_lv [0, 1] rfl ?_
          exact hK9 (1000 * x10)
        · refine s_iconst (v := 0) C dX4_resets_44 (by decide) 45 rfl ?_
          refine s_r ?_
          refine s_lv [0, 1] rfl ?_
          exact hK9 0
theorem nv_X4_setMode : yX4_setMode.cls ≠ "java/lang/invoke/MethodHandle" ∧ yX4_setMode.cls ≠ "java/lang/invoke/VarHandle" ∧ (parseMethodDescriptor yX4_setMode.desc).map (fun d => d.parameters.length) = some 1 := by decide +kernel
theorem ct_X4_setMode {l : Launch} (g : sm_G) (TA : Nat → Prop) (a0 : Nat) (p0 : Int32) : sm_CT l g (so_R g TA) (so_A g TA) yX4_setMode cX4_setMode 3 (some .int) 3 64 [.ref a0, .int p0] em_i (f_X4_setMode g a0 p0) := by
  refine sm_of (own := "PatchCordsModel") rfl rfl (bl rfl) (fun Y C hR hA hl hm => ?_)
  subst hl
  refine s_lv (L' := [(0, .ref a0), (1, .int p0)]) [0, 1] rfl ?_
  refine s_top ?_
  unfold f_X4_setMode
  refine s_aload_n C dX4_setMode_0 1 rfl 0 rfl ?_
  refine s_iload_n C dX4_setMode_1 2 rfl 1 rfl ?_
  refine s_iconst (v := 0) C dX4_setMode_2 (by decide) 3 rfl ?_
  refine s_iconst (v := 2) C dX4_setMode_3 (by decide) 4 rfl ?_
  refine s_call_i (rn_S (As := [.int p0, .int 0, .int 2]) C (ct_at hR hA (ct_X4_within g TA p0 0 2)) (lw_S q1877 q1878 q112 q1879) nv_X4_within ⟨by decide, by decide⟩ rfl (bl rfl) dX4_setMode_4) 7 rfl (fun x1 => ?_)
  refine s_cut (J := 15) (LJ := (fun (v2 : Int32) => [(0, .ref a0), (1, .int p0)])) (SJ := (fun (v2 : Int32) => [.int v2, .ref a0])) (fun v2 => ?_) (fun _ _ hK3 => ?_)
  · refine s_put C hR hA fd_PatchCordsModel_thrown (Or.inl q1808) dX4_setMode_15 rfl rfl 18 rfl ?_
    refine s_aload_n C dX4_setMode_18 19 rfl 0 rfl ?_
    refine s_getI C hR fd_PatchCordsModel_thrown (Or.inl q1808) dX4_setMode_19 22 rfl (fun x4 => ?_)
    refine s_if_le C dX4_setMode_22 27 25 (by decide) rfl ?_ ?_
    · refine s_aload_n C dX4_setMode_27 28 rfl 0 rfl ?_
      refine s_call_v (rn_V (As := []) C (ct_at hR hA (ct_on (ct_X4_saves g TA a0))) (rv_on C hR (q := vw_12) rfl) (lw_V q1884 q1886 qs37 q112 q1887) ⟨rfl, nv_X4_saves⟩ ⟨by decide, by decide⟩ rfl (bl rfl) dX4_setMode_28) 31 rfl ?_
      refine s_aload_n C dX4_setMode_31 32 rfl 0 rfl ?_
      refine s_getR C hR fd_PatchCordsModel_state (Or.inl q1809) dX4_setMode_32 35 rfl (fun x6 => ?_)
      refine s_iconst (v := 1) C dX4_setMode_35 (by decide) 36 rfl ?_
      refine s_iald C hR dX4_setMode_36 37 rfl (fun x7 => ?_)
      refine s_istore_n C dX4_setMode_37 rfl (by decide) 38 rfl [(2, .int x7), (0, .ref a0), (1, .int p0)] rfl ?_
      refine s_aload_n C dX4_setMode_38 39 rfl 1 rfl ?_
      refine s_getR C hR fd_PatchCordsModel_state (Or.inl q1809) dX4_setMode_39 42 rfl (fun x8 => ?_)
      refine s_iconst (v := 1) C dX4_setMode_42 (by decide) 43 rfl ?_
      refine s_iload_n C dX4_setMode_43 44 rfl 2 rfl ?_
      refine s_iast C hR hA dX4_setMode_44 45 rfl ?_
      refine s_iload_n C dX4_setMode_45 46 rfl 2 rfl ?_
      refine s_cut (J := 53) (LJ := (fun (v9 : Unit) => [(2, .int x7)])) (SJ := (fun (v9 : Unit) => [])) (fun v9 => ?_) (fun _ _ hK10 => ?_)
      · refine s_iload_n C dX4_setMode_53 54 rfl 0 rfl ?_
        exact s_iret C rfl rfl dX4_setMode_54
      · refine s_if_ne C dX4_setMode_46 53 49 (by decide) rfl ?_ ?_
        · refine s_aload_n C dX4_setMode_49 50 rfl 1 rfl ?_
          refine s_call_v (rn_V (As := []) C (ct_at hR hA (ct_on (ct_X4_resets g TA a0))) (rv_on C hR (q := vw_12) rfl) (lw_V q2058 q2060 qs69 q112 q2061) ⟨rfl, nv_X4_resets⟩ ⟨by decide, by decide⟩ rfl (bl rfl) dX4_setMode_50) 53 rfl ?_
          refine s_r ?_
          refine s_lv [0] rfl ?_
          exact hK10 ()
        · refine s_r ?_
          refine s_lv [0] rfl ?_
          exact hK10 ()
    · refine s_iconst (v := 0) C dX4_setMode_25 (by decide) 26 rfl ?_
      exact s_iret C rfl rfl dX4_setMode_26
  · refine s_if_eq C dX4_setMode_7 14 10 (by decide) rfl ?_ ?_
    · refine s_iconst (v := 1) C dX4_setMode_14 (by decide) 15 rfl ?_
      refine s_r ?_
      refine s_lv [0, 1] rfl ?_
      exact hK3 1
    · refine s_iconst (v := 0) C dX4_setMode_10 (by decide) 11 rfl ?_
      refine s_goto C dX4_setMode_11 15 (by decide) ?_
      refine s_r ?_
      refine s_lv [0, 1] rfl ?_
      exact hK3 0
theorem nv_X4_setWay : yX4_setWay.cls ≠ "java/lang/invoke/MethodHandle" ∧ yX4_setWay.cls ≠ "java/lang/invoke/VarHandle" ∧ (parseMethodDescriptor yX4_setWay.desc).map (fun d => d.parameters.length) = some 1 := by decide +kernel
theorem ct_X4_setWay {l : Launch} (g : sm_G) (TA : Nat → Prop) (a0 : Nat) (p0 : Int32) : sm_CT l g (so_R g TA) (so_A g TA) yX4_setWay cX4_setWay 3 (some .int) 1 22 [.ref a0, .int p0] em_i (f_X4_setWay g a0 p0) := by
  refine sm_of (own := "PatchCordsModel") rfl rfl (bl rfl) (fun Y C hR hA hl hm => ?_)
  subst hl
  refine s_lv (L' := [(0, .ref a0), (1, .int p0)]) [0, 1] rfl ?_
  refine s_top ?_
  unfold f_X4_setWay
  refine s_aload_n C dX4_setWay_0 1 rfl 0 rfl ?_
  refine s_iload_n C dX4_setWay_1 2 rfl 1 rfl ?_
  refine s_iconst (v := 0) C dX4_setWay_2 (by decide) 3 rfl ?_
  refine s_iconst (v := 1) C dX4_setWay_3 (by decide) 4 rfl ?_
  refine s_call_i (rn_S (As := [.int p0, .int 0, .int 1]) C (ct_at hR hA (ct_X4_within g TA p0 0 1)) (lw_S q1877 q1878 q112 q1879) nv_X4_within ⟨by decide, by decide⟩ rfl (bl rfl) dX4_setWay_4) 7 rfl (fun x1 => ?_)
  refine s_cut (J := 15) (LJ := (fun (v2 : Int32) => [(0, .ref a0), (1, .int p0)])) (SJ := (fun (v2 : Int32) => [.int v2, .ref a0])) (fun v2 => ?_) (fun _ _ hK3 => ?_)
  · refine s_put C hR hA fd_PatchCordsModel_thrown (Or.inl q1808) dX4_setWay_15 rfl rfl 18 rfl ?_
    refine s_aload_n C dX4_setWay_18 19 rfl 0 rfl ?_
    refine s_getI C hR fd_PatchCordsModel_thrown (Or.inl q1808) dX4_setWay_19 22 rfl (fun x4 => ?_)
    refine s_if_le C dX4_setWay_22 27 25 (by decide) rfl ?_ ?_
    · refine s_aload_n C dX4_setWay_27 28 rfl 0 rfl ?_
      refine s_call_v (rn_V (As := []) C (ct_at hR hA (ct_on (ct_X4_saves g TA a0))) (rv_on C hR (q := vw_12) rfl) (lw_V q1884 q1886 qs37 q112 q1887) ⟨rfl, nv_X4_saves⟩ ⟨by decide, by decide⟩ rfl (bl rfl) dX4_setWay_28) 31 rfl ?_
      refine s_aload_n C dX4_setWay_31 32 rfl 0 rfl ?_
      refine s_getR C hR fd_PatchCordsModel_state (Or.inl q1809) dX4_setWay_32 35 rfl (fun x6 => ?_)
      refine s_iconst (v := 2) C dX4_setWay_35 (by decide) 36 rfl ?_
      refine s_iald C hR dX4_setWay_36 37 rfl (fun x7 => ?_)
      refine s_istore_n C dX4_setWay_37 rfl (by decide) 38 rfl [(2, .int x7), (0, .ref a0), (1, .int p0)] rfl ?_
      refine s_aload_n C dX4_setWay_38 39 rfl 1 rfl ?_
      refine s_getR C hR fd_PatchCordsModel_state (Or.inl q1809) dX4_setWay_39 42 rfl (fun x8 => ?_)
      refine s_iconst (v := 2) C dX4_setWay_42 (by decide) 43 rfl ?_
      refine s_iload_n C dX4_setWay_43 44 rfl 2 rfl ?_
      refine s_iast C hR hA dX4_setWay_44 45 rfl ?_
      refine s_iload_n C dX4_setWay_45 46 rfl 0 rfl ?_
      exact s_iret C rfl rfl dX4_setWay_46
    · refine s_iconst (v := 0) C dX4_setWay_25 (by decide) 26 rfl ?_
      exact s_iret C rfl rfl dX4_setWay_26
  · refine s_if_eq C dX4_setWay_7 14 10 (by decide) rfl ?_ ?_
    · refine s_iconst (v := 1) C dX4_setWay_14 (by decide) 15 rfl ?_
      refine s_r ?_
      refine s_lv [0, 1] rfl ?_
      exact hK3 1
    · refine s_iconst (v := 0) C dX4_setWay_10 (by decide) 11 rfl ?_
      refine s_goto C dX4_setWay_11 15 (by decide) ?_
      refine s_r ?_
      refine s_lv [0, 1] rfl ?_
      exact hK3 0
theorem nv_X4_turnGuard : yX4_turnGuard.cls ≠ "java/lang/invoke/MethodHandle" ∧ yX4_turnGuard.cls ≠ "java/lang/invoke/VarHandle" ∧ (parseMethodDescriptor yX4_turnGuard.desc).map (fun d => d.parameters.length) = some 0 := by decide +kernel
theorem ct_X4_turnGuard {l : Launch} (g : sm_G) (TA : Nat → Prop) (a0 : Nat) : sm_CT l g (so_R g TA) (so_A g TA) yX4_turnGuard cX4_turnGuard 1 (some .boolean) 1 21 [.ref a0] em_i (f_X4_turnGuard g a0) := by
  refine sm_of (own := "PatchCordsModel") rfl rfl (bl rfl) (fun Y C hR hA hl hm => ?_)
  subst hl
  refine s_lv (L' := [(0, .ref a0)]) [0] rfl ?_
  refine s_top ?_
  unfold f_X4_turnGuard
  refine s_aload_n C dX4_turnGuard_0 1 rfl 0 rfl ?_
  refine s_iconst (v := 0) C dX4_turnGuard_1 (by decide) 2 rfl ?_
  refine s_put C hR hA fd_PatchCordsModel_thrown (Or.inl q1808) dX4_turnGuard_2 rfl rfl 5 rfl ?_
  refine s_aload_n C dX4_turnGuard_5 6 rfl 0 rfl ?_
  refine s_call_v (rn_V (As := []) C (ct_at hR hA (ct_on (ct_X4_saves g TA a0))) (rv_on C hR (q := vw_12) rfl) (lw_V q1884 q1886 qs37 q112 q1887) ⟨rfl, nv_X4_saves⟩ ⟨by decide, by decide⟩ rfl (bl rfl) dX4_turnGuard_6) 9 rfl ?_
  refine s_aload_n C dX4_turnGuard_9 10 rfl 0 rfl ?_
  refine s_getR C hR fd_PatchCordsModel_state (Or.inl q1809) dX4_turnGuard_10 13 rfl (fun x2 => ?_)
  refine s_iconst (v := 3) C dX4_turnGuard_13 (by decide) 14 rfl ?_
  refine s_iconst (v := 1) C dX4_turnGuard_14 (by decide) 15 rfl ?_
  refine s_aload_n C dX4_turnGuard_15 16 rfl 0 rfl ?_
  refine s_getR C hR fd_PatchCordsModel_state (Or.inl q1809) dX4_turnGuard_16 19 rfl (fun x3 => ?_)
  refine s_iconst (v := 3) C dX4_turnGuard_19 (by decide) 20 rfl ?_
  refine s_iald C hR dX4_turnGuard_20 21 rfl (fun x4 => ?_)
  refine s_isub C dX4_turnGuard_21 22 rfl ?_
  refine s_iast C hR hA dX4_turnGuard_22 23 rfl ?_
  refine s_aload_n C dX4_turnGuard_23 24 rfl 0 rfl ?_
  refine s_getR C hR fd_PatchCordsModel_state (Or.inl q1809) dX4_turnGuard_24 27 rfl (fun x5 => ?_)
  refine s_iconst (v := 3) C dX4_turnGuard_27 (by decide) 28 rfl ?_
  refine s_iald C hR dX4_turnGuard_28 29 rfl (fun x6 => ?_)
  refine s_iconst (v := 1) C dX4_turnGuard_29 (by decide) 30 rfl ?_
  refine s_cut (J := 38) (LJ := (fun (v7 : Int32) => [])) (SJ := (fun (v7 : Int32) => [.int v7])) (fun v7 => ?_) (fun _ _ hK8 => ?_)
  · refine s_zb (fun h => ?_)
    exact s_iret C rfl (s_zn h) dX4_turnGuard_38
  · refine s_icmp_ne C dX4_turnGuard_30 37 33 (by decide) rfl ?_ ?_
    · refine s_iconst (v := 1) C dX4_turnGuard_33 (by decide) 34 rfl ?_
      refine s_goto C dX4_turnGuard_34 38 (by decide) ?_
      refine s_r ?_
      refine s_lv [] rfl ?_
      exact hK8 1
    · refine s_iconst (v := 0) C dX4_turnGuard_37 (by decide) 38 rfl ?_
      refine s_r ?_
      refine s_lv [] rfl ?_
      exact hK8 0
theorem nv_X4_record : yX4_record.cls ≠ "java/lang/invoke/MethodHandle" ∧ yX4_record.cls ≠ "java/lang/invoke/VarHandle" ∧ (parseMethodDescriptor yX4_record.desc).map (fun d => d.parameters.length) = some 1 := by decide +kernel
theorem ct_X4_record {l : Launch} (g : sm_G) (TA : Nat → Prop) (a0 : Nat) (p0 : Int32) : sm_CT l g (so_R g TA) (so_A g TA) yX4_record cX4_record 4 (some .int) 2 43 [.ref a0, .int p0] em_i (f_X4_record g a0 p0) := by
  refine sm_of (own := "PatchCordsModel") rfl rfl (bl rfl) (fun Y C hR hA hl hm => ?_)
  subst hl
  refine s_lv (L' := [(0, .ref a0), (1, .int p0)]) [0, 1] rfl ?_
  refine s_top ?_
  unfold f_X4_record
  refine s_aload_n C dX4_record_0 1 rfl 0 rfl ?_
  refine s_iload_n C dX4_record_1 2 rfl 1 rfl ?_
  refine s_iconst (v := (-1)) C dX4_record_2 (by decide) 3 rfl ?_
  refine s_cut (J := 19) (LJ := (fun (v1 : Int32) => [(0, .ref a0), (1, .int p0)])) (SJ := (fun (v1 : Int32) => [.int v1, .ref a0])) (fun v1 => ?_) (fun _ _ hK2 => ?_)
  · refine s_put C hR hA fd_PatchCordsModel_thrown (Or.inl q1808) dX4_record_19 rfl rfl 22 rfl ?_
    refine s_aload_n C dX4_record_22 23 rfl 0 rfl ?_
    refine s_getI C hR fd_PatchCordsModel_thrown (Or.inl q1808) dX4_record_23 26 rfl (fun x4 => ?_)
    refine s_if_le C dX4_record_26 31 29 (by decide) rfl ?_ ?_
    · refine s_aload_n C dX4_record_31 32 rfl 0 rfl ?_
      refine s_call_v (rn_V (As := []) C (ct_at hR hA (ct_on (ct_X4_saves g TA a0))) (rv_on C hR (q := vw_12) rfl) (lw_V q1884 q1886 qs37 q112 q1887) ⟨rfl, nv_X4_saves⟩ ⟨by decide, by decide⟩ rfl (bl rfl) dX4_record_32) 35 rfl ?_
      refine s_aload_n C dX4_record_35 36 rfl 0 rfl ?_
      refine s_getR C hR fd_PatchCordsModel_state (Or.inl q1809) dX4_record_36 39 rfl (fun x6 => ?_)
      refine s_iconst (v := 5) C dX4_record_39 (by decide) 40 rfl ?_
      refine s_iald C hR dX4_record_40 41 rfl (fun x7 => ?_)
      refine s_istore_n C dX4_record_41 rfl (by decide) 42 rfl [(2, .int x7), (0, .ref a0), (1, .int p0)] rfl ?_
      refine s_aload_n C dX4_record_42 43 rfl 1 rfl ?_
      refine s_getR C hR fd_PatchCordsModel_state (Or.inl q1809) dX4_record_43 46 rfl (fun x8 => ?_)
      refine s_iconst (v := 5) C dX4_record_46 (by decide) 47 rfl ?_
      refine s_iload_n C dX4_record_47 48 rfl 2 rfl ?_
      refine s_iast C hR hA dX4_record_48 49 rfl ?_
      refine s_iconst (v := 0) C dX4_record_49 (by decide) 50 rfl ?_
      refine s_istore_n C dX4_record_50 rfl (by decide) 51 rfl [(3, .int 0), (2, .int x7), (0, .ref a0), (1, .int p0)] rfl ?_
      refine s_lv [2, 1, 0] rfl ?_
      refine s_loop (fun (s9 : Int32) => [(0, .ref a0), (2, .int x7), (3, .int s9)]) (fun (v13 : Unit) => [(0, .ref a0), (2, .int x7)]) 73 0 rfl (fun v13 => ?_) (fun _ s9 hk10 hx11 => ?_)
      · refine s_aload_n C dX4_record_73 74 rfl 0 rfl ?_
        refine s_getR C hR fd_PatchCordsModel_state (Or.inl q1809) dX4_record_74 77 rfl (fun x14 => ?_)
        refine s_bipush (v := 6) C dX4_record_77 (by decide) 79 rfl ?_
        refine s_iconst (v := 0) C dX4_record_79 (by decide) 80 rfl ?_
        refine s_iast C hR hA dX4_record_80 81 rfl ?_
        refine s_aload_n C dX4_record_81 82 rfl 0 rfl ?_
        refine s_getR C hR fd_PatchCordsModel_state (Or.inl q1809) dX4_record_82 85 rfl (fun x15 => ?_)
        refine s_bipush (v := 7) C dX4_record_85 (by decide) 87 rfl ?_
        refine s_iconst (v := 0) C dX4_record_87 (by decide) 88 rfl ?_
        refine s_iast C hR hA dX4_record_88 89 rfl ?_
        refine s_aload_n C dX4_record_89 90 rfl 0 rfl ?_
        refine s_getR C hR fd_PatchCordsModel_state (Or.inl q1809) dX4_record_90 93 rfl (fun x16 => ?_)
        refine s_bipush (v := 8) C dX4_record_93 (by decide) 95 rfl ?_
        refine s_iconst (v := (-1)) C dX4_record_95 (by decide) 96 rfl ?_
        refine s_iast C hR hA dX4_record_96 97 rfl ?_
        refine s_aload_n C dX4_record_97 98 rfl 0 rfl ?_
        refine s_getR C hR fd_PatchCordsModel_state (Or.inl q1809) dX4_record_98 101 rfl (fun x17 => ?_)
        refine s_bipush (v := 9) C dX4_record_101 (by decide) 103 rfl ?_
        refine s_iconst (v := (-1)) C dX4_record_103 (by decide) 104 rfl ?_
        refine s_iast C hR hA dX4_record_104 105 rfl ?_
        refine s_iload_n C dX4_record_105 106 rfl 1 rfl ?_
        exact s_iret C rfl rfl dX4_record_106
      · refine s_iload_n C dX4_record_51 52 rfl 2 rfl ?_
        refine s_bipush (v := 24) C dX4_record_52 (by decide) 54 rfl ?_
        refine s_icmp_ge C dX4_record_54 73 57 (by decide) rfl ?_ ?_
        · refine s_r ?_
          refine s_lv [0, 1] rfl ?_
          exact hx11 ()
        · refine s_aload_n C dX4_record_57 58 rfl 0 rfl ?_
          refine s_getR C hR fd_PatchCordsModel_state (Or.inl q1809) dX4_record_58 61 rfl (fun x12 => ?_)
          refine s_bipush (v := 10) C dX4_record_61 (by decide) 63 rfl ?_
          refine s_iload_n C dX4_record_63 64 rfl 2 rfl ?_
          refine s_iadd C dX4_record_64 65 rfl ?_
          refine s_iconst (v := 0) C dX4_record_65 (by decide) 66 rfl ?_
          refine s_iast C hR hA dX4_record_66 67 rfl ?_
          refine s_iinc C dX4_record_67 (s9 + 1) rfl 2 rfl (by decide) 70 rfl [(3, .int (s9 + 1)), (0, .ref a0), (2, .int x7)] rfl ?_
          refine s_goto C dX4_record_70 51 (by decide) ?_
          refine s_r ?_
          refine s_lv [1, 2, 0] rfl ?_
          exact hk10 (s9 + 1)
    · refine s_iconst (v := 0) C dX4_record_29 (by decide) 30 rfl ?_
      exact s_iret C rfl rfl dX4_record_30
  · refine s_icmp_eq C dX4_record_3 14 6 (by decide) rfl ?_ ?_
    · refine s_iconst (v := 0) C dX4_record_14 (by decide) 15 rfl ?_
      refine s_goto C dX4_record_15 19 (by decide) ?_
      refine s_r ?_
      refine s_lv [0, 1] rfl ?_
      exact hK2 0
    · refine s_aload_n C dX4_record_6 7 rfl 0 rfl ?_
      refine s_iload_n C dX4_record_7 8 rfl 1 rfl ?_
      refine s_call_i (rn_V (As := [.int p0]) C (ct_at hR hA (ct_on (ct_X4_isModule g TA a0 p0))) (rv_on C hR (q := vw_12) rfl) (lw_V q1904 q1906 qs41 q112 q1907) ⟨rfl, nv_X4_isModule⟩ ⟨by decide, by decide⟩ rfl (bl rfl) dX4_record_8) 11 rfl (fun x3 => ?_)
      refine s_if_eq C dX4_record_11 18 14 (by decide) rfl ?_ ?_
      · refine s_iconst (v := 1) C dX4_record_18 (by decide) 19 rfl ?_
        refine s_r ?_
        refine s_lv [0, 1] rfl ?_
        exact hK2 1
      · refine s_iconst (v := 0) C dX4_record_14 (by decide) 15 rfl ?_
        refine s_goto C dX4_record_15 19 (by decide) ?_
        refine s_r ?_
        refine s_lv [0, 1] rfl ?_
        exact hK2 0
theorem nv_X4_tells : yX4_tells.cls ≠ "java/lang/invoke/MethodHandle" ∧ yX4_tells.cls ≠ "java/lang/invoke/VarHandle" ∧ (parseMethodDescriptor yX4_tells.desc).map (fun d => d.parameters.length) = some 1 := by decide +kernel
theorem ct_X4_tells {l : Launch} (g : sm_G) (TA : Nat → Prop) (a0 : Nat) (p0 : Int32) : sm_CT l g (so_R g TA) (so_A g TA) yX4_tells cX4_tells 2 (some .int) 0 0 [.ref a0, .int p0] em_i (f_X4_tells g a0 p0) := by
  refine sm_of (own := "PatchCordsModel") rfl rfl (bl rfl) (fun Y C hR hA hl hm => ?_)
  subst hl
  refine s_lv (L' := [(0, .ref a0), (1, .int p0)]) [0, 1] rfl ?_
  refine s_top ?_
  unfold f_X4_tells
  refine s_aload_n C dX4_tells_0 1 rfl 0 rfl ?_
  refine s_iconst (v := 0) C dX4_tells_1 (by decide) 2 rfl ?_
  refine s_put C hR hA fd_PatchCordsModel_thrown (Or.inl q1808) dX4_tells_2 rfl rfl 5 rfl ?_
  refine s_iload_n C dX4_tells_5 6 rfl 1 rfl ?_
  exact s_iret C rfl rfl dX4_tells_6
theorem nv_X4_modules : yX4_modules.cls ≠ "java/lang/invoke/MethodHandle" ∧ yX4_modules.cls ≠ "java/lang/invoke/VarHandle" ∧ (parseMethodDescriptor yX4_modules.desc).map (fun d => d.parameters.length) = some 0 := by decide +kernel
theorem ct_X4_modules {l : Launch} (g : sm_G) (TA : Nat → Prop) (a0 : Nat) : sm_CT l g (so_R g TA) (so_A g TA) yX4_modules cX4_modules 1 (some .int) 1 21 [.ref a0] em_i (f_X4_modules g a0) := by
  refine sm_of (own := "PatchCordsModel") rfl rfl (bl rfl) (fun Y C hR hA hl hm => ?_)
  subst hl
  refine s_lv (L' := [(0, .ref a0)]) [0] rfl ?_
  refine s_top ?_
  unfold f_X4_modules
  refine s_aload_n C dX4_modules_0 1 rfl 0 rfl ?_
  refine s_aload_n C dX4_modules_1 2 rfl 0 rfl ?_
  refine s_getR C hR fd_PatchCordsModel_state (Or.inl q1809) dX4_modules_2 5 rfl (fun x1 => ?_)
  refine s_iconst (v := 0) C dX4_modules_5 (by decide) 6 rfl ?_
  refine s_iald C hR dX4_modules_6 7 rfl (fun x2 => ?_)
  refine s_call_i (rn_V (As := [.int x2]) C (ct_at hR hA (ct_on (ct_X4_tells g TA a0 x2))) (rv_on C hR (q := vw_12) rfl) (lw_V q2078 q2080 qs70 q112 q2081) ⟨rfl, nv_X4_tells⟩ ⟨by decide, by decide⟩ rfl (bl rfl) dX4_modules_7) 10 rfl (fun x3 => ?_)
  exact s_iret C rfl rfl dX4_modules_10
theorem nv_X4_asks : yX4_asks.cls ≠ "java/lang/invoke/MethodHandle" ∧ yX4_asks.cls ≠ "java/lang/invoke/VarHandle" ∧ (parseMethodDescriptor yX4_asks.desc).map (fun d => d.parameters.length) = some 1 := by decide +kernel
theorem ct_X4_asks {l : Launch} (g : sm_G) (TA : Nat → Prop) (a0 : Nat) (p0 : Int32) : sm_CT l g (so_R g TA) (so_A g TA) yX4_asks cX4_asks 2 (some .boolean) 2 43 [.ref a0, .int p0] em_i (f_X4_asks g a0 p0) := by
  refine sm_of (own := "PatchCordsModel") rfl rfl (bl rfl) (fun Y C hR hA hl hm => ?_)
  subst hl
  refine s_lv (L' := [(0, .ref a0), (1, .int p0)]) [0, 1] rfl ?_
  refine s_top ?_
  unfold f_X4_asks
  refine s_aload_n C dX4_asks_0 1 rfl 0 rfl ?_
  refine s_aload_n C dX4_asks_1 2 rfl 0 rfl ?_
  refine s_iload_n C dX4_asks_2 3 rfl 1 rfl ?_
  refine s_call_i (rn_V (As := [.int p0]) C (ct_at hR hA (ct_on (ct_X4_isModule g TA a0 p0))) (rv_on C hR (q := vw_12) rfl) (lw_V q1904 q1906 qs41 q112 q1907) ⟨rfl, nv_X4_isModule⟩ ⟨by decide, by decide⟩ rfl (bl rfl) dX4_asks_3) 6 rfl (fun x1 => ?_)
  refine s_cut (J := 14) (LJ := (fun (v2 : Int32) => [(0, .ref a0)])) (SJ := (fun (v2 : Int32) => [.int v2, .ref a0])) (fun v2 => ?_) (fun _ _ hK3 => ?_)
  · refine s_put C hR hA fd_PatchCordsModel_thrown (Or.inl q1808) dX4_asks_14 rfl rfl 17 rfl ?_
    refine s_aload_n C dX4_asks_17 18 rfl 0 rfl ?_
    refine s_getI C hR fd_PatchCordsModel_thrown (Or.inl q1808) dX4_asks_18 21 rfl (fun x4 => ?_)
    refine s_cut (J := 29) (LJ := (fun (v5 : Int32) => [])) (SJ := (fun (v5 : Int32) => [.int v5])) (fun v5 => ?_) (fun _ _ hK6 => ?_)
    · refine s_zb (fun h => ?_)
      exact s_iret C rfl (s_zn h) dX4_asks_29
    · refine s_if_ne C dX4_asks_21 28 24 (by decide) rfl ?_ ?_
      · refine s_iconst (v := 1) C dX4_asks_24 (by decide) 25 rfl ?_
        refine s_goto C dX4_asks_25 29 (by decide) ?_
        refine s_r ?_
        refine s_lv [] rfl ?_
        exact hK6 1
      · refine s_iconst (v := 0) C dX4_asks_28 (by decide) 29 rfl ?_
        refine s_r ?_
        refine s_lv [] rfl ?_
        exact hK6 0
  · refine s_if_eq C dX4_asks_6 13 9 (by decide) rfl ?_ ?_
    · refine s_iconst (v := 1) C dX4_asks_13 (by decide) 14 rfl ?_
      refine s_r ?_
      refine s_lv [0] rfl ?_
      exact hK3 1
    · refine s_iconst (v := 0) C dX4_asks_9 (by decide) 10 rfl ?_
      refine s_goto C dX4_asks_10 14 (by decide) ?_
      refine s_r ?_
      refine s_lv [0] rfl ?_
      exact hK3 0
theorem nv_X4_kindOf : yX4_kindOf.cls ≠ "java/lang/invoke/MethodHandle" ∧ yX4_kindOf.cls ≠ "java/lang/invoke/VarHandle" ∧ (parseMethodDescriptor yX4_kindOf.desc).map (fun d => d.parameters.length) = some 1 := by decide +kernel
theorem ct_X4_kindOf {l : Launch} (g : sm_G) (TA : Nat → Prop) (a0 : Nat) (p0 : Int32) : sm_CT l g (so_R g TA) (so_A g TA) yX4_kindOf cX4_kindOf 2 (some .int) 3 64 [.ref a0, .int p0] em_i (f_X4_kindOf g a0 p0) := by
  refine sm_of (own := "PatchCordsModel") rfl rfl (bl rfl) (fun Y C hR hA hl hm => ?_)
  subst hl
  refine s_lv (L' := [(0, .ref a0), (1, .int p0)]) [0, 1] rfl ?_
  refine s_top ?_
  unfold f_X4_kindOf
  refine s_aload_n C dX4_kindOf_0 1 rfl 0 rfl ?_
  refine s_iload_n C dX4_kindOf_1 2 rfl 1 rfl ?_
  refine s_call_i (rn_V (As := [.int p0]) C (ct_at hR hA (ct_on (ct_X4_asks g TA a0 p0))) (rv_on C hR (q := vw_12) rfl) (lw_V q2086 q2088 qs71 q112 q2089) ⟨rfl, nv_X4_asks⟩ ⟨by decide, by decide⟩ rfl (bl rfl) dX4_kindOf_2) 5 rfl (fun x1 => ?_)
  refine s_cut (J := 17) (LJ := (fun (v2 : Int32) => [])) (SJ := (fun (v2 : Int32) => [.int v2])) (fun v2 => ?_) (fun _ _ hK3 => ?_)
  · exact s_iret C rfl rfl dX4_kindOf_17
  · refine s_if_eq C dX4_kindOf_5 16 8 (by decide) rfl ?_ ?_
    · refine s_iconst (v := 0) C dX4_kindOf_16 (by decide) 17 rfl ?_
      refine s_r ?_
      refine s_lv [] rfl ?_
      exact hK3 0
    · refine s_aload_n C dX4_kindOf_8 9 rfl 0 rfl ?_
      refine s_iload_n C dX4_kindOf_9 10 rfl 1 rfl ?_
      refine s_call_i (rn_V (As := [.int p0]) C (ct_at hR hA (ct_on (ct_X4_kind g TA a0 p0))) (rv_on C hR (q := vw_12) rfl) (lw_V q1912 q1914 qs43 q112 q1915) ⟨rfl, nv_X4_kind⟩ ⟨by decide, by decide⟩ rfl (bl rfl) dX4_kindOf_10) 13 rfl (fun x4 => ?_)
      refine s_goto C dX4_kindOf_13 17 (by decide) ?_
      refine s_r ?_
      refine s_lv [] rfl ?_
      exact hK3 x4
theorem nv_X4_inputsOf : yX4_inputsOf.cls ≠ "java/lang/invoke/MethodHandle" ∧ yX4_inputsOf.cls ≠ "java/lang/invoke/VarHandle" ∧ (parseMethodDescriptor yX4_inputsOf.desc).map (fun d => d.parameters.length) = some 1 := by decide +kernel
theorem ct_X4_inputsOf {l : Launch} (g : sm_G) (TA : Nat → Prop) (a0 : Nat) (p0 : Int32) : sm_CT l g (so_R g TA) (so_A g TA) yX4_inputsOf cX4_inputsOf 2 (some .int) 3 64 [.ref a0, .int p0] em_i (f_X4_inputsOf g a0 p0) := by
  refine sm_of (own := "PatchCordsModel") rfl rfl (bl rfl) (fun Y C hR hA hl hm => ?_)
  subst hl
  refine s_lv (L' := [(0, .ref a0), (1, .int p0)]) [0, 1] rfl ?_
  refine s_top ?_
  unfold f_X4_inputsOf
  refine s_aload_n C dX4_inputsOf_0 1 rfl 0 rfl ?_
  refine s_iload_n C dX4_inputsOf_1 2 rfl 1 rfl ?_
  refine s_call_i (rn_V (As := [.int p0]) C (ct_at hR hA (ct_on (ct_X4_asks g TA a0 p0))) (rv_on C hR (q := vw_12) rfl) (lw_V q2086 q2088 qs71 q112 q2089) ⟨rfl, nv_X4_asks⟩ ⟨by decide, by decide⟩ rfl (bl rfl) dX4_inputsOf_2) 5 rfl (fun x1 => ?_)
  refine s_cut (J := 20) (LJ := (fun (v2 : Int32) => [])) (SJ := (fun (v2 : Int32) => [.int v2])) (fun v2 => ?_) (fun _ _ hK3 => ?_)
  · exact s_iret C rfl rfl dX4_inputsOf_20
  · refine s_if_eq C dX4_inputsOf_5 19 8 (by decide) rfl ?_ ?_
    · refine s_iconst (v := 0) C dX4_inputsOf_19 (by decide) 20 rfl ?_
      refine s_r ?_
      refine s_lv [] rfl ?_
      exact hK3 0
    · refine s_aload_n C dX4_inputsOf_8 9 rfl 0 rfl ?_
      refine s_iload_n C dX4_inputsOf_9 10 rfl 1 rfl ?_
      refine s_call_i (rn_V (As := [.int p0]) C (ct_at hR hA (ct_on (ct_X4_kind g TA a0 p0))) (rv_on C hR (q := vw_12) rfl) (lw_V q1912 q1914 qs43 q112 q1915) ⟨rfl, nv_X4_kind⟩ ⟨by decide, by decide⟩ rfl (bl rfl) dX4_inputsOf_10) 13 rfl (fun x4 => ?_)
      refine s_call_i (rn_S (As := [.int x4]) C (ct_at hR hA (ct_X4_inputsOfKind g TA x4)) (lw_S q1924 q1925 q112 q1926) nv_X4_inputsOfKind ⟨by decide, by decide⟩ rfl (bl rfl) dX4_inputsOf_13) 16 rfl (fun x5 => ?_)
      refine s_goto C dX4_inputsOf_16 20 (by decide) ?_
      refine s_r ?_
      refine s_lv [] rfl ?_
      exact hK3 x5
theorem nv_X4_asksInput : yX4_asksInput.cls ≠ "java/lang/invoke/MethodHandle" ∧ yX4_asksInput.cls ≠ "java/lang/invoke/VarHandle" ∧ (parseMethodDescriptor yX4_asksInput.desc).map (fun d => d.parameters.length) = some 2 := by decide +kernel
theorem ct_X4_asksInput {l : Launch} (g : sm_G) (TA : Nat → Prop) (a0 : Nat) (p0 : Int32) (p1 : Int32) : sm_CT l g (so_R g TA) (so_A g TA) yX4_asksInput cX4_asksInput 3 (some .boolean) 3 65 [.ref a0, .int p0, .int p1] em_i (f_X4_asksInput g a0 p0 p1) := by
  refine sm_of (own := "PatchCordsModel") rfl rfl (bl rfl) (fun Y C hR hA hl hm => ?_)
  subst hl
  refine s_lv (L' := [(0, .ref a0), (1, .int p0), (2, .int p1)]) [0, 1, 2] rfl ?_
  refine s_top ?_
  unfold f_X4_asksInput
  refine s_aload_n C dX4_asksInput_0 1 rfl 0 rfl ?_
  refine s_aload_n C dX4_asksInput_1 2 rfl 0 rfl ?_
  refine s_iload_n C dX4_asksInput_2 3 rfl 1 rfl ?_
  refine s_iload_n C dX4_asksInput_3 4 rfl 2 rfl ?_
  refine s_call_i (rn_V (As := [.int p0, .int p1]) C (ct_at hR hA (ct_on (ct_X4_isInput g TA a0 p0 p1))) (rv_on C hR (q := vw_12) rfl) (lw_V q1920 q1922 qs45 q112 q1923) ⟨rfl, nv_X4_isInput⟩ ⟨by decide, by decide⟩ rfl (bl rfl) dX4_asksInput_4) 7 rfl (fun x1 => ?_)
  refine s_cut (J := 15) (LJ := (fun (v2 : Int32) => [(0, .ref a0)])) (SJ := (fun (v2 : Int32) => [.int v2, .ref a0])) (fun v2 => ?_) (fun _ _ hK3 => ?_)
  · refine s_put C hR hA fd_PatchCordsModel_thrown (Or.inl q1808) dX4_asksInput_15 rfl rfl 18 rfl ?_
    refine s_aload_n C dX4_asksInput_18 19 rfl 0 rfl ?_
    refine s_getI C hR fd_PatchCordsModel_thrown (Or.inl q1808) dX4_asksInput_19 22 rfl (fun x4 => ?_)
    refine s_cut (J := 30) (LJ := (fun (v5 : Int32) => [])) (SJ := (fun (v5 : Int32) => [.int v5])) (fun v5 => ?_) (fun _ _ hK6 => ?_)
    · refine s_zb (fun h => ?_)
      exact s_iret C rfl (s_zn h) dX4_asksInput_30
    · refine s_if_ne C dX4_asksInput_22 29 25 (by decide) rfl ?_ ?_
      · refine s_iconst (v := 1) C dX4_asksInput_25 (by decide) 26 rfl ?_
        refine s_goto C dX4_asksInput_26 30 (by decide) ?_
        refine s_r ?_
        refine s_lv [] rfl ?_
        exact hK6 1
      · refine s_iconst (v := 0) C dX4_asksInput_29 (by decide) 30 rfl ?_
        refine s_r ?_
        refine s_lv [] rfl ?_
        exact hK6 0
  · refine s_if_eq C dX4_asksInput_7 14 10 (by decide) rfl ?_ ?_
    · refine s_iconst (v := 1) C dX4_asksInput_14 (by decide) 15 rfl ?_
      refine s_r ?_
      refine s_lv [0] rfl ?_
      exact hK3 1
    · refine s_iconst (v := 0) C dX4_asksInput_10 (by decide) 11 rfl ?_
      refine s_goto C dX4_asksInput_11 15 (by decide) ?_
      refine s_r ?_
      refine s_lv [0] rfl ?_
      exact hK3 0
theorem nv_X4_cordIn : yX4_cordIn.cls ≠ "java/lang/invoke/MethodHandle" ∧ yX4_cordIn.cls ≠ "java/lang/invoke/VarHandle" ∧ (parseMethodDescriptor yX4_cordIn.desc).map (fun d => d.parameters.length) = some 2 := by decide +kernel
theorem ct_X4_cordIn {l : Launch} (g : sm_G) (TA : Nat → Prop) (a0 : Nat) (p0 : Int32) (p1 : Int32) : sm_CT l g (so_R g TA) (so_A g TA) yX4_cordIn cX4_cordIn 3 (some .int) 4 87 [.ref a0, .int p0, .int p1] em_i (f_X4_cordIn g a0 p0 p1) := by
  refine sm_of (own := "PatchCordsModel") rfl rfl (bl rfl) (fun Y C hR hA hl hm => ?_)
  subst hl
  refine s_lv (L' := [(0, .ref a0), (1, .int p0), (2, .int p1)]) [0, 1, 2] rfl ?_
  refine s_top ?_
  unfold f_X4_cordIn
  refine s_aload_n C dX4_cordIn_0 1 rfl 0 rfl ?_
  refine s_iload_n C dX4_cordIn_1 2 rfl 1 rfl ?_
  refine s_iload_n C dX4_cordIn_2 3 rfl 2 rfl ?_
  refine s_call_i (rn_V (As := [.int p0, .int p1]) C (ct_at hR hA (ct_on (ct_X4_asksInput g TA a0 p0 p1))) (rv_on C hR (q := vw_12) rfl) (lw_V q2098 q2100 qs72 q112 q2101) ⟨rfl, nv_X4_asksInput⟩ ⟨by decide, by decide⟩ rfl (bl rfl) dX4_cordIn_3) 6 rfl (fun x1 => ?_)
  refine s_cut (J := 21) (LJ := (fun (v2 : Int32) => [])) (SJ := (fun (v2 : Int32) => [.int v2])) (fun v2 => ?_) (fun _ _ hK3 => ?_)
  · exact s_iret C rfl rfl dX4_cordIn_21
  · refine s_if_eq C dX4_cordIn_6 20 9 (by decide) rfl ?_ ?_
    · refine s_iconst (v := 0) C dX4_cordIn_20 (by decide) 21 rfl ?_
      refine s_r ?_
      refine s_lv [] rfl ?_
      exact hK3 0
    · refine s_aload_n C dX4_cordIn_9 10 rfl 0 rfl ?_
      refine s_iload_n C dX4_cordIn_10 11 rfl 1 rfl ?_
      refine s_iconst (v := 5) C dX4_cordIn_11 (by decide) 12 rfl ?_
      refine s_iload_n C dX4_cordIn_12 13 rfl 2 rfl ?_
      refine s_iadd C dX4_cordIn_13 14 rfl ?_
      refine s_call_i (rn_V (As := [.int p0, .int (5 + p1)]) C (ct_at hR hA (ct_on (ct_X4_of g TA a0 p0 (5 + p1)))) (rv_on C hR (q := vw_12) rfl) (lw_V q1916 q1918 qs44 q112 q1919) ⟨rfl, nv_X4_of⟩ ⟨by decide, by decide⟩ rfl (bl rfl) dX4_cordIn_14) 17 rfl (fun x4 => ?_)
      refine s_goto C dX4_cordIn_17 21 (by decide) ?_
      refine s_r ?_
      refine s_lv [] rfl ?_
      exact hK3 x4
theorem nv_X4_weightOf : yX4_weightOf.cls ≠ "java/lang/invoke/MethodHandle" ∧ yX4_weightOf.cls ≠ "java/lang/invoke/VarHandle" ∧ (parseMethodDescriptor yX4_weightOf.desc).map (fun d => d.parameters.length) = some 2 := by decide +kernel
theorem ct_X4_weightOf {l : Launch} (g : sm_G) (TA : Nat → Prop) (a0 : Nat) (p0 : Int32) (p1 : Int32) : sm_CT l g (so_R g TA) (so_A g TA) yX4_weightOf cX4_weightOf 3 (some .int) 4 87 [.ref a0, .int p0, .int p1] em_i (f_X4_weightOf g a0 p0 p1) := by
  refine sm_of (own := "PatchCordsModel") rfl rfl (bl rfl) (fun Y C hR hA hl hm => ?_)
  subst hl
  refine s_lv (L' := [(0, .ref a0), (1, .int p0), (2, .int p1)]) [0, 1, 2] rfl ?_
  refine s_top ?_
  unfold f_X4_weightOf
  refine s_aload_n C dX4_weightOf_0 1 rfl 0 rfl ?_
  refine s_aload_n C dX4_weightOf_1 2 rfl 0 rfl ?_
  refine s_iload_n C dX4_weightOf_2 3 rfl 1 rfl ?_
  refine s_iload_n C dX4_weightOf_3 4 rfl 2 rfl ?_
  refine s_call_i (rn_V (As := [.int p0, .int p1]) C (ct_at hR hA (ct_on (ct_X4_whyNoWeight g TA a0 p0 p1))) (rv_on C hR (q := vw_12) rfl) (lw_V q1900 q1902 qs40 q112 q1903) ⟨rfl, nv_X4_whyNoWeight⟩ ⟨by decide, by decide⟩ rfl (bl rfl) dX4_weightOf_4) 7 rfl (fun x1 => ?_)
  refine s_put C hR hA fd_PatchCordsModel_thrown (Or.inl q1808) dX4_weightOf_7 rfl rfl 10 rfl ?_
  refine s_aload_n C dX4_weightOf_10 11 rfl 0 rfl ?_
  refine s_getI C hR fd_PatchCordsModel_thrown (Or.inl q1808) dX4_weightOf_11 14 rfl (fun x2 => ?_)
  refine s_cut (J := 30) (LJ := (fun (v3 : Int32) => [])) (SJ := (fun (v3 : Int32) => [.int v3])) (fun v3 => ?_) (fun _ _ hK4 => ?_)
  · exact s_iret C rfl rfl dX4_weightOf_30
  · refine s_if_le C dX4_weightOf_14 21 17 (by decide) rfl ?_ ?_
    · refine s_aload_n C dX4_weightOf_21 22 rfl 0 rfl ?_
      refine s_iload_n C dX4_weightOf_22 23 rfl 1 rfl ?_
      refine s_bipush (v := 9) C dX4_weightOf_23 (by decide) 25 rfl ?_
      refine s_iload_n C dX4_weightOf_25 26 rfl 2 rfl ?_
      refine s_iadd C dX4_weightOf_26 27 rfl ?_
      refine s_call_i (rn_V (As := [.int p0, .int (9 + p1)]) C (ct_at hR hA (ct_on (ct_X4_of g TA a0 p0 (9 + p1)))) (rv_on C hR (q := vw_12) rfl) (lw_V q1916 q1918 qs44 q112 q1919) ⟨rfl, nv_X4_of⟩ ⟨by decide, by decide⟩ rfl (bl rfl) dX4_weightOf_27) 30 rfl (fun x5 => ?_)
      refine s_r ?_
      refine s_lv [] rfl ?_
      exact hK4 x5
    · refine s_iconst (v := 0) C dX4_weightOf_17 (by decide) 18 rfl ?_
      refine s_goto C dX4_weightOf_18 30 (by decide) ?_
      refine s_r ?_
      refine s_lv [] rfl ?_
      exact hK4 0
theorem nv_X4_settingOf : yX4_settingOf.cls ≠ "java/lang/invoke/MethodHandle" ∧ yX4_settingOf.cls ≠ "java/lang/invoke/VarHandle" ∧ (parseMethodDescriptor yX4_settingOf.desc).map (fun d => d.parameters.length) = some 1 := by decide +kernel
theorem ct_X4_settingOf {l : Launch} (g : sm_G) (TA : Nat → Prop) (a0 : Nat) (p0 : Int32) : sm_CT l g (so_R g TA) (so_A g TA) yX4_settingOf cX4_settingOf 2 (some .int) 3 64 [.ref a0, .int p0] em_i (f_X4_settingOf g a0 p0) := by
  refine sm_of (own := "PatchCordsModel") rfl rfl (bl rfl) (fun Y C hR hA hl hm => ?_)
  subst hl
  refine s_lv (L' := [(0, .ref a0), (1, .int p0)]) [0, 1] rfl ?_
  refine s_top ?_
  unfold f_X4_settingOf
  refine s_aload_n C dX4_settingOf_0 1 rfl 0 rfl ?_
  refine s_iload_n C dX4_settingOf_1 2 rfl 1 rfl ?_
  refine s_call_i (rn_V (As := [.int p0]) C (ct_at hR hA (ct_on (ct_X4_asks g TA a0 p0))) (rv_on C hR (q := vw_12) rfl) (lw_V q2086 q2088 qs71 q112 q2089) ⟨rfl, nv_X4_asks⟩ ⟨by decide, by decide⟩ rfl (bl rfl) dX4_settingOf_2) 5 rfl (fun x1 => ?_)
  refine s_cut (J := 18) (LJ := (fun (v2 : Int32) => [])) (SJ := (fun (v2 : Int32) => [.int v2])) (fun v2 => ?_) (fun _ _ hK3 => ?_)
  · exact s_iret C rfl rfl dX4_settingOf_18
  · refine s_if_eq C dX4_settingOf_5 17 8 (by decide) rfl ?_ ?_
    · refine s_iconst (v := 0) C dX4_settingOf_17 (by decide) 18 rfl ?_
      refine s_r ?_
      refine s_lv [] rfl ?_
      exact hK3 0
    · refine s_aload_n C dX4_settingOf_8 9 rfl 0 rfl ?_
      refine s_iload_n C dX4_settingOf_9 10 rfl 1 rfl ?_
      refine s_iconst (v := 1) C dX4_settingOf_10 (by decide) 11 rfl ?_
      refine s_call_i (rn_V (As := [.int p0, .int 1]) C (ct_at hR hA (ct_on (ct_X4_of g TA a0 p0 1))) (rv_on C hR (q := vw_12) rfl) (lw_V q1916 q1918 qs44 q112 q1919) ⟨rfl, nv_X4_of⟩ ⟨by decide, by decide⟩ rfl (bl rfl) dX4_settingOf_11) 14 rfl (fun x4 => ?_)
      refine s_goto C dX4_settingOf_14 18 (by decide) ?_
      refine s_r ?_
      refine s_lv [] rfl ?_
      exact hK3 x4
theorem nv_X4_asksIntegrator : yX4_asksIntegrator.cls ≠ "java/lang/invoke/MethodHandle" ∧ yX4_asksIntegrator.cls ≠ "java/lang/invoke/VarHandle" ∧ (parseMethodDescriptor yX4_asksIntegrator.desc).map (fun d => d.parameters.length) = some 1 := by decide +kernel
theorem ct_X4_asksIntegrator {l : Launch} (g : sm_G) (TA : Nat → Prop) (a0 : Nat) (p0 : Int32) : sm_CT l g (so_R g TA) (so_A g TA) yX4_asksIntegrator cX4_asksIntegrator 2 (some .boolean) 2 43 [.ref a0, .int p0] em_i (f_X4_asksIntegrator g a0 p0) := by
  refine sm_of (own := "PatchCordsModel") rfl rfl (bl rfl) (fun Y C hR hA hl hm => ?_)
  subst hl
  refine s_lv (L' := [(0, .ref a0), (1, .int p0)]) [0, 1] rfl ?_
  refine s_top ?_
  unfold f_X4_asksIntegrator
  refine s_aload_n C dX4_asksIntegrator_0 1 rfl 0 rfl ?_
  refine s_aload_n C dX4_asksIntegrator_1 2 rfl 0 rfl ?_
  refine s_iload_n C dX4_asksIntegrator_2 3 rfl 1 rfl ?_
  refine s_call_i (rn_V (As := [.int p0]) C (ct_at hR hA (ct_on (ct_X4_isModule g TA a0 p0))) (rv_on C hR (q := vw_12) rfl) (lw_V q1904 q1906 qs41 q112 q1907) ⟨rfl, nv_X4_isModule⟩ ⟨by decide, by decide⟩ rfl (bl rfl) dX4_asksIntegrator_3) 6 rfl (fun x1 => ?_)
  refine s_cut (J := 27) (LJ := (fun (v2 : Int32) => [(0, .ref a0)])) (SJ := (fun (v2 : Int32) => [.int v2, .ref a0])) (fun v2 => ?_) (fun _ _ hK3 => ?_)
  · refine s_put C hR hA fd_PatchCordsModel_thrown (Or.inl q1808) dX4_asksIntegrator_27 rfl rfl 30 rfl ?_
    refine s_aload_n C dX4_asksIntegrator_30 31 rfl 0 rfl ?_
    refine s_getI C hR fd_PatchCordsModel_thrown (Or.inl q1808) dX4_asksIntegrator_31 34 rfl (fun x5 => ?_)
    refine s_cut (J := 42) (LJ := (fun (v6 : Int32) => [])) (SJ := (fun (v6 : Int32) => [.int v6])) (fun v6 => ?_) (fun _ _ hK7 => ?_)
    · refine s_zb (fun h => ?_)
      exact s_iret C rfl (s_zn h) dX4_asksIntegrator_42
    · refine s_if_ne C dX4_asksIntegrator_34 41 37 (by decide) rfl ?_ ?_
      · refine s_iconst (v := 1) C dX4_asksIntegrator_37 (by decide) 38 rfl ?_
        refine s_goto C dX4_asksIntegrator_38 42 (by decide) ?_
        refine s_r ?_
        refine s_lv [] rfl ?_
        exact hK7 1
      · refine s_iconst (v := 0) C dX4_asksIntegrator_41 (by decide) 42 rfl ?_
        refine s_r ?_
        refine s_lv [] rfl ?_
        exact hK7 0
  · refine s_if_ne C dX4_asksIntegrator_6 13 9 (by decide) rfl ?_ ?_
    · refine s_iconst (v := 1) C dX4_asksIntegrator_9 (by decide) 10 rfl ?_
      refine s_goto C dX4_asksIntegrator_10 27 (by decide) ?_
      refine s_r ?_
      refine s_lv [0] rfl ?_
      exact hK3 1
    · refine s_aload_n C dX4_asksIntegrator_13 14 rfl 0 rfl ?_
      refine s_iload_n C dX4_asksIntegrator_14 15 rfl 1 rfl ?_
      refine s_call_i (rn_V (As := [.int p0]) C (ct_at hR hA (ct_on (ct_X4_kind g TA a0 p0))) (rv_on C hR (q := vw_12) rfl) (lw_V q1912 q1914 qs43 q112 q1915) ⟨rfl, nv_X4_kind⟩ ⟨by decide, by decide⟩ rfl (bl rfl) dX4_asksIntegrator_15) 18 rfl (fun x4 => ?_)
      refine s_iconst (v := 1) C dX4_asksIntegrator_18 (by decide) 19 rfl ?_
      refine s_icmp_ne C dX4_asksIntegrator_19 26 22 (by decide) rfl ?_ ?_
      · refine s_iconst (v := 0) C dX4_asksIntegrator_22 (by decide) 23 rfl ?_
        refine s_goto C dX4_asksIntegrator_23 27 (by decide) ?_
        refine s_r ?_
        refine s_lv [0] rfl ?_
        exact hK3 0
      · refine s_iconst (v := 2) C dX4_asksIntegrator_26 (by decide) 27 rfl ?_
        refine s_r ?_
        refine s_lv [0] rfl ?_
        exact hK3 2
theorem nv_X4_speedOf : yX4_speedOf.cls ≠ "java/lang/invoke/MethodHandle" ∧ yX4_speedOf.cls ≠ "java/lang/invoke/VarHandle" ∧ (parseMethodDescriptor yX4_speedOf.desc).map (fun d => d.parameters.length) = some 1 := by decide +kernel
theorem ct_X4_speedOf {l : Launch} (g : sm_G) (TA : Nat → Prop) (a0 : Nat) (p0 : Int32) : sm_CT l g (so_R g TA) (so_A g TA) yX4_speedOf cX4_speedOf 2 (some .int) 3 64 [.ref a0, .int p0] em_i (f_X4_speedOf g a0 p0) := by
  refine sm_of (own := "PatchCordsModel") rfl rfl (bl rfl) (fun Y C hR hA hl hm => ?_)
  subst hl
  refine s_lv (L' := [(0, .ref a0), (1, .int p0)]) [0, 1] rfl ?_
  refine s_top ?_
  unfold f_X4_speedOf
  refine s_aload_n C dX4_speedOf_0 1 rfl 0 rfl ?_
  refine s_iload_n C dX4_speedOf_1 2 rfl 1 rfl ?_
  refine s_call_i (rn_V (As := [.int p0]) C (ct_at hR hA (ct_on (ct_X4_asksIntegrator g TA a0 p0))) (rv_on C hR (q := vw_12) rfl) (lw_V q2114 q2116 qs73 q112 q2117) ⟨rfl, nv_X4_asksIntegrator⟩ ⟨by decide, by decide⟩ rfl (bl rfl) dX4_speedOf_2) 5 rfl (fun x1 => ?_)
  refine s_cut (J := 18) (LJ := (fun (v2 : Int32) => [])) (SJ := (fun (v2 : Int32) => [.int v2])) (fun v2 => ?_) (fun _ _ hK3 => ?_)
  · exact s_iret C rfl rfl dX4_speedOf_18
  · refine s_if_eq C dX4_speedOf_5 17 8 (by decide) rfl ?_ ?_
    · refine s_iconst (v := 0) C dX4_speedOf_17 (by decide) 18 rfl ?_
      refine s_r ?_
      refine s_lv [] rfl ?_
      exact hK3 0
    · refine s_aload_n C dX4_speedOf_8 9 rfl 0 rfl ?_
      refine s_iload_n C dX4_speedOf_9 10 rfl 1 rfl ?_
      refine s_iconst (v := 2) C dX4_speedOf_10 (by decide) 11 rfl ?_
      refine s_call_i (rn_V (As := [.int p0, .int 2]) C (ct_at hR hA (ct_on (ct_X4_of g TA a0 p0 2))) (rv_on C hR (q := vw_12) rfl) (lw_V q1916 q1918 qs44 q112 q1919) ⟨rfl, nv_X4_of⟩ ⟨by decide, by decide⟩ rfl (bl rfl) dX4_speedOf_11) 14 rfl (fun x4 => ?_)
      refine s_goto C dX4_speedOf_14 18 (by decide) ?_
      refine s_r ?_
      refine s_lv [] rfl ?_
      exact hK3 x4
theorem nv_X4_manyCords : yX4_manyCords.cls ≠ "java/lang/invoke/MethodHandle" ∧ yX4_manyCords.cls ≠ "java/lang/invoke/VarHandle" ∧ (parseMethodDescriptor yX4_manyCords.desc).map (fun d => d.parameters.length) = some 0 := by decide +kernel
theorem ct_X4_manyCords {l : Launch} (g : sm_G) (TA : Nat → Prop) (a0 : Nat) : sm_CT l g (so_R g TA) (so_A g TA) yX4_manyCords cX4_manyCords 4 (some .int) 1 22 [.ref a0] em_i (f_X4_manyCords g a0) := by
  refine sm_of (own := "PatchCordsModel") rfl rfl (bl rfl) (fun Y C hR hA hl hm => ?_)
  subst hl
  refine s_lv (L' := [(0, .ref a0)]) [0] rfl ?_
  refine s_top ?_
  unfold f_X4_manyCords
  refine s_iconst (v := 0) C dX4_manyCords_0 (by decide) 1 rfl ?_
  refine s_istore_n C dX4_manyCords_1 rfl (by decide) 2 rfl [(1, .int 0), (0, .ref a0)] rfl ?_
  refine s_iconst (v := 0) C dX4_manyCords_2 (by decide) 3 rfl ?_
  refine s_istore_n C dX4_manyCords_3 rfl (by decide) 4 rfl [(2, .int 0), (1, .int 0), (0, .ref a0)] rfl ?_
  refine s_lv [2, 1, 0] rfl ?_
  refine s_loop (fun (s1 : Int32 × Int32) => [(0, .ref a0), (1, .int s1.1), (2, .int s1.2)]) (fun (v14 : Int32) => [(1, .int v14)]) 53 (0, 0) rfl (fun v14 => ?_) (fun _ s1 hk2 hx3 => ?_)
  · refine s_iload_n C dX4_manyCords_53 54 rfl 0 rfl ?_
    exact s_iret C rfl rfl dX4_manyCords_54
  · refine s_iload_n C dX4_manyCords_4 5 rfl 2 rfl ?_
    refine s_aload_n C dX4_manyCords_5 6 rfl 0 rfl ?_
    refine s_getR C hR fd_PatchCordsModel_state (Or.inl q1809) dX4_manyCords_6 9 rfl (fun x4 => ?_)
    refine s_iconst (v := 0) C dX4_manyCords_9 (by decide) 10 rfl ?_
    refine s_iald C hR dX4_manyCords_10 11 rfl (fun x5 => ?_)
    refine s_icmp_ge C dX4_manyCords_11 53 14 (by decide) rfl ?_ ?_
    · refine s_r ?_
      refine s_lv [1] rfl ?_
      exact hx3 s1.1
    · refine s_iconst (v := 0) C dX4_manyCords_14 (by decide) 15 rfl ?_
      refine s_istore_n C dX4_manyCords_15 rfl (by decide) 16 rfl [(3, .int 0), (0, .ref a0), (1, .int s1.1), (2, .int s1.2)] rfl ?_
      refine s_lv [1, 2, 3, 0] rfl ?_
      refine s_loop (fun (s6 : Int32 × Int32) => [(0, .ref a0), (1, .int s6.1), (2, .int s1.2), (3, .int s6.2)]) (fun (v13 : Int32) => [(0, .ref a0), (1, .int v13), (2, .int s1.2)]) 47 (s1.1, 0) rfl (fun v13 => ?_) (fun _ s6 hk7 hx8 => ?_)
      · refine s_iinc C dX4_manyCords_47 (s1.2 + 1) rfl 2 rfl (by decide) 50 rfl [(2, .int (s1.2 + 1)), (0, .ref a0), (1, .int v13)] rfl ?_
        refine s_goto C dX4_manyCords_50 4 (by decide) ?_
        refine s_r ?_
        refine s_lv [1, 2, 0] rfl ?_
        exact hk2 (v13, s1.2 + 1)
      · refine s_iload_n C dX4_manyCords_16 17 rfl 3 rfl ?_
        refine s_iconst (v := 4) C dX4_manyCords_17 (by decide) 18 rfl ?_
        refine s_icmp_ge C dX4_manyCords_18 47 21 (by decide) rfl ?_ ?_
        · refine s_r ?_
          refine s_lv [0, 1, 2] rfl ?_
          exact hx8 s6.1
        · refine s_iload_n C dX4_manyCords_21 22 rfl 1 rfl ?_
          refine s_aload_n C dX4_manyCords_22 23 rfl 0 rfl ?_
          refine s_iload_n C dX4_manyCords_23 24 rfl 2 rfl ?_
          refine s_iconst (v := 5) C dX4_manyCords_24 (by decide) 25 rfl ?_
          refine s_iload_n C dX4_manyCords_25 26 rfl 3 rfl ?_
          refine s_iadd C dX4_manyCords_26 27 rfl ?_
          refine s_call_i (rn_V (As := [.int s1.2, .int (5 + s6.2)]) C (ct_at hR hA (ct_on (ct_X4_of g TA a0 s1.2 (5 + s6.2)))) (rv_on C hR (q := vw_12) rfl) (lw_V q1916 q1918 qs44 q112 q1919) ⟨rfl, nv_X4_of⟩ ⟨by decide, by decide⟩ rfl (bl rfl) dX4_manyCords_27) 30 rfl (fun x9 => ?_)
          refine s_iconst (v := (-1)) C dX4_manyCords_30 (by decide) 31 rfl ?_
          refine s_cut (J := 39) (LJ := (fun (v10 : Int32) => [(0, .ref a0), (2, .int s1.2), (3, .int s6.2)])) (SJ := (fun (v10 : Int32) => [.int v10, .int s6.1])) (fun v10 => ?_) (fun _ _ hK11 => ?_)
          · refine s_iadd C dX4_manyCords_39 40 rfl ?_
            refine s_topi (fun x12 => ?_)
            refine s_istore_n C dX4_manyCords_40 rfl (by decide) 41 rfl [(1, .int x12), (0, .ref a0), (2, .int s1.2), (3, .int s6.2)] rfl ?_
            refine s_iinc C dX4_manyCords_41 (s6.2 + 1) rfl 3 rfl (by decide) 44 rfl [(3, .int (s6.2 + 1)), (1, .int x12), (0, .ref a0), (2, .int s1.2)] rfl ?_
            refine s_goto C dX4_manyCords_44 16 (by decide) ?_
            refine s_r ?_
            refine s_lv [2, 1, 3, 0] rfl ?_
            exact hk7 (x12, s6.2 + 1)
          · refine s_icmp_ne C dX4_manyCords_31 38 34 (by decide) rfl ?_ ?_
            · refine s_iconst (v := 0) C dX4_manyCords_34 (by decide) 35 rfl ?_
              refine s_goto C dX4_manyCords_35 39 (by decide) ?_
              refine s_r ?_
              refine s_lv [0, 2, 3] rfl ?_
              exact hK11 0
            · refine s_iconst (v := 1) C dX4_manyCords_38 (by decide) 39 rfl ?_
              refine s_r ?_
              refine s_lv [0, 2, 3] rfl ?_
              exact hK11 1
theorem nv_X4_cords : yX4_cords.cls ≠ "java/lang/invoke/MethodHandle" ∧ yX4_cords.cls ≠ "java/lang/invoke/VarHandle" ∧ (parseMethodDescriptor yX4_cords.desc).map (fun d => d.parameters.length) = some 0 := by decide +kernel
theorem ct_X4_cords {l : Launch} (g : sm_G) (TA : Nat → Prop) (a0 : Nat) : sm_CT l g (so_R g TA) (so_A g TA) yX4_cords cX4_cords 1 (some .int) 2 45 [.ref a0] em_i (f_X4_cords g a0) := by
  refine sm_of (own := "PatchCordsModel") rfl rfl (bl rfl) (fun Y C hR hA hl hm => ?_)
  subst hl
  refine s_lv (L' := [(0, .ref a0)]) [0] rfl ?_
  refine s_top ?_
  unfold f_X4_cords
  refine s_aload_n C dX4_cords_0 1 rfl 0 rfl ?_
  refine s_aload_n C dX4_cords_1 2 rfl 0 rfl ?_
  refine s_call_i (rn_V (As := []) C (ct_at hR hA (ct_on (ct_X4_manyCords g TA a0))) (rv_on C hR (q := vw_12) rfl) (lw_V q2122 q2124 qs74 q112 q2125) ⟨rfl, nv_X4_manyCords⟩ ⟨by decide, by decide⟩ rfl (bl rfl) dX4_cords_2) 5 rfl (fun x1 => ?_)
  refine s_call_i (rn_V (As := [.int x1]) C (ct_at hR hA (ct_on (ct_X4_tells g TA a0 x1))) (rv_on C hR (q := vw_12) rfl) (lw_V q2078 q2080 qs70 q112 q2081) ⟨rfl, nv_X4_tells⟩ ⟨by decide, by decide⟩ rfl (bl rfl) dX4_cords_5) 8 rfl (fun x2 => ?_)
  exact s_iret C rfl rfl dX4_cords_8
theorem nv_X4_mode : yX4_mode.cls ≠ "java/lang/invoke/MethodHandle" ∧ yX4_mode.cls ≠ "java/lang/invoke/VarHandle" ∧ (parseMethodDescriptor yX4_mode.desc).map (fun d => d.parameters.length) = some 0 := by decide +kernel
theorem ct_X4_mode {l : Launch} (g : sm_G) (TA : Nat → Prop) (a0 : Nat) : sm_CT l g (so_R g TA) (so_A g TA) yX4_mode cX4_mode 1 (some .int) 1 21 [.ref a0] em_i (f_X4_mode g a0) := by
  refine sm_of (own := "PatchCordsModel") rfl rfl (bl rfl) (fun Y C hR hA hl hm => ?_)
  subst hl
  refine s_lv (L' := [(0, .ref a0)]) [0] rfl ?_
  refine s_top ?_
  unfold f_X4_mode
  refine s_aload_n C dX4_mode_0 1 rfl 0 rfl ?_
  refine s_aload_n C dX4_mode_1 2 rfl 0 rfl ?_
  refine s_getR C hR fd_PatchCordsModel_state (Or.inl q1809) dX4_mode_2 5 rfl (fun x1 => ?_)
  refine s_iconst (v := 1) C dX4_mode_5 (by decide) 6 rfl ?_
  refine s_iald C hR dX4_mode_6 7 rfl (fun x2 => ?_)
  refine s_call_i (rn_V (As := [.int x2]) C (ct_at hR hA (ct_on (ct_X4_tells g TA a0 x2))) (rv_on C hR (q := vw_12) rfl) (lw_V q2078 q2080 qs70 q112 q2081) ⟨rfl, nv_X4_tells⟩ ⟨by decide, by decide⟩ rfl (bl rfl) dX4_mode_7) 10 rfl (fun x3 => ?_)
  exact s_iret C rfl rfl dX4_mode_10
theorem nv_X4_way : yX4_way.cls ≠ "java/lang/invoke/MethodHandle" ∧ yX4_way.cls ≠ "java/lang/invoke/VarHandle" ∧ (parseMethodDescriptor yX4_way.desc).map (fun d => d.parameters.length) = some 0 := by decide +kernel
theorem ct_X4_way {l : Launch} (g : sm_G) (TA : Nat → Prop) (a0 : Nat) : sm_CT l g (so_R g TA) (so_A g TA) yX4_way cX4_way 1 (some .int) 1 21 [.ref a0] em_i (f_X4_way g a0) := by
  refine sm_of (own := "PatchCordsModel") rfl rfl (bl rfl) (fun Y C hR hA hl hm => ?_)
  subst hl
  refine s_lv (L' := [(0, .ref a0)]) [0] rfl ?_
  refine s_top ?_
  unfold f_X4_way
  refine s_aload_n C dX4_way_0 1 rfl 0 rfl ?_
  refine s_aload_n C dX4_way_1 2 rfl 0 rfl ?_
  refine s_getR C hR fd_PatchCordsModel_state (Or.inl q1809) dX4_way_2 5 rfl (fun x1 => ?_)
  refine s_iconst (v := 2) C dX4_way_5 (by decide) 6 rfl ?_
  refine s_iald C hR dX4_way_6 7 rfl (fun x2 => ?_)
  refine s_call_i (rn_V (As := [.int x2]) C (ct_at hR hA (ct_on (ct_X4_tells g TA a0 x2))) (rv_on C hR (q := vw_12) rfl) (lw_V q2078 q2080 qs70 q112 q2081) ⟨rfl, nv_X4_tells⟩ ⟨by decide, by decide⟩ rfl (bl rfl) dX4_way_7) 10 rfl (fun x3 => ?_)
  exact s_iret C rfl rfl dX4_way_10
theorem nv_X4_isGuarded : yX4_isGuarded.cls ≠ "java/lang/invoke/MethodHandle" ∧ yX4_isGuarded.cls ≠ "java/lang/invoke/VarHandle" ∧ (parseMethodDescriptor yX4_isGuarded.desc).map (fun d => d.parameters.length) = some 0 := by decide +kernel
theorem ct_X4_isGuarded {l : Launch} (g : sm_G) (TA : Nat → Prop) (a0 : Nat) : sm_CT l g (so_R g TA) (so_A g TA) yX4_isGuarded cX4_isGuarded 1 (some .boolean) 0 0 [.ref a0] em_i (f_X4_isGuarded g a0) := by
  refine sm_of (own := "PatchCordsModel") rfl rfl (bl rfl) (fun Y C hR hA hl hm => ?_)
  subst hl
  refine s_lv (L' := [(0, .ref a0)]) [0] rfl ?_
  refine s_top ?_
  unfold f_X4_isGuarded
  refine s_aload_n C dX4_isGuarded_0 1 rfl 0 rfl ?_
  refine s_iconst (v := 0) C dX4_isGuarded_1 (by decide) 2 rfl ?_
  refine s_put C hR hA fd_PatchCordsModel_thrown (Or.inl q1808) dX4_isGuarded_2 rfl rfl 5 rfl ?_
  refine s_aload_n C dX4_isGuarded_5 6 rfl 0 rfl ?_
  refine s_getR C hR fd_PatchCordsModel_state (Or.inl q1809) dX4_isGuarded_6 9 rfl (fun x1 => ?_)
  refine s_iconst (v := 3) C dX4_isGuarded_9 (by decide) 10 rfl ?_
  refine s_iald C hR dX4_isGuarded_10 11 rfl (fun x2 => ?_)
  refine s_iconst (v := 1) C dX4_isGuarded_11 (by decide) 12 rfl ?_
  refine s_cut (J := 20) (LJ := (fun (v3 : Int32) => [])) (SJ := (fun (v3 : Int32) => [.int v3])) (fun v3 => ?_) (fun _ _ hK4 => ?_)
  · refine s_zb (fun h => ?_)
    exact s_iret C rfl (s_zn h) dX4_isGuarded_20
  · refine s_icmp_ne C dX4_isGuarded_12 19 15 (by decide) rfl ?_ ?_
    · refine s_iconst (v := 1) C dX4_isGuarded_15 (by decide) 16 rfl ?_
      refine s_goto C dX4_isGuarded_16 20 (by decide) ?_
      refine s_r ?_
      refine s_lv [] rfl ?_
      exact hK4 1
    · refine s_iconst (v := 0) C dX4_isGuarded_19 (by decide) 20 rfl ?_
      refine s_r ?_
      refine s_lv [] rfl ?_
      exact hK4 0
theorem nv_X4_steps : yX4_steps.cls ≠ "java/lang/invoke/MethodHandle" ∧ yX4_steps.cls ≠ "java/lang/invoke/VarHandle" ∧ (parseMethodDescriptor yX4_steps.desc).map (fun d => d.parameters.length) = some 0 := by decide +kernel
theorem ct_X4_steps {l : Launch} (g : sm_G) (TA : Nat → Prop) (a0 : Nat) : sm_CT l g (so_R g TA) (so_A g TA) yX4_steps cX4_steps 1 (some .int) 1 21 [.ref a0] em_i (f_X4_steps g a0) := by
  refine sm_of (own := "PatchCordsModel") rfl rfl (bl rfl) (fun Y C hR hA hl hm => ?_)
  subst hl
  refine s_lv (L' := [(0, .ref a0)]) [0] rfl ?_
  refine s_top ?_
  unfold f_X4_steps
  refine s_aload_n C dX4_steps_0 1 rfl 0 rfl ?_
  refine s_aload_n C dX4_steps_1 2 rfl 0 rfl ?_
  refine s_getR C hR fd_PatchCordsModel_state (Or.inl q1809) dX4_steps_2 5 rfl (fun x1 => ?_)
  refine s_iconst (v := 4) C dX4_steps_5 (by decide) 6 rfl ?_
  refine s_iald C hR dX4_steps_6 7 rfl (fun x2 => ?_)
  refine s_call_i (rn_V (As := [.int x2]) C (ct_at hR hA (ct_on (ct_X4_tells g TA a0 x2))) (rv_on C hR (q := vw_12) rfl) (lw_V q2078 q2080 qs70 q112 q2081) ⟨rfl, nv_X4_tells⟩ ⟨by decide, by decide⟩ rfl (bl rfl) dX4_steps_7) 10 rfl (fun x3 => ?_)
  exact s_iret C rfl rfl dX4_steps_10
theorem nv_X4_output : yX4_output.cls ≠ "java/lang/invoke/MethodHandle" ∧ yX4_output.cls ≠ "java/lang/invoke/VarHandle" ∧ (parseMethodDescriptor yX4_output.desc).map (fun d => d.parameters.length) = some 1 := by decide +kernel
theorem ct_X4_output {l : Launch} (g : sm_G) (TA : Nat → Prop) (a0 : Nat) (p0 : Int32) : sm_CT l g (so_R g TA) (so_A g TA) yX4_output cX4_output 2 (some .int) 5 114 [.ref a0, .int p0] em_i (f_X4_output g a0 p0) := by
  refine sm_of (own := "PatchCordsModel") rfl rfl (bl rfl) (fun Y C hR hA hl hm => ?_)
  subst hl
  refine s_lv (L' := [(0, .ref a0), (1, .int p0)]) [0, 1] rfl ?_
  refine s_top ?_
  unfold f_X4_output
  refine s_aload_n C dX4_output_0 1 rfl 0 rfl ?_
  refine s_call_v (rn_V (As := []) C (ct_at hR hA (ct_on (ct_X4_laysOuts g TA a0))) (rv_on C hR (q := vw_12) rfl) (lw_V q2011 q2013 qs60 q112 q2014) ⟨rfl, nv_X4_laysOuts⟩ ⟨by decide, by decide⟩ rfl (bl rfl) dX4_output_1) 4 rfl ?_
  refine s_aload_n C dX4_output_4 5 rfl 0 rfl ?_
  refine s_getR C hR fd_PatchCordsModel_outs (Or.inl q1816) dX4_output_5 8 rfl (fun x2 => ?_)
  refine s_iload_n C dX4_output_8 9 rfl 1 rfl ?_
  refine s_iald C hR dX4_output_9 10 rfl (fun x3 => ?_)
  exact s_iret C rfl rfl dX4_output_10
theorem nv_X4_outputOf : yX4_outputOf.cls ≠ "java/lang/invoke/MethodHandle" ∧ yX4_outputOf.cls ≠ "java/lang/invoke/VarHandle" ∧ (parseMethodDescriptor yX4_outputOf.desc).map (fun d => d.parameters.length) = some 1 := by decide +kernel
theorem ct_X4_outputOf {l : Launch} (g : sm_G) (TA : Nat → Prop) (a0 : Nat) (p0 : Int32) : sm_CT l g (so_R g TA) (so_A g TA) yX4_outputOf cX4_outputOf 2 (some .int) 6 135 [.ref a0, .int p0] em_i (f_X4_outputOf g a0 p0) := by
  refine sm_of (own := "PatchCordsModel") rfl rfl (bl rfl) (fun Y C hR hA hl hm => ?_)
  subst hl
  refine s_lv (L' := [(0, .ref a0), (1, .int p0)]) [0, 1] rfl ?_
  refine s_top ?_
  unfold f_X4_outputOf
  refine s_aload_n C dX4_outputOf_0 1 rfl 0 rfl ?_
  refine s_iload_n C dX4_outputOf_1 2 rfl 1 rfl ?_
  refine s_call_i (rn_V (As := [.int p0]) C (ct_at hR hA (ct_on (ct_X4_asks g TA a0 p0))) (rv_on C hR (q := vw_12) rfl) (lw_V q2086 q2088 qs71 q112 q2089) ⟨rfl, nv_X4_asks⟩ ⟨by decide, by decide⟩ rfl (bl rfl) dX4_outputOf_2) 5 rfl (fun x1 => ?_)
  refine s_cut (J := 17) (LJ := (fun (v2 : Int32) => [])) (SJ := (fun (v2 : Int32) => [.int v2])) (fun v2 => ?_) (fun _ _ hK3 => ?_)
  · exact s_iret C rfl rfl dX4_outputOf_17
  · refine s_if_eq C dX4_outputOf_5 16 8 (by decide) rfl ?_ ?_
    · refine s_iconst (v := 0) C dX4_outputOf_16 (by decide) 17 rfl ?_
      refine s_r ?_
      refine s_lv [] rfl ?_
      exact hK3 0
    · refine s_aload_n C dX4_outputOf_8 9 rfl 0 rfl ?_
      refine s_iload_n C dX4_outputOf_9 10 rfl 1 rfl ?_
      refine s_call_i (rn_V (As := [.int p0]) C (ct_at hR hA (ct_on (ct_X4_output g TA a0 p0))) (rv_on C hR (q := vw_12) rfl) (lw_V q2146 q2148 qs75 q112 q2149) ⟨rfl, nv_X4_output⟩ ⟨by decide, by decide⟩ rfl (bl rfl) dX4_outputOf_10) 13 rfl (fun x4 => ?_)
      refine s_goto C dX4_outputOf_13 17 (by decide) ?_
      refine s_r ?_
      refine s_lv [] rfl ?_
      exact hK3 x4
theorem nv_X4_outputByAsking : yX4_outputByAsking.cls ≠ "java/lang/invoke/MethodHandle" ∧ yX4_outputByAsking.cls ≠ "java/lang/invoke/VarHandle" ∧ (parseMethodDescriptor yX4_outputByAsking.desc).map (fun d => d.parameters.length) = some 1 := by decide +kernel
theorem ct_X4_outputByAsking {l : Launch} (g : sm_G) (TA : Nat → Prop) (a0 : Nat) (p0 : Int32) : sm_CT l g (so_R g TA) (so_A g TA) yX4_outputByAsking cX4_outputByAsking 2 (some .int) 6 135 [.ref a0, .int p0] em_i (f_X4_outputByAsking g a0 p0) := by
  refine sm_of (own := "PatchCordsModel") rfl rfl (bl rfl) (fun Y C hR hA hl hm => ?_)
  subst hl
  refine s_lv (L' := [(0, .ref a0), (1, .int p0)]) [0, 1] rfl ?_
  refine s_top ?_
  unfold f_X4_outputByAsking
  refine s_aload_n C dX4_outputByAsking_0 1 rfl 0 rfl ?_
  refine s_iload_n C dX4_outputByAsking_1 2 rfl 1 rfl ?_
  refine s_call_i (rn_V (As := [.int p0]) C (ct_at hR hA (ct_on (ct_X4_asks g TA a0 p0))) (rv_on C hR (q := vw_12) rfl) (lw_V q2086 q2088 qs71 q112 q2089) ⟨rfl, nv_X4_asks⟩ ⟨by decide, by decide⟩ rfl (bl rfl) dX4_outputByAsking_2) 5 rfl (fun x1 => ?_)
  refine s_cut (J := 17) (LJ := (fun (v2 : Int32) => [])) (SJ := (fun (v2 : Int32) => [.int v2])) (fun v2 => ?_) (fun _ _ hK3 => ?_)
  · exact s_iret C rfl rfl dX4_outputByAsking_17
  · refine s_if_eq C dX4_outputByAsking_5 16 8 (by decide) rfl ?_ ?_
    · refine s_iconst (v := 0) C dX4_outputByAsking_16 (by decide) 17 rfl ?_
      refine s_r ?_
      refine s_lv [] rfl ?_
      exact hK3 0
    · refine s_aload_n C dX4_outputByAsking_8 9 rfl 0 rfl ?_
      refine s_iload_n C dX4_outputByAsking_9 10 rfl 1 rfl ?_
      refine s_call_i (rn_V (As := [.int p0]) C (ct_at hR hA (ct_on (ct_X4_output g TA a0 p0))) (rv_on C hR (q := vw_12) rfl) (lw_V q2146 q2148 qs75 q112 q2149) ⟨rfl, nv_X4_output⟩ ⟨by decide, by decide⟩ rfl (bl rfl) dX4_outputByAsking_10) 13 rfl (fun x4 => ?_)
      refine s_goto C dX4_outputByAsking_13 17 (by decide) ?_
      refine s_r ?_
      refine s_lv [] rfl ?_
      exact hK3 x4
theorem nv_X4_inputNow : yX4_inputNow.cls ≠ "java/lang/invoke/MethodHandle" ∧ yX4_inputNow.cls ≠ "java/lang/invoke/VarHandle" ∧ (parseMethodDescriptor yX4_inputNow.desc).map (fun d => d.parameters.length) = some 2 := by decide +kernel
theorem ct_X4_inputNow {l : Launch} (g : sm_G) (TA : Nat → Prop) (a0 : Nat) (p0 : Int32) (p1 : Int32) : sm_CT l g (so_R g TA) (so_A g TA) yX4_inputNow cX4_inputNow 3 (some .int) 5 114 [.ref a0, .int p0, .int p1] em_i (f_X4_inputNow g a0 p0 p1) := by
  refine sm_of (own := "PatchCordsModel") rfl rfl (bl rfl) (fun Y C hR hA hl hm => ?_)
  subst hl
  refine s_lv (L' := [(0, .ref a0), (1, .int p0), (2, .int p1)]) [0, 1, 2] rfl ?_
  refine s_top ?_
  unfold f_X4_inputNow
  refine s_aload_n C dX4_inputNow_0 1 rfl 0 rfl ?_
  refine s_call_v (rn_V (As := []) C (ct_at hR hA (ct_on (ct_X4_laysOuts g TA a0))) (rv_on C hR (q := vw_12) rfl) (lw_V q2011 q2013 qs60 q112 q2014) ⟨rfl, nv_X4_laysOuts⟩ ⟨by decide, by decide⟩ rfl (bl rfl) dX4_inputNow_1) 4 rfl ?_
  refine s_aload_n C dX4_inputNow_4 5 rfl 0 rfl ?_
  refine s_iload_n C dX4_inputNow_5 6 rfl 1 rfl ?_
  refine s_iload_n C dX4_inputNow_6 7 rfl 2 rfl ?_
  refine s_call_i (rn_V (As := [.int p0, .int p1]) C (ct_at hR hA (ct_on (ct_X4_in g TA a0 p0 p1))) (rv_on C hR (q := vw_12) rfl) (lw_V q2027 q2029 qs64 q112 q2030) ⟨rfl, nv_X4_in⟩ ⟨by decide, by decide⟩ rfl (bl rfl) dX4_inputNow_7) 10 rfl (fun x2 => ?_)
  exact s_iret C rfl rfl dX4_inputNow_10
theorem nv_X4_inputOf : yX4_inputOf.cls ≠ "java/lang/invoke/MethodHandle" ∧ yX4_inputOf.cls ≠ "java/lang/invoke/VarHandle" ∧ (parseMethodDescriptor yX4_inputOf.desc).map (fun d => d.parameters.length) = some 2 := by decide +kernel
theorem ct_X4_inputOf {l : Launch} (g : sm_G) (TA : Nat → Prop) (a0 : Nat) (p0 : Int32) (p1 : Int32) : sm_CT l g (so_R g TA) (so_A g TA) yX4_inputOf cX4_inputOf 3 (some .int) 6 136 [.ref a0, .int p0, .int p1] em_i (f_X4_inputOf g a0 p0 p1) := by
  refine sm_of (own := "PatchCordsModel") rfl rfl (bl rfl) (fun Y C hR hA hl hm => ?_)
  subst hl
  refine s_lv (L' := [(0, .ref a0), (1, .int p0), (2, .int p1)]) [0, 1, 2] rfl ?_
  refine s_top ?_
  unfold f_X4_inputOf
  refine s_aload_n C dX4_inputOf_0 1 rfl 0 rfl ?_
  refine s_iload_n C dX4_inputOf_1 2 rfl 1 rfl ?_
  refine s_iload_n C dX4_inputOf_2 3 rfl 2 rfl ?_
  refine s_call_i (rn_V (As := [.int p0, .int p1]) C (ct_at hR hA (ct_on (ct_X4_asksInput g TA a0 p0 p1))) (rv_on C hR (q := vw_12) rfl) (lw_V q2098 q2100 qs72 q112 q2101) ⟨rfl, nv_X4_asksInput⟩ ⟨by decide, by decide⟩ rfl (bl rfl) dX4_inputOf_3) 6 rfl (fun x1 => ?_)
  refine s_cut (J := 19) (LJ := (fun (v2 : Int32) => [])) (SJ := (fun (v2 : Int32) => [.int v2])) (fun v2 => ?_) (fun _ _ hK3 => ?_)
  · exact s_iret C rfl rfl dX4_inputOf_19
  · refine s_if_eq C dX4_inputOf_6 18 9 (by decide) rfl ?_ ?_
    · refine s_iconst (v := 0) C dX4_inputOf_18 (by decide) 19 rfl ?_
      refine s_r ?_
      refine s_lv [] rfl ?_
      exact hK3 0
    · refine s_aload_n C dX4_inputOf_9 10 rfl 0 rfl ?_
      refine s_iload_n C dX4_inputOf_10 11 rfl 1 rfl ?_
      refine s_iload_n C dX4_inputOf_11 12 rfl 2 rfl ?_
      refine s_call_i (rn_V (As := [.int p0, .int p1]) C (ct_at hR hA (ct_on (ct_X4_inputNow g TA a0 p0 p1))) (rv_on C hR (q := vw_12) rfl) (lw_V q2158 q2160 qs76 q112 q2161) ⟨rfl, nv_X4_inputNow⟩ ⟨by decide, by decide⟩ rfl (bl rfl) dX4_inputOf_12) 15 rfl (fun x4 => ?_)
      refine s_goto C dX4_inputOf_15 19 (by decide) ?_
      refine s_r ?_
      refine s_lv [] rfl ?_
      exact hK3 x4
theorem nv_X4_chargeOf : yX4_chargeOf.cls ≠ "java/lang/invoke/MethodHandle" ∧ yX4_chargeOf.cls ≠ "java/lang/invoke/VarHandle" ∧ (parseMethodDescriptor yX4_chargeOf.desc).map (fun d => d.parameters.length) = some 1 := by decide +kernel
theorem ct_X4_chargeOf {l : Launch} (g : sm_G) (TA : Nat → Prop) (a0 : Nat) (p0 : Int32) : sm_CT l g (so_R g TA) (so_A g TA) yX4_chargeOf cX4_chargeOf 2 (some .int) 3 64 [.ref a0, .int p0] em_i (f_X4_chargeOf g a0 p0) := by
  refine sm_of (own := "PatchCordsModel") rfl rfl (bl rfl) (fun Y C hR hA hl hm => ?_)
  subst hl
  refine s_lv (L' := [(0, .ref a0), (1, .int p0)]) [0, 1] rfl ?_
  refine s_top ?_
  unfold f_X4_chargeOf
  refine s_aload_n C dX4_chargeOf_0 1 rfl 0 rfl ?_
  refine s_iload_n C dX4_chargeOf_1 2 rfl 1 rfl ?_
  refine s_call_i (rn_V (As := [.int p0]) C (ct_at hR hA (ct_on (ct_X4_asksIntegrator g TA a0 p0))) (rv_on C hR (q := vw_12) rfl) (lw_V q2114 q2116 qs73 q112 q2117) ⟨rfl, nv_X4_asksIntegrator⟩ ⟨by decide, by decide⟩ rfl (bl rfl) dX4_chargeOf_2) 5 rfl (fun x1 => ?_)
  refine s_cut (J := 18) (LJ := (fun (v2 : Int32) => [])) (SJ := (fun (v2 : Int32) => [.int v2])) (fun v2 => ?_) (fun _ _ hK3 => ?_)
  · exact s_iret C rfl rfl dX4_chargeOf_18
  · refine s_if_eq C dX4_chargeOf_5 17 8 (by decide) rfl ?_ ?_
    · refine s_iconst (v := 0) C dX4_chargeOf_17 (by decide) 18 rfl ?_
      refine s_r ?_
      refine s_lv [] rfl ?_
      exact hK3 0
    · refine s_aload_n C dX4_chargeOf_8 9 rfl 0 rfl ?_
      refine s_iload_n C dX4_chargeOf_9 10 rfl 1 rfl ?_
      refine s_iconst (v := 3) C dX4_chargeOf_10 (by decide) 11 rfl ?_
      refine s_call_i (rn_V (As := [.int p0, .int 3]) C (ct_at hR hA (ct_on (ct_X4_of g TA a0 p0 3))) (rv_on C hR (q := vw_12) rfl) (lw_V q1916 q1918 qs44 q112 q1919) ⟨rfl, nv_X4_of⟩ ⟨by decide, by decide⟩ rfl (bl rfl) dX4_chargeOf_11) 14 rfl (fun x4 => ?_)
      refine s_goto C dX4_chargeOf_14 18 (by decide) ?_
      refine s_r ?_
      refine s_lv [] rfl ?_
      exact hK3 x4
theorem nv_X4_rateNow : yX4_rateNow.cls ≠ "java/lang/invoke/MethodHandle" ∧ yX4_rateNow.cls ≠ "java/lang/invoke/VarHandle" ∧ (parseMethodDescriptor yX4_rateNow.desc).map (fun d => d.parameters.length) = some 1 := by decide +kernel
theorem ct_X4_rateNow {l : Launch} (g : sm_G) (TA : Nat → Prop) (a0 : Nat) (p0 : Int32) : sm_CT l g (so_R g TA) (so_A g TA) yX4_rateNow cX4_rateNow 2 (some .int) 5 114 [.ref a0, .int p0] em_i (f_X4_rateNow g a0 p0) := by
  refine sm_of (own := "PatchCordsModel") rfl rfl (bl rfl) (fun Y C hR hA hl hm => ?_)
  subst hl
  refine s_lv (L' := [(0, .ref a0), (1, .int p0)]) [0, 1] rfl ?_
  refine s_top ?_
  unfold f_X4_rateNow
  refine s_aload_n C dX4_rateNow_0 1 rfl 0 rfl ?_
  refine s_call_v (rn_V (As := []) C (ct_at hR hA (ct_on (ct_X4_laysOuts g TA a0))) (rv_on C hR (q := vw_12) rfl) (lw_V q2011 q2013 qs60 q112 q2014) ⟨rfl, nv_X4_laysOuts⟩ ⟨by decide, by decide⟩ rfl (bl rfl) dX4_rateNow_1) 4 rfl ?_
  refine s_aload_n C dX4_rateNow_4 5 rfl 0 rfl ?_
  refine s_iload_n C dX4_rateNow_5 6 rfl 1 rfl ?_
  refine s_call_i (rn_V (As := [.int p0]) C (ct_at hR hA (ct_on (ct_X4_rate g TA a0 p0))) (rv_on C hR (q := vw_12) rfl) (lw_V q2042 q2044 qs66 q112 q2045) ⟨rfl, nv_X4_rate⟩ ⟨by decide, by decide⟩ rfl (bl rfl) dX4_rateNow_6) 9 rfl (fun x2 => ?_)
  exact s_iret C rfl rfl dX4_rateNow_9
theorem nv_X4_rateOf : yX4_rateOf.cls ≠ "java/lang/invoke/MethodHandle" ∧ yX4_rateOf.cls ≠ "java/lang/invoke/VarHandle" ∧ (parseMethodDescriptor yX4_rateOf.desc).map (fun d => d.parameters.length) = some 1 := by decide +kernel
theorem ct_X4_rateOf {l : Launch} (g : sm_G) (TA : Nat → Prop) (a0 : Nat) (p0 : Int32) : sm_CT l g (so_R g TA) (so_A g TA) yX4_rateOf cX4_rateOf 2 (some .int) 6 135 [.ref a0, .int p0] em_i (f_X4_rateOf g a0 p0) := by
  refine sm_of (own := "PatchCordsModel") rfl rfl (bl rfl) (fun Y C hR hA hl hm => ?_)
  subst hl
  refine s_lv (L' := [(0, .ref a0), (1, .int p0)]) [0, 1] rfl ?_
  refine s_top ?_
  unfold f_X4_rateOf
  refine s_aload_n C dX4_rateOf_0 1 rfl 0 rfl ?_
  refine s_iload_n C dX4_rateOf_1 2 rfl 1 rfl ?_
  refine s_call_i (rn_V (As := [.int p0]) C (ct_at hR hA (ct_on (ct_X4_asksIntegrator g TA a0 p0))) (rv_on C hR (q := vw_12) rfl) (lw_V q2114 q2116 qs73 q112 q2117) ⟨rfl, nv_X4_asksIntegrator⟩ ⟨by decide, by decide⟩ rfl (bl rfl) dX4_rateOf_2) 5 rfl (fun x1 => ?_)
  refine s_cut (J := 17) (LJ := (fun (v2 : Int32) => [])) (SJ := (fun (v2 : Int32) => [.int v2])) (fun v2 => ?_) (fun _ _ hK3 => ?_)
  · exact s_iret C rfl rfl dX4_rateOf_17
  · refine s_if_eq C dX4_rateOf_5 16 8 (by decide) rfl ?_ ?_
    · refine s_iconst (v := 0) C dX4_rateOf_16 (by decide) 17 rfl ?_
      refine s_r ?_
      refine s_lv [] rfl ?_
      exact hK3 0
    · refine s_aload_n C dX4_rateOf_8 9 rfl 0 rfl ?_
      refine s_iload_n C dX4_rateOf_9 10 rfl 1 rfl ?_
      refine s_call_i (rn_V (As := [.int p0]) C (ct_at hR hA (ct_on (ct_X4_rateNow g TA a0 p0))) (rv_on C hR (q := vw_12) rfl) (lw_V q2170 q2172 qs77 q112 q2173) ⟨rfl, nv_X4_rateNow⟩ ⟨by decide, by decide⟩ rfl (bl rfl) dX4_rateOf_10) 13 rfl (fun x4 => ?_)
      refine s_goto C dX4_rateOf_13 17 (by decide) ?_
      refine s_r ?_
      refine s_lv [] rfl ?_
      exact hK3 x4
theorem nv_X4_overNow : yX4_overNow.cls ≠ "java/lang/invoke/MethodHandle" ∧ yX4_overNow.cls ≠ "java/lang/invoke/VarHandle" ∧ (parseMethodDescriptor yX4_overNow.desc).map (fun d => d.parameters.length) = some 0 := by decide +kernel
theorem ct_X4_overNow {l : Launch} (g : sm_G) (TA : Nat → Prop) (a0 : Nat) : sm_CT l g (so_R g TA) (so_A g TA) yX4_overNow cX4_overNow 1 (some .int) 5 114 [.ref a0] em_i (f_X4_overNow g a0) := by
  refine sm_of (own := "PatchCordsModel") rfl rfl (bl rfl) (fun Y C hR hA hl hm => ?_)
  subst hl
  refine s_lv (L' := [(0, .ref a0)]) [0] rfl ?_
  refine s_top ?_
  unfold f_X4_overNow
  refine s_aload_n C dX4_overNow_0 1 rfl 0 rfl ?_
  refine s_call_v (rn_V (As := []) C (ct_at hR hA (ct_on (ct_X4_laysOuts g TA a0))) (rv_on C hR (q := vw_12) rfl) (lw_V q2011 q2013 qs60 q112 q2014) ⟨rfl, nv_X4_laysOuts⟩ ⟨by decide, by decide⟩ rfl (bl rfl) dX4_overNow_1) 4 rfl ?_
  refine s_aload_n C dX4_overNow_4 5 rfl 0 rfl ?_
  refine s_getI C hR fd_PatchCordsModel_over (Or.inl q1817) dX4_overNow_5 8 rfl (fun x2 => ?_)
  exact s_iret C rfl rfl dX4_overNow_8
theorem nv_X4_overloaded : yX4_overloaded.cls ≠ "java/lang/invoke/MethodHandle" ∧ yX4_overloaded.cls ≠ "java/lang/invoke/VarHandle" ∧ (parseMethodDescriptor yX4_overloaded.desc).map (fun d => d.parameters.length) = some 0 := by decide +kernel
theorem ct_X4_overloaded {l : Launch} (g : sm_G) (TA : Nat → Prop) (a0 : Nat) : sm_CT l g (so_R g TA) (so_A g TA) yX4_overloaded cX4_overloaded 1 (some .int) 6 134 [.ref a0] em_i (f_X4_overloaded g a0) := by
  refine sm_of (own := "PatchCordsModel") rfl rfl (bl rfl) (fun Y C hR hA hl hm => ?_)
  subst hl
  refine s_lv (L' := [(0, .ref a0)]) [0] rfl ?_
  refine s_top ?_
  unfold f_X4_overloaded
  refine s_aload_n C dX4_overloaded_0 1 rfl 0 rfl ?_
  refine s_aload_n C dX4_overloaded_1 2 rfl 0 rfl ?_
  refine s_call_i (rn_V (As := []) C (ct_at hR hA (ct_on (ct_X4_overNow g TA a0))) (rv_on C hR (q := vw_12) rfl) (lw_V q2178 q2180 qs78 q112 q2181) ⟨rfl, nv_X4_overNow⟩ ⟨by decide, by decide⟩ rfl (bl rfl) dX4_overloaded_2) 5 rfl (fun x1 => ?_)
  refine s_call_i (rn_V (As := [.int x1]) C (ct_at hR hA (ct_on (ct_X4_tells g TA a0 x1))) (rv_on C hR (q := vw_12) rfl) (lw_V q2078 q2080 qs70 q112 q2081) ⟨rfl, nv_X4_tells⟩ ⟨by decide, by decide⟩ rfl (bl rfl) dX4_overloaded_5) 8 rfl (fun x2 => ?_)
  exact s_iret C rfl rfl dX4_overloaded_8
