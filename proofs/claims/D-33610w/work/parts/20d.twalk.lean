/-! THE REFERENCE'S WALKS -/
theorem nv_X4_firstError : yX4_firstError.cls ≠ "java/lang/invoke/MethodHandle" ∧ yX4_firstError.cls ≠ "java/lang/invoke/VarHandle" ∧ (parseMethodDescriptor yX4_firstError.desc).map (fun d => d.parameters.length) = some 0 := by decide +kernel
theorem ct_X4_firstError {l : Launch} (g : sm_G) (TA : Nat → Prop) (a0 : Nat) : sm_CT l g (so_R g TA) (so_A g TA) yX4_firstError cX4_firstError 1 (some .int) 7 148 [.ref a0] em_i (f_X4_firstError g a0) := by
  refine sm_of (own := "PatchCordsModel") rfl rfl (bl rfl) (fun Y C hR hA hl hm => ?_)
  subst hl
  refine s_lv (L' := [(0, .ref a0)]) [0] rfl ?_
  refine s_top ?_
  unfold f_X4_firstError
  refine s_aload_n C dX4_firstError_0 1 rfl 0 rfl ?_
  refine s_iconst (v := 0) C dX4_firstError_1 (by decide) 2 rfl ?_
  refine s_put C hR hA fd_PatchCordsModel_thrown (Or.inl q1808) dX4_firstError_2 rfl rfl 5 rfl ?_
  refine s_aload_n C dX4_firstError_5 6 rfl 0 rfl ?_
  refine s_call_i (rn_V (As := []) C (ct_at hR hA (ct_on (ct_X4_findError g TA a0))) (rv_on C hR (q := vw_12) rfl) (lw_V q2314 q2316 qs89 q112 q2317) ⟨rfl, nv_X4_findError⟩ ⟨by decide, by decide⟩ rfl (bl rfl) dX4_firstError_6) 9 rfl (fun x1 => ?_)
  exact s_iret C rfl rfl dX4_firstError_9
theorem nv_X4_canDo : yX4_canDo.cls ≠ "java/lang/invoke/MethodHandle" ∧ yX4_canDo.cls ≠ "java/lang/invoke/VarHandle" ∧ (parseMethodDescriptor yX4_canDo.desc).map (fun d => d.parameters.length) = some 0 := by decide +kernel
theorem ct_X4_canDo {l : Launch} (g : sm_G) (TA : Nat → Prop) (a0 : Nat) : sm_CT l g (so_R g TA) (so_A g TA) yX4_canDo cX4_canDo 1 (some .boolean) 5 115 [.ref a0] em_i (f_X4_canDo g a0) := by
  refine sm_of (own := "PatchCordsModel") rfl rfl (bl rfl) (fun Y C hR hA hl hm => ?_)
  subst hl
  refine s_lv (L' := [(0, .ref a0)]) [0] rfl ?_
  refine s_top ?_
  unfold f_X4_canDo
  refine s_aload_n C dX4_canDo_0 1 rfl 0 rfl ?_
  refine s_getI C hR fd_PatchCordsModel_item (Or.inl q1824) dX4_canDo_1 4 rfl (fun x1 => ?_)
  refine s_bipush (v := 110) C dX4_canDo_4 (by decide) 6 rfl ?_
  refine s_cut (J := 156) (LJ := (fun (v2 : Int32) => [])) (SJ := (fun (v2 : Int32) => [.int v2])) (fun v2 => ?_) (fun _ _ hK3 => ?_)
  · refine s_zb (fun h => ?_)
    exact s_iret C rfl (s_zn h) dX4_canDo_156
  · refine s_icmp_ne C dX4_canDo_6 16 9 (by decide) rfl ?_ ?_
    · refine s_aload_n C dX4_canDo_9 10 rfl 0 rfl ?_
      refine s_call_i (rn_V (As := []) C (ct_at hR hA (ct_on (ct_X4_canPut g TA a0))) (rv_on C hR (q := vw_12) rfl) (lw_V q1880 q1882 qs36 q112 q1883) ⟨rfl, nv_X4_canPut⟩ ⟨by decide, by decide⟩ rfl (bl rfl) dX4_canDo_10) 13 rfl (fun x23 => ?_)
      refine s_goto C dX4_canDo_13 156 (by decide) ?_
      refine s_r ?_
      refine s_lv [] rfl ?_
      exact hK3 x23
    · refine s_aload_n C dX4_canDo_16 17 rfl 0 rfl ?_
      refine s_getI C hR fd_PatchCordsModel_item (Or.inl q1824) dX4_canDo_17 20 rfl (fun x4 => ?_)
      refine s_bipush (v := 43) C dX4_canDo_20 (by decide) 22 rfl ?_
      refine s_icmp_ne C dX4_canDo_22 36 25 (by decide) rfl ?_ ?_
      · refine s_aload_n C dX4_canDo_25 26 rfl 0 rfl ?_
        refine s_aload_n C dX4_canDo_26 27 rfl 0 rfl ?_
        refine s_getI C hR fd_PatchCordsModel_number (Or.inl q1823) dX4_canDo_27 30 rfl (fun x21 => ?_)
        refine s_call_i (rn_V (As := [.int x21]) C (ct_at hR hA (ct_on (ct_X4_canPass g TA a0 x21))) (rv_on C hR (q := vw_12) rfl) (lw_V q1998 q2000 qs57 q112 q2001) ⟨rfl, nv_X4_canPass⟩ ⟨by decide, by decide⟩ rfl (bl rfl) dX4_canDo_30) 33 rfl (fun x22 => ?_)
        refine s_goto C dX4_canDo_33 156 (by decide) ?_
        refine s_r ?_
        refine s_lv [] rfl ?_
        exact hK3 x22
      · refine s_aload_n C dX4_canDo_36 37 rfl 0 rfl ?_
        refine s_getI C hR fd_PatchCordsModel_item (Or.inl q1824) dX4_canDo_37 40 rfl (fun x5 => ?_)
        refine s_bipush (v := 120) C dX4_canDo_40 (by decide) 42 rfl ?_
        refine s_icmp_ne C dX4_canDo_42 68 45 (by decide) rfl ?_ ?_
        · refine s_aload_n C dX4_canDo_45 46 rfl 0 rfl ?_
          refine s_aload_n C dX4_canDo_46 47 rfl 0 rfl ?_
          refine s_getI C hR fd_PatchCordsModel_one (Or.inl q1825) dX4_canDo_47 50 rfl (fun x18 => ?_)
          refine s_aload_n C dX4_canDo_50 51 rfl 0 rfl ?_
          refine s_getI C hR fd_PatchCordsModel_inputRead (Or.inl q1827) dX4_canDo_51 54 rfl (fun x19 => ?_)
          refine s_call_i (rn_V (As := [.int x18, .int x19]) C (ct_at hR hA (ct_on (ct_X4_whyNoCord g TA a0 x18 x19))) (rv_on C hR (q := vw_12) rfl) (lw_V q1990 q1992 qs56 q112 q1993) ⟨rfl, nv_X4_whyNoCord⟩ ⟨by decide, by decide⟩ rfl (bl rfl) dX4_canDo_54) 57 rfl (fun x20 => ?_)
          refine s_if_ne C dX4_canDo_57 64 60 (by decide) rfl ?_ ?_
          · refine s_iconst (v := 1) C dX4_canDo_60 (by decide) 61 rfl ?_
            refine s_goto C dX4_canDo_61 156 (by decide) ?_
            refine s_r ?_
            refine s_lv [] rfl ?_
            exact hK3 1
          · refine s_iconst (v := 0) C dX4_canDo_64 (by decide) 65 rfl ?_
            refine s_goto C dX4_canDo_65 156 (by decide) ?_
            refine s_r ?_
            refine s_lv [] rfl ?_
            exact hK3 0
        · refine s_aload_n C dX4_canDo_68 69 rfl 0 rfl ?_
          refine s_getI C hR fd_PatchCordsModel_item (Or.inl q1824) dX4_canDo_69 72 rfl (fun x6 => ?_)
          refine s_bipush (v := 118) C dX4_canDo_72 (by decide) 74 rfl ?_
          refine s_icmp_ne C dX4_canDo_74 100 77 (by decide) rfl ?_ ?_
          · refine s_aload_n C dX4_canDo_77 78 rfl 0 rfl ?_
            refine s_aload_n C dX4_canDo_78 79 rfl 0 rfl ?_
            refine s_getI C hR fd_PatchCordsModel_one (Or.inl q1825) dX4_canDo_79 82 rfl (fun x15 => ?_)
            refine s_aload_n C dX4_canDo_82 83 rfl 0 rfl ?_
            refine s_getI C hR fd_PatchCordsModel_number (Or.inl q1823) dX4_canDo_83 86 rfl (fun x16 => ?_)
            refine s_call_i (rn_V (As := [.int x15, .int x16]) C (ct_at hR hA (ct_on (ct_X4_whyNoVoltage g TA a0 x15 x16))) (rv_on C hR (q := vw_12) rfl) (lw_V q1931 q1933 qs46 q112 q1934) ⟨rfl, nv_X4_whyNoVoltage⟩ ⟨by decide, by decide⟩ rfl (bl rfl) dX4_canDo_86) 89 rfl (fun x17 => ?_)
            refine s_if_ne C dX4_canDo_89 96 92 (by decide) rfl ?_ ?_
            · refine s_iconst (v := 1) C dX4_canDo_92 (by decide) 93 rfl ?_
              refine s_goto C dX4_canDo_93 156 (by decide) ?_
              refine s_r ?_
              refine s_lv [] rfl ?_
              exact hK3 1
            · refine s_iconst (v := 0) C dX4_canDo_96 (by decide) 97 rfl ?_
              refine s_goto C dX4_canDo_97 156 (by decide) ?_
              refine s_r ?_
              refine s_lv [] rfl ?_
              exact hK3 0
          · refine s_aload_n C dX4_canDo_100 101 rfl 0 rfl ?_
            refine s_getI C hR fd_PatchCordsModel_item (Or.inl q1824) dX4_canDo_101 104 rfl (fun x7 => ?_)
            refine s_bipush (v := 102) C dX4_canDo_104 (by decide) 106 rfl ?_
            refine s_icmp_ne C dX4_canDo_106 132 109 (by decide) rfl ?_ ?_
            · refine s_aload_n C dX4_canDo_109 110 rfl 0 rfl ?_
              refine s_aload_n C dX4_canDo_110 111 rfl 0 rfl ?_
              refine s_getI C hR fd_PatchCordsModel_one (Or.inl q1825) dX4_canDo_111 114 rfl (fun x12 => ?_)
              refine s_aload_n C dX4_canDo_114 115 rfl 0 rfl ?_
              refine s_getI C hR fd_PatchCordsModel_number (Or.inl q1823) dX4_canDo_115 118 rfl (fun x13 => ?_)
              refine s_call_i (rn_V (As := [.int x12, .int x13]) C (ct_at hR hA (ct_on (ct_X4_whyNoFactor g TA a0 x12 x13))) (rv_on C hR (q := vw_12) rfl) (lw_V q1947 q1949 qs49 q112 q1950) ⟨rfl, nv_X4_whyNoFactor⟩ ⟨by decide, by decide⟩ rfl (bl rfl) dX4_canDo_118) 121 rfl (fun x14 => ?_)
              refine s_if_ne C dX4_canDo_121 128 124 (by decide) rfl ?_ ?_
              · refine s_iconst (v := 1) C dX4_canDo_124 (by decide) 125 rfl ?_
                refine s_goto C dX4_canDo_125 156 (by decide) ?_
                refine s_r ?_
                refine s_lv [] rfl ?_
                exact hK3 1
              · refine s_iconst (v := 0) C dX4_canDo_128 (by decide) 129 rfl ?_
                refine s_goto C dX4_canDo_129 156 (by decide) ?_
                refine s_r ?_
                refine s_lv [] rfl ?_
                exact hK3 0
            · refine s_aload_n C dX4_canDo_132 133 rfl 0 rfl ?_
              refine s_aload_n C dX4_canDo_133 134 rfl 0 rfl ?_
              refine s_getI C hR fd_PatchCordsModel_one (Or.inl q1825) dX4_canDo_134 137 rfl (fun x8 => ?_)
              refine s_aload_n C dX4_canDo_137 138 rfl 0 rfl ?_
              refine s_getI C hR fd_PatchCordsModel_other (Or.inl q1826) dX4_canDo_138 141 rfl (fun x9 => ?_)
              refine s_aload_n C dX4_canDo_141 142 rfl 0 rfl ?_
              refine s_getI C hR fd_PatchCordsModel_inputRead (Or.inl q1827) dX4_canDo_142 145 rfl (fun x10 => ?_)
              refine s_call_i (rn_V (As := [.int x8, .int x9, .int x10]) C (ct_at hR hA (ct_on (ct_X4_whyNoJoin g TA a0 x8 x9 x10))) (rv_on C hR (q := vw_12) rfl) (lw_V q1963 q1965 qs51 q112 q1966) ⟨rfl, nv_X4_whyNoJoin⟩ ⟨by decide, by decide⟩ rfl (bl rfl) dX4_canDo_145) 148 rfl (fun x11 => ?_)
              refine s_if_ne C dX4_canDo_148 155 151 (by decide) rfl ?_ ?_
              · refine s_iconst (v := 1) C dX4_canDo_151 (by decide) 152 rfl ?_
                refine s_goto C dX4_canDo_152 156 (by decide) ?_
                refine s_r ?_
                refine s_lv [] rfl ?_
                exact hK3 1
              · refine s_iconst (v := 0) C dX4_canDo_155 (by decide) 156 rfl ?_
                refine s_r ?_
                refine s_lv [] rfl ?_
                exact hK3 0
theorem nv_X4_does : yX4_does.cls ≠ "java/lang/invoke/MethodHandle" ∧ yX4_does.cls ≠ "java/lang/invoke/VarHandle" ∧ (parseMethodDescriptor yX4_does.desc).map (fun d => d.parameters.length) = some 0 := by decide +kernel
theorem ct_X4_does {l : Launch} (g : sm_G) (TA : Nat → Prop) (a0 : Nat) : sm_CT l g (so_R g TA) (so_A g TA) yX4_does cX4_does 1 none 7 159 [.ref a0] em_v (f_X4_does g a0) := by
  refine sm_of (own := "PatchCordsModel") rfl rfl (bl rfl) (fun Y C hR hA hl hm => ?_)
  subst hl
  refine s_lv (L' := [(0, .ref a0)]) [0] rfl ?_
  refine s_top ?_
  unfold f_X4_does
  refine s_aload_n C dX4_does_0 1 rfl 0 rfl ?_
  refine s_getI C hR fd_PatchCordsModel_item (Or.inl q1824) dX4_does_1 4 rfl (fun x1 => ?_)
  refine s_bipush (v := 110) C dX4_does_4 (by decide) 6 rfl ?_
  refine s_cut (J := 135) (LJ := (fun (v2 : Unit) => [])) (SJ := (fun (v2 : Unit) => [])) (fun v2 => ?_) (fun _ _ hK3 => ?_)
  · exact s_vret C rfl dX4_does_135
  · refine s_icmp_ne C dX4_does_6 21 9 (by decide) rfl ?_ ?_
    · refine s_aload_n C dX4_does_9 10 rfl 0 rfl ?_
      refine s_aload_n C dX4_does_10 11 rfl 0 rfl ?_
      refine s_getI C hR fd_PatchCordsModel_number (Or.inl q1823) dX4_does_11 14 rfl (fun x23 => ?_)
      refine s_call_i (rn_V (As := [.int x23]) C (ct_at hR hA (ct_on (ct_X4_putsUp g TA a0 x23))) (rv_on C hR (q := vw_12) rfl) (lw_V q1888 q1890 qs38 q112 q1891) ⟨rfl, nv_X4_putsUp⟩ ⟨by decide, by decide⟩ rfl (bl rfl) dX4_does_14) 17 rfl (fun x24 => ?_)
      refine s_pop C dX4_does_17 rfl 18 rfl ?_
      refine s_goto C dX4_does_18 135 (by decide) ?_
      refine s_r ?_
      refine s_lv [] rfl ?_
      exact hK3 ()
    · refine s_aload_n C dX4_does_21 22 rfl 0 rfl ?_
      refine s_getI C hR fd_PatchCordsModel_item (Or.inl q1824) dX4_does_22 25 rfl (fun x4 => ?_)
      refine s_bipush (v := 43) C dX4_does_25 (by decide) 27 rfl ?_
      refine s_icmp_ne C dX4_does_27 42 30 (by decide) rfl ?_ ?_
      · refine s_aload_n C dX4_does_30 31 rfl 0 rfl ?_
        refine s_aload_n C dX4_does_31 32 rfl 0 rfl ?_
        refine s_getI C hR fd_PatchCordsModel_number (Or.inl q1823) dX4_does_32 35 rfl (fun x21 => ?_)
        refine s_call_i (rn_V (As := [.int x21]) C (ct_at hR hA (ct_on (ct_X4_passes g TA a0 x21))) (rv_on C hR (q := vw_12) rfl) (lw_V q2003 q2005 qs58 q112 q2006) ⟨rfl, nv_X4_passes⟩ ⟨by decide, by decide⟩ rfl (bl rfl) dX4_does_35) 38 rfl (fun x22 => ?_)
        refine s_pop C dX4_does_38 rfl 39 rfl ?_
        refine s_goto C dX4_does_39 135 (by decide) ?_
        refine s_r ?_
        refine s_lv [] rfl ?_
        exact hK3 ()
      · refine s_aload_n C dX4_does_42 43 rfl 0 rfl ?_
        refine s_getI C hR fd_PatchCordsModel_item (Or.inl q1824) dX4_does_43 46 rfl (fun x5 => ?_)
        refine s_bipush (v := 120) C dX4_does_46 (by decide) 48 rfl ?_
        refine s_icmp_ne C dX4_does_48 68 51 (by decide) rfl ?_ ?_
        · refine s_aload_n C dX4_does_51 52 rfl 0 rfl ?_
          refine s_iconst (v := (-1)) C dX4_does_52 (by decide) 53 rfl ?_
          refine s_aload_n C dX4_does_53 54 rfl 0 rfl ?_
          refine s_getI C hR fd_PatchCordsModel_one (Or.inl q1825) dX4_does_54 57 rfl (fun x18 => ?_)
          refine s_aload_n C dX4_does_57 58 rfl 0 rfl ?_
          refine s_getI C hR fd_PatchCordsModel_inputRead (Or.inl q1827) dX4_does_58 61 rfl (fun x19 => ?_)
          refine s_call_i (rn_V (As := [.int (-1), .int x18, .int x19]) C (ct_at hR hA (ct_on (ct_X4_joins g TA a0 (-1) x18 x19))) (rv_on C hR (q := vw_12) rfl) (lw_V q1982 q1984 qs55 q112 q1985) ⟨rfl, nv_X4_joins⟩ ⟨by decide, by decide⟩ rfl (bl rfl) dX4_does_61) 64 rfl (fun x20 => ?_)
          refine s_pop C dX4_does_64 rfl 65 rfl ?_
          refine s_goto C dX4_does_65 135 (by decide) ?_
          refine s_r ?_
          refine s_lv [] rfl ?_
          exact hK3 ()
        · refine s_aload_n C dX4_does_68 69 rfl 0 rfl ?_
          refine s_getI C hR fd_PatchCordsModel_item (Or.inl q1824) dX4_does_69 72 rfl (fun x6 => ?_)
          refine s_bipush (v := 118) C dX4_does_72 (by decide) 74 rfl ?_
          refine s_icmp_ne C dX4_does_74 93 77 (by decide) rfl ?_ ?_
          · refine s_aload_n C dX4_does_77 78 rfl 0 rfl ?_
            refine s_aload_n C dX4_does_78 79 rfl 0 rfl ?_
            refine s_getI C hR fd_PatchCordsModel_one (Or.inl q1825) dX4_does_79 82 rfl (fun x15 => ?_)
            refine s_aload_n C dX4_does_82 83 rfl 0 rfl ?_
            refine s_getI C hR fd_PatchCordsModel_number (Or.inl q1823) dX4_does_83 86 rfl (fun x16 => ?_)
            refine s_call_i (rn_V (As := [.int x15, .int x16]) C (ct_at hR hA (ct_on (ct_X4_setsVoltage g TA a0 x15 x16))) (rv_on C hR (q := vw_12) rfl) (lw_V q1939 q1941 qs48 q112 q1942) ⟨rfl, nv_X4_setsVoltage⟩ ⟨by decide, by decide⟩ rfl (bl rfl) dX4_does_86) 89 rfl (fun x17 => ?_)
            refine s_pop C dX4_does_89 rfl 90 rfl ?_
            refine s_goto C dX4_does_90 135 (by decide) ?_
            refine s_r ?_
            refine s_lv [] rfl ?_
            exact hK3 ()
          · refine s_aload_n C dX4_does_93 94 rfl 0 rfl ?_
            refine s_getI C hR fd_PatchCordsModel_item (Or.inl q1824) dX4_does_94 97 rfl (fun x7 => ?_)
            refine s_bipush (v := 102) C dX4_does_97 (by decide) 99 rfl ?_
            refine s_icmp_ne C dX4_does_99 118 102 (by decide) rfl ?_ ?_
            · refine s_aload_n C dX4_does_102 103 rfl 0 rfl ?_
              refine s_aload_n C dX4_does_103 104 rfl 0 rfl ?_
              refine s_getI C hR fd_PatchCordsModel_one (Or.inl q1825) dX4_does_104 107 rfl (fun x12 => ?_)
              refine s_aload_n C dX4_does_107 108 rfl 0 rfl ?_
              refine s_getI C hR fd_PatchCordsModel_number (Or.inl q1823) dX4_does_108 111 rfl (fun x13 => ?_)
              refine s_call_i (rn_V (As := [.int x12, .int x13]) C (ct_at hR hA (ct_on (ct_X4_setsFactor g TA a0 x12 x13))) (rv_on C hR (q := vw_12) rfl) (lw_V q1951 q1953 qs50 q112 q1954) ⟨rfl, nv_X4_setsFactor⟩ ⟨by decide, by decide⟩ rfl (bl rfl) dX4_does_111) 114 rfl (fun x14 => ?_)
              refine s_pop C dX4_does_114 rfl 115 rfl ?_
              refine s_goto C dX4_does_115 135 (by decide) ?_
              refine s_r ?_
              refine s_lv [] rfl ?_
              exact hK3 ()
            · refine s_aload_n C dX4_does_118 119 rfl 0 rfl ?_
              refine s_aload_n C dX4_does_119 120 rfl 0 rfl ?_
              refine s_getI C hR fd_PatchCordsModel_one (Or.inl q1825) dX4_does_120 123 rfl (fun x8 => ?_)
              refine s_aload_n C dX4_does_123 124 rfl 0 rfl ?_
              refine s_getI C hR fd_PatchCordsModel_other (Or.inl q1826) dX4_does_124 127 rfl (fun x9 => ?_)
              refine s_aload_n C dX4_does_127 128 rfl 0 rfl ?_
              refine s_getI C hR fd_PatchCordsModel_inputRead (Or.inl q1827) dX4_does_128 131 rfl (fun x10 => ?_)
              refine s_call_i (rn_V (As := [.int x8, .int x9, .int x10]) C (ct_at hR hA (ct_on (ct_X4_joins g TA a0 x8 x9 x10))) (rv_on C hR (q := vw_12) rfl) (lw_V q1982 q1984 qs55 q112 q1985) ⟨rfl, nv_X4_joins⟩ ⟨by decide, by decide⟩ rfl (bl rfl) dX4_does_131) 134 rfl (fun x11 => ?_)
              refine s_pop C dX4_does_134 rfl 135 rfl ?_
              refine s_r ?_
              refine s_lv [] rfl ?_
              exact hK3 ()
theorem nv_X4_patch : yX4_patch.cls ≠ "java/lang/invoke/MethodHandle" ∧ yX4_patch.cls ≠ "java/lang/invoke/VarHandle" ∧ (parseMethodDescriptor yX4_patch.desc).map (fun d => d.parameters.length) = some 0 := by decide +kernel
theorem ct_X4_patch {l : Launch} (g : sm_G) (TA : Nat → Prop) (a0 : Nat) : sm_CT l g (so_R g TA) (so_A g TA) yX4_patch cX4_patch 3 (some .int) 8 179 [.ref a0] em_i (f_X4_patch g a0) := by
  refine sm_of (own := "PatchCordsModel") rfl rfl (bl rfl) (fun Y C hR hA hl hm => ?_)
  subst hl
  refine s_lv (L' := [(0, .ref a0)]) [0] rfl ?_
  refine s_top ?_
  unfold f_X4_patch
  refine s_aload_n C dX4_patch_0 1 rfl 0 rfl ?_
  refine s_aload_n C dX4_patch_1 2 rfl 0 rfl ?_
  refine s_call_i (rn_V (As := []) C (ct_at hR hA (ct_on (ct_X4_findError g TA a0))) (rv_on C hR (q := vw_12) rfl) (lw_V q2314 q2316 qs89 q112 q2317) ⟨rfl, nv_X4_findError⟩ ⟨by decide, by decide⟩ rfl (bl rfl) dX4_patch_2) 5 rfl (fun x1 => ?_)
  refine s_iconst (v := (-1)) C dX4_patch_5 (by decide) 6 rfl ?_
  refine s_cut (J := 14) (LJ := (fun (v2 : Int32) => [(0, .ref a0)])) (SJ := (fun (v2 : Int32) => [.int v2, .ref a0])) (fun v2 => ?_) (fun _ _ hK3 => ?_)
  · refine s_put C hR hA fd_PatchCordsModel_thrown (Or.inl q1808) dX4_patch_14 rfl rfl 17 rfl ?_
    refine s_aload_n C dX4_patch_17 18 rfl 0 rfl ?_
    refine s_getI C hR fd_PatchCordsModel_thrown (Or.inl q1808) dX4_patch_18 21 rfl (fun x4 => ?_)
    refine s_if_le C dX4_patch_21 26 24 (by decide) rfl ?_ ?_
    · refine s_aload_n C dX4_patch_26 27 rfl 0 rfl ?_
      refine s_call_v (rn_V (As := []) C (ct_at hR hA (ct_on (ct_X4_saves g TA a0))) (rv_on C hR (q := vw_12) rfl) (lw_V q1884 q1886 qs37 q112 q1887) ⟨rfl, nv_X4_saves⟩ ⟨by decide, by decide⟩ rfl (bl rfl) dX4_patch_27) 30 rfl ?_
      refine s_iconst (v := 0) C dX4_patch_30 (by decide) 31 rfl ?_
      refine s_istore_n C dX4_patch_31 rfl (by decide) 32 rfl [(1, .int 0), (0, .ref a0)] rfl ?_
      refine s_aload_n C dX4_patch_32 33 rfl 1 rfl ?_
      refine s_iconst (v := 0) C dX4_patch_33 (by decide) 34 rfl ?_
      refine s_put C hR hA fd_PatchCordsModel_reading (Or.inl q1822) dX4_patch_34 rfl rfl 37 rfl ?_
      refine s_iconst (v := 1) C dX4_patch_37 (by decide) 38 rfl ?_
      refine s_istore_n C dX4_patch_38 rfl (by decide) 39 rfl [(2, .int 1), (1, .int 0), (0, .ref a0)] rfl ?_
      refine s_lv [2, 1, 0] rfl ?_
      refine s_loop (fun (s6 : Int32 × Int32) => [(0, .ref a0), (1, .int s6.1), (2, .int s6.2)]) (fun (v15 : Int32) => [(0, .ref a0), (1, .int v15)]) 88 (0, 1) rfl (fun v15 => ?_) (fun _ s6 hk7 hx8 => ?_)
      · refine s_aload_n C dX4_patch_88 89 rfl 0 rfl ?_
        refine s_iconst (v := 0) C dX4_patch_89 (by decide) 90 rfl ?_
        refine s_put C hR hA fd_PatchCordsModel_textLength (Or.inl q1821) dX4_patch_90 rfl rfl 93 rfl ?_
        refine s_iload_n C dX4_patch_93 94 rfl 1 rfl ?_
        exact s_iret C rfl rfl dX4_patch_94
      · refine s_iload_n C dX4_patch_39 40 rfl 2 rfl ?_
        refine s_if_eq C dX4_patch_40 88 43 (by decide) rfl ?_ ?_
        · refine s_r ?_
          refine s_lv [0, 1] rfl ?_
          exact hx8 s6.1
        · refine s_aload_n C dX4_patch_43 44 rfl 0 rfl ?_
          refine s_getI C hR fd_PatchCordsModel_reading (Or.inl q1822) dX4_patch_44 47 rfl (fun x9 => ?_)
          refine s_aload_n C dX4_patch_47 48 rfl 0 rfl ?_
          refine s_getI C hR fd_PatchCordsModel_textLength (Or.inl q1821) dX4_patch_48 51 rfl (fun x10 => ?_)
          refine s_icmp_ge C dX4_patch_51 88 54 (by decide) rfl ?_ ?_
          · refine s_r ?_
            refine s_lv [0, 1] rfl ?_
            exact hx8 s6.1
          · refine s_aload_n C dX4_patch_54 55 rfl 0 rfl ?_
            refine s_call_i (rn_V (As := []) C (ct_at hR hA (ct_on (ct_X4_readsItem g TA a0))) (rv_on C hR (q := vw_12) rfl) (lw_V q2318 q2320 qs90 q112 q2321) ⟨rfl, nv_X4_readsItem⟩ ⟨by decide, by decide⟩ rfl (bl rfl) dX4_patch_55) 58 rfl (fun x11 => ?_)
            refine s_pop C dX4_patch_58 rfl 59 rfl ?_
            refine s_aload_n C dX4_patch_59 60 rfl 0 rfl ?_
            refine s_dup C dX4_patch_60 rfl 61 rfl ?_
            refine s_getI C hR fd_PatchCordsModel_reading (Or.inl q1822) dX4_patch_61 64 rfl (fun x12 => ?_)
            refine s_iconst (v := 1) C dX4_patch_64 (by decide) 65 rfl ?_
            refine s_iadd C dX4_patch_65 66 rfl ?_
            refine s_put C hR hA fd_PatchCordsModel_reading (Or.inl q1822) dX4_patch_66 rfl rfl 69 rfl ?_
            refine s_aload_n C dX4_patch_69 70 rfl 0 rfl ?_
            refine s_call_i (rn_V (As := []) C (ct_at hR hA (ct_on (ct_X4_canDo g TA a0))) (rv_on C hR (q := vw_12) rfl) (lw_V q2350 q2352 qs97 q112 q2353) ⟨rfl, nv_X4_canDo⟩ ⟨by decide, by decide⟩ rfl (bl rfl) dX4_patch_70) 73 rfl (fun x13 => ?_)
            refine s_istore_n C dX4_patch_73 rfl (by decide) 74 rfl [(2, .int x13), (0, .ref a0), (1, .int s6.1)] rfl ?_
            refine s_iload_n C dX4_patch_74 75 rfl 0 rfl ?_
            refine s_if_eq C dX4_patch_75 39 78 (by decide) rfl ?_ ?_
            · refine s_r ?_
              refine s_lv [1, 2, 0] rfl ?_
              exact hk7 (s6.1, x13)
            · refine s_aload_n C dX4_patch_78 79 rfl 1 rfl ?_
              refine s_call_v (rn_V (As := []) C (ct_at hR hA (ct_on (ct_X4_does g TA a0))) (rv_on C hR (q := vw_12) rfl) (lw_V q2354 q2356 qs98 q112 q2357) ⟨rfl, nv_X4_does⟩ ⟨by decide, by decide⟩ rfl (bl rfl) dX4_patch_79) 82 rfl ?_
              refine s_iinc C dX4_patch_82 (s6.1 + 1) rfl 2 rfl (by decide) 85 rfl [(1, .int (s6.1 + 1)), (2, .int x13), (0, .ref a0)] rfl ?_
              refine s_goto C dX4_patch_85 39 (by decide) ?_
              refine s_r ?_
              refine s_lv [2, 0, 1] rfl ?_
              exact hk7 (s6.1 + 1, x13)
    · refine s_iconst (v := 0) C dX4_patch_24 (by decide) 25 rfl ?_
      exact s_iret C rfl rfl dX4_patch_25
  · refine s_icmp_ne C dX4_patch_6 13 9 (by decide) rfl ?_ ?_
    · refine s_iconst (v := 0) C dX4_patch_9 (by decide) 10 rfl ?_
      refine s_goto C dX4_patch_10 14 (by decide) ?_
      refine s_r ?_
      refine s_lv [0] rfl ?_
      exact hK3 0
    · refine s_iconst (v := 1) C dX4_patch_13 (by decide) 14 rfl ?_
      refine s_r ?_
      refine s_lv [0] rfl ?_
      exact hK3 1
theorem nv_X4_undo : yX4_undo.cls ≠ "java/lang/invoke/MethodHandle" ∧ yX4_undo.cls ≠ "java/lang/invoke/VarHandle" ∧ (parseMethodDescriptor yX4_undo.desc).map (fun d => d.parameters.length) = some 0 := by decide +kernel
theorem ct_X4_undo {l : Launch} (g : sm_G) (TA : Nat → Prop) (a0 : Nat) : sm_CT l g (so_R g TA) (so_A g TA) yX4_undo cX4_undo 2 (some .int) 0 0 [.ref a0] em_i (f_X4_undo g a0) := by
  refine sm_of (own := "PatchCordsModel") rfl rfl (bl rfl) (fun Y C hR hA hl hm => ?_)
  subst hl
  refine s_lv (L' := [(0, .ref a0)]) [0] rfl ?_
  refine s_top ?_
  unfold f_X4_undo
  refine s_aload_n C dX4_undo_0 1 rfl 0 rfl ?_
  refine s_aload_n C dX4_undo_1 2 rfl 0 rfl ?_
  refine s_getI C hR fd_PatchCordsModel_savedStates (Or.inl q1811) dX4_undo_2 5 rfl (fun x1 => ?_)
  refine s_cut (J := 13) (LJ := (fun (v2 : Int32) => [(0, .ref a0)])) (SJ := (fun (v2 : Int32) => [.int v2, .ref a0])) (fun v2 => ?_) (fun _ _ hK3 => ?_)
  · refine s_put C hR hA fd_PatchCordsModel_thrown (Or.inl q1808) dX4_undo_13 rfl rfl 16 rfl ?_
    refine s_aload_n C dX4_undo_16 17 rfl 0 rfl ?_
    refine s_getI C hR fd_PatchCordsModel_thrown (Or.inl q1808) dX4_undo_17 20 rfl (fun x4 => ?_)
    refine s_if_le C dX4_undo_20 25 23 (by decide) rfl ?_ ?_
    · refine s_aload_n C dX4_undo_25 26 rfl 0 rfl ?_
      refine s_dup C dX4_undo_26 rfl 27 rfl ?_
      refine s_getI C hR fd_PatchCordsModel_savedStates (Or.inl q1811) dX4_undo_27 30 rfl (fun x5 => ?_)
      refine s_iconst (v := 1) C dX4_undo_30 (by decide) 31 rfl ?_
      refine s_isub C dX4_undo_31 32 rfl ?_
      refine s_put C hR hA fd_PatchCordsModel_savedStates (Or.inl q1811) dX4_undo_32 rfl rfl 35 rfl ?_
      refine s_iconst (v := 0) C dX4_undo_35 (by decide) 36 rfl ?_
      refine s_istore_n C dX4_undo_36 rfl (by decide) 37 rfl [(1, .int 0), (0, .ref a0)] rfl ?_
      refine s_lv [1, 0] rfl ?_
      refine s_loop (fun (s6 : Int32) => [(0, .ref a0), (1, .int s6)]) (fun (v13 : Unit) => [(0, .ref a0)]) 71 0 rfl (fun v13 => ?_) (fun _ s6 hk7 hx8 => ?_)
      · refine s_aload_n C dX4_undo_71 72 rfl 0 rfl ?_
        refine s_getI C hR fd_PatchCordsModel_savedStates (Or.inl q1811) dX4_undo_72 75 rfl (fun x14 => ?_)
        exact s_iret C rfl rfl dX4_undo_75
      · refine s_iload_n C dX4_undo_37 38 rfl 1 rfl ?_
        refine s_sipush (v := 242) C dX4_undo_38 (by decide) 41 rfl ?_
        refine s_icmp_ge C dX4_undo_41 71 44 (by decide) rfl ?_ ?_
        · refine s_r ?_
          refine s_lv [0] rfl ?_
          exact hx8 ()
        · refine s_aload_n C dX4_undo_44 45 rfl 0 rfl ?_
          refine s_getR C hR fd_PatchCordsModel_state (Or.inl q1809) dX4_undo_45 48 rfl (fun x9 => ?_)
          refine s_iload_n C dX4_undo_48 49 rfl 1 rfl ?_
          refine s_aload_n C dX4_undo_49 50 rfl 0 rfl ?_
          refine s_getR C hR fd_PatchCordsModel_history (Or.inl q1810) dX4_undo_50 53 rfl (fun x10 => ?_)
          refine s_aload_n C dX4_undo_53 54 rfl 0 rfl ?_
          refine s_getI C hR fd_PatchCordsModel_savedStates (Or.inl q1811) dX4_undo_54 57 rfl (fun x11 => ?_)
          refine s_sipush (v := 242) C dX4_undo_57 (by decide) 60 rfl ?_
          refine s_imul C dX4_undo_60 61 rfl ?_
          refine s_iload_n C dX4_undo_61 62 rfl 1 rfl ?_
          refine s_iadd C dX4_undo_62 63 rfl ?_
          refine s_iald C hR dX4_undo_63 64 rfl (fun x12 => ?_)
          refine s_iast C hR hA dX4_undo_64 65 rfl ?_
          refine s_iinc C dX4_undo_65 (s6 + 1) rfl 1 rfl (by decide) 68 rfl [(1, .int (s6 + 1)), (0, .ref a0)] rfl ?_
          refine s_goto C dX4_undo_68 37 (by decide) ?_
          refine s_r ?_
          refine s_lv [1, 0] rfl ?_
          exact hk7 (s6 + 1)
    · refine s_iconst (v := 0) C dX4_undo_23 (by decide) 24 rfl ?_
      exact s_iret C rfl rfl dX4_undo_24
  · refine s_if_ne C dX4_undo_5 12 8 (by decide) rfl ?_ ?_
    · refine s_iconst (v := 1) C dX4_undo_8 (by decide) 9 rfl ?_
      refine s_goto C dX4_undo_9 13 (by decide) ?_
      refine s_r ?_
      refine s_lv [0] rfl ?_
      exact hK3 1
    · refine s_iconst (v := 0) C dX4_undo_12 (by decide) 13 rfl ?_
      refine s_r ?_
      refine s_lv [0] rfl ?_
      exact hK3 0
theorem nv_X4_withModule : yX4_withModule.cls ≠ "java/lang/invoke/MethodHandle" ∧ yX4_withModule.cls ≠ "java/lang/invoke/VarHandle" ∧ (parseMethodDescriptor yX4_withModule.desc).map (fun d => d.parameters.length) = some 2 := by decide +kernel
theorem ct_X4_withModule {l : Launch} (g : sm_G) (TA : Nat → Prop) (a0 : Nat) (p0 : Int64) (p1 : Int32) : sm_CT l g (so_R g TA) (so_A g TA) yX4_withModule cX4_withModule 7 (some .long) 8 182 [.ref a0, .long p0, .int p1] em_l (f_X4_withModule g a0 p0 p1) := by
  refine sm_of (own := "PatchCordsModel") rfl rfl (bl rfl) (fun Y C hR hA hl hm => ?_)
  subst hl
  refine s_lv (L' := [(0, .ref a0), (1, .long p0), (3, .int p1)]) [0, 1, 2] rfl ?_
  refine s_top ?_
  unfold f_X4_withModule
  refine s_lload_n C dX4_withModule_0 1 rfl 1 rfl ?_
  refine s_lstore C dX4_withModule_1 (by decide) 3 rfl [(4, .long p0), (0, .ref a0), (1, .long p0), (3, .int p1)] rfl ?_
  refine s_ldc2 (v := 31) C q2367 dX4_withModule_3 6 rfl ?_
  refine s_lload C dX4_withModule_6 8 rfl 0 rfl ?_
  refine s_lmul C dX4_withModule_8 9 rfl ?_
  refine s_aload_n C dX4_withModule_9 10 rfl 1 rfl ?_
  refine s_iload_n C dX4_withModule_10 11 rfl 3 rfl ?_
  refine s_call_i (rn_V (As := [.int p1]) C (ct_at hR hA (ct_on (ct_X4_kind g TA a0 p1))) (rv_on C hR (q := vw_12) rfl) (lw_V q1912 q1914 qs43 q112 q1915) ⟨rfl, nv_X4_kind⟩ ⟨by decide, by decide⟩ rfl (bl rfl) dX4_withModule_11) 14 rfl (fun x1 => ?_)
  refine s_i2l C dX4_withModule_14 15 rfl ?_
  refine s_ladd C dX4_withModule_15 16 rfl ?_
  refine s_topl (fun x2 => ?_)
  refine s_lstore C dX4_withModule_16 (by decide) 18 rfl [(4, .long x2), (0, .ref a0), (1, .long p0), (3, .int p1)] rfl ?_
  refine s_ldc2 (v := 31) C q2367 dX4_withModule_18 21 rfl ?_
  refine s_lload C dX4_withModule_21 23 rfl 0 rfl ?_
  refine s_lmul C dX4_withModule_23 24 rfl ?_
  refine s_aload_n C dX4_withModule_24 25 rfl 1 rfl ?_
  refine s_iload_n C dX4_withModule_25 26 rfl 3 rfl ?_
  refine s_iconst (v := 1) C dX4_withModule_26 (by decide) 27 rfl ?_
  refine s_call_i (rn_V (As := [.int p1, .int 1]) C (ct_at hR hA (ct_on (ct_X4_of g TA a0 p1 1))) (rv_on C hR (q := vw_12) rfl) (lw_V q1916 q1918 qs44 q112 q1919) ⟨rfl, nv_X4_of⟩ ⟨by decide, by decide⟩ rfl (bl rfl) dX4_withModule_27) 30 rfl (fun x3 => ?_)
  refine s_i2l C dX4_withModule_30 31 rfl ?_
  refine s_ladd C dX4_withModule_31 32 rfl ?_
  refine s_topl (fun x4 => ?_)
  refine s_lstore C dX4_withModule_32 (by decide) 34 rfl [(4, .long x4), (0, .ref a0), (1, .long p0), (3, .int p1)] rfl ?_
  refine s_ldc2 (v := 31) C q2367 dX4_withModule_34 37 rfl ?_
  refine s_lload C dX4_withModule_37 39 rfl 0 rfl ?_
  refine s_lmul C dX4_withModule_39 40 rfl ?_
  refine s_aload_n C dX4_withModule_40 41 rfl 1 rfl ?_
  refine s_iload_n C dX4_withModule_41 42 rfl 3 rfl ?_
  refine s_call_i (rn_V (As := [.int p1]) C (ct_at hR hA (ct_on (ct_X4_output g TA a0 p1))) (rv_on C hR (q := vw_12) rfl) (lw_V q2146 q2148 qs75 q112 q2149) ⟨rfl, nv_X4_output⟩ ⟨by decide, by decide⟩ rfl (bl rfl) dX4_withModule_42) 45 rfl (fun x5 => ?_)
  refine s_i2l C dX4_withModule_45 46 rfl ?_
  refine s_ladd C dX4_withModule_46 47 rfl ?_
  refine s_topl (fun x6 => ?_)
  refine s_lstore C dX4_withModule_47 (by decide) 49 rfl [(4, .long x6), (0, .ref a0), (1, .long p0), (3, .int p1)] rfl ?_
  refine s_ldc2 (v := 31) C q2367 dX4_withModule_49 52 rfl ?_
  refine s_lload C dX4_withModule_52 54 rfl 0 rfl ?_
  refine s_lmul C dX4_withModule_54 55 rfl ?_
  refine s_aload_n C dX4_withModule_55 56 rfl 1 rfl ?_
  refine s_iload_n C dX4_withModule_56 57 rfl 3 rfl ?_
  refine s_iconst (v := 4) C dX4_withModule_57 (by decide) 58 rfl ?_
  refine s_call_i (rn_V (As := [.int p1, .int 4]) C (ct_at hR hA (ct_on (ct_X4_of g TA a0 p1 4))) (rv_on C hR (q := vw_12) rfl) (lw_V q1916 q1918 qs44 q112 q1919) ⟨rfl, nv_X4_of⟩ ⟨by decide, by decide⟩ rfl (bl rfl) dX4_withModule_58) 61 rfl (fun x7 => ?_)
  refine s_i2l C dX4_withModule_61 62 rfl ?_
  refine s_ladd C dX4_withModule_62 63 rfl ?_
  refine s_topl (fun x8 => ?_)
  refine s_lstore C dX4_withModule_63 (by decide) 65 rfl [(4, .long x8), (0, .ref a0), (1, .long p0), (3, .int p1)] rfl ?_
  refine s_ldc2 (v := 31) C q2367 dX4_withModule_65 68 rfl ?_
  refine s_lload C dX4_withModule_68 70 rfl 0 rfl ?_
  refine s_lmul C dX4_withModule_70 71 rfl ?_
  refine s_aload_n C dX4_withModule_71 72 rfl 1 rfl ?_
  refine s_iload_n C dX4_withModule_72 73 rfl 3 rfl ?_
  refine s_call_i (rn_V (As := [.int p1]) C (ct_at hR hA (ct_on (ct_X4_scale g TA a0 p1))) (rv_on C hR (q := vw_12) rfl) (lw_V q2190 q2192 qs79 q112 q2193) ⟨rfl, nv_X4_scale⟩ ⟨by decide, by decide⟩ rfl (bl rfl) dX4_withModule_73) 76 rfl (fun x9 => ?_)
  refine s_i2l C dX4_withModule_76 77 rfl ?_
  refine s_ladd C dX4_withModule_77 78 rfl ?_
  refine s_topl (fun x10 => ?_)
  refine s_lstore C dX4_withModule_78 (by decide) 80 rfl [(4, .long x10), (0, .ref a0), (1, .long p0), (3, .int p1)] rfl ?_
  refine s_ldc2 (v := 31) C q2367 dX4_withModule_80 83 rfl ?_
  refine s_lload C dX4_withModule_83 85 rfl 0 rfl ?_
  refine s_lmul C dX4_withModule_85 86 rfl ?_
  refine s_aload_n C dX4_withModule_86 87 rfl 1 rfl ?_
  refine s_getR C hR fd_PatchCordsModel_levels (Or.inl q1815) dX4_withModule_87 90 rfl (fun x11 => ?_)
  refine s_iload_n C dX4_withModule_90 91 rfl 3 rfl ?_
  refine s_iald C hR dX4_withModule_91 92 rfl (fun x12 => ?_)
  refine s_i2l C dX4_withModule_92 93 rfl ?_
  refine s_ladd C dX4_withModule_93 94 rfl ?_
  refine s_topl (fun x13 => ?_)
  refine s_lstore C dX4_withModule_94 (by decide) 96 rfl [(4, .long x13), (0, .ref a0), (1, .long p0), (3, .int p1)] rfl ?_
  refine s_ldc2 (v := 31) C q2367 dX4_withModule_96 99 rfl ?_
  refine s_lload C dX4_withModule_99 101 rfl 0 rfl ?_
  refine s_lmul C dX4_withModule_101 102 rfl ?_
  refine s_aload_n C dX4_withModule_102 103 rfl 1 rfl ?_
  refine s_iload_n C dX4_withModule_103 104 rfl 3 rfl ?_
  refine s_iconst (v := 1) C dX4_withModule_104 (by decide) 105 rfl ?_
  refine s_call_i (rn_V (As := [.int p1, .int 1]) C (ct_at hR hA (ct_on (ct_X4_depends g TA a0 p1 1))) (rv_on C hR (q := vw_12) rfl) (lw_V q1971 q1973 qs53 q112 q1974) ⟨rfl, nv_X4_depends⟩ ⟨by decide, by decide⟩ rfl (bl rfl) dX4_withModule_105) 108 rfl (fun x14 => ?_)
  refine s_i2l C dX4_withModule_108 109 rfl ?_
  refine s_ladd C dX4_withModule_109 110 rfl ?_
  refine s_topl (fun x15 => ?_)
  refine s_lstore C dX4_withModule_110 (by decide) 112 rfl [(4, .long x15), (0, .ref a0), (1, .long p0), (3, .int p1)] rfl ?_
  refine s_ldc2 (v := 31) C q2367 dX4_withModule_112 115 rfl ?_
  refine s_lload C dX4_withModule_115 117 rfl 0 rfl ?_
  refine s_lmul C dX4_withModule_117 118 rfl ?_
  refine s_aload_n C dX4_withModule_118 119 rfl 1 rfl ?_
  refine s_iload_n C dX4_withModule_119 120 rfl 3 rfl ?_
  refine s_bipush (v := 10) C dX4_withModule_120 (by decide) 122 rfl ?_
  refine s_call_i (rn_V (As := [.int p1, .int 10]) C (ct_at hR hA (ct_on (ct_X4_outputThen g TA a0 p1 10))) (rv_on C hR (q := vw_12) rfl) (lw_V q2266 q2268 qs84 q112 q2269) ⟨rfl, nv_X4_outputThen⟩ ⟨by decide, by decide⟩ rfl (bl rfl) dX4_withModule_122) 125 rfl (fun x16 => ?_)
  refine s_i2l C dX4_withModule_125 126 rfl ?_
  refine s_ladd C dX4_withModule_126 127 rfl ?_
  refine s_topl (fun x17 => ?_)
  refine s_lstore C dX4_withModule_127 (by decide) 129 rfl [(4, .long x17), (0, .ref a0), (1, .long p0), (3, .int p1)] rfl ?_
  refine s_aload_n C dX4_withModule_129 130 rfl 1 rfl ?_
  refine s_call_v (rn_V (As := []) C (ct_at hR hA (ct_on (ct_X4_laysOuts g TA a0))) (rv_on C hR (q := vw_12) rfl) (lw_V q2011 q2013 qs60 q112 q2014) ⟨rfl, nv_X4_laysOuts⟩ ⟨by decide, by decide⟩ rfl (bl rfl) dX4_withModule_130) 133 rfl ?_
  refine s_iconst (v := 0) C dX4_withModule_133 (by decide) 134 rfl ?_
  refine s_istore C dX4_withModule_134 (by decide) 136 rfl [(6, .int 0), (4, .long x17), (0, .ref a0), (1, .long p0), (3, .int p1)] rfl ?_
  refine s_lv [2, 4, 1, 0] rfl ?_
  refine s_loop (fun (s19 : Int64 × Int32) => [(0, .ref a0), (3, .int p1), (4, .long s19.1), (6, .int s19.2)]) (fun (v28 : Int64) => [(4, .long v28)]) 191 (x17, 0) rfl (fun v28 => ?_) (fun _ s19 hk20 hx21 => ?_)
  · refine s_lload C dX4_withModule_191 193 rfl 0 rfl ?_
    exact s_lret C rfl dX4_withModule_193
  · refine s_iload C dX4_withModule_136 138 rfl 3 rfl ?_
    refine s_aload_n C dX4_withModule_138 139 rfl 0 rfl ?_
    refine s_iload_n C dX4_withModule_139 140 rfl 1 rfl ?_
    refine s_call_i (rn_V (As := [.int p1]) C (ct_at hR hA (ct_on (ct_X4_kind g TA a0 p1))) (rv_on C hR (q := vw_12) rfl) (lw_V q1912 q1914 qs43 q112 q1915) ⟨rfl, nv_X4_kind⟩ ⟨by decide, by decide⟩ rfl (bl rfl) dX4_withModule_140) 143 rfl (fun x22 => ?_)
    refine s_call_i (rn_S (As := [.int x22]) C (ct_at hR hA (ct_X4_inputsOfKind g TA x22)) (lw_S q1924 q1925 q112 q1926) nv_X4_inputsOfKind ⟨by decide, by decide⟩ rfl (bl rfl) dX4_withModule_143) 146 rfl (fun x23 => ?_)
    refine s_icmp_ge C dX4_withModule_146 191 149 (by decide) rfl ?_ ?_
    · refine s_r ?_
      refine s_lv [2] rfl ?_
      exact hx21 s19.1
    · refine s_ldc2 (v := 31) C q2367 dX4_withModule_149 152 rfl ?_
      refine s_lload C dX4_withModule_152 154 rfl 2 rfl ?_
      refine s_lmul C dX4_withModule_154 155 rfl ?_
      refine s_aload_n C dX4_withModule_155 156 rfl 0 rfl ?_
      refine s_iload_n C dX4_withModule_156 157 rfl 1 rfl ?_
      refine s_iconst (v := 5) C dX4_withModule_157 (by decide) 158 rfl ?_
      refine s_iload C dX4_withModule_158 160 rfl 3 rfl ?_
      refine s_iadd C dX4_withModule_160 161 rfl ?_
      refine s_call_i (rn_V (As := [.int p1, .int (5 + s19.2)]) C (ct_at hR hA (ct_on (ct_X4_of g TA a0 p1 (5 + s19.2)))) (rv_on C hR (q := vw_12) rfl) (lw_V q1916 q1918 qs44 q112 q1919) ⟨rfl, nv_X4_of⟩ ⟨by decide, by decide⟩ rfl (bl rfl) dX4_withModule_161) 164 rfl (fun x24 => ?_)
      refine s_i2l C dX4_withModule_164 165 rfl ?_
      refine s_ladd C dX4_withModule_165 166 rfl ?_
      refine s_topl (fun x25 => ?_)
      refine s_lstore C dX4_withModule_166 (by decide) 168 rfl [(4, .long x25), (0, .ref a0), (3, .int p1), (6, .int s19.2)] rfl ?_
      refine s_ldc2 (v := 31) C q2367 dX4_withModule_168 171 rfl ?_
      refine s_lload C dX4_withModule_171 173 rfl 0 rfl ?_
      refine s_lmul C dX4_withModule_173 174 rfl ?_
      refine s_aload_n C dX4_withModule_174 175 rfl 1 rfl ?_
      refine s_iload_n C dX4_withModule_175 176 rfl 2 rfl ?_
      refine s_iload C dX4_withModule_176 178 rfl 3 rfl ?_
      refine s_call_i (rn_V (As := [.int p1, .int s19.2]) C (ct_at hR hA (ct_on (ct_X4_in g TA a0 p1 s19.2))) (rv_on C hR (q := vw_12) rfl) (lw_V q2027 q2029 qs64 q112 q2030) ⟨rfl, nv_X4_in⟩ ⟨by decide, by decide⟩ rfl (bl rfl) dX4_withModule_178) 181 rfl (fun x26 => ?_)
      refine s_i2l C dX4_withModule_181 182 rfl ?_
      refine s_ladd C dX4_withModule_182 183 rfl ?_
      refine s_topl (fun x27 => ?_)
      refine s_lstore C dX4_withModule_183 (by decide) 185 rfl [(4, .long x27), (0, .ref a0), (3, .int p1), (6, .int s19.2)] rfl ?_
      refine s_iinc C dX4_withModule_185 (s19.2 + 1) rfl 3 rfl (by decide) 188 rfl [(6, .int (s19.2 + 1)), (4, .long x27), (0, .ref a0), (3, .int p1)] rfl ?_
      refine s_goto C dX4_withModule_188 136 (by decide) ?_
      refine s_r ?_
      refine s_lv [2, 3, 1, 0] rfl ?_
      exact hk20 (x27, s19.2 + 1)
theorem nv_X4_digest : yX4_digest.cls ≠ "java/lang/invoke/MethodHandle" ∧ yX4_digest.cls ≠ "java/lang/invoke/VarHandle" ∧ (parseMethodDescriptor yX4_digest.desc).map (fun d => d.parameters.length) = some 0 := by decide +kernel
theorem ct_X4_digest {l : Launch} (g : sm_G) (TA : Nat → Prop) (a0 : Nat) : sm_CT l g (so_R g TA) (so_A g TA) yX4_digest cX4_digest 5 (some .long) 9 208 [.ref a0] em_l (f_X4_digest g a0) := by
  refine sm_of (own := "PatchCordsModel") rfl rfl (bl rfl) (fun Y C hR hA hl hm => ?_)
  subst hl
  refine s_lv (L' := [(0, .ref a0)]) [0] rfl ?_
  refine s_top ?_
  unfold f_X4_digest
  refine s_aload_n C dX4_digest_0 1 rfl 0 rfl ?_
  refine s_iconst (v := 0) C dX4_digest_1 (by decide) 2 rfl ?_
  refine s_put C hR hA fd_PatchCordsModel_thrown (Or.inl q1808) dX4_digest_2 rfl rfl 5 rfl ?_
  refine s_ldc2 (v := 610) C q2366 dX4_digest_5 8 rfl ?_
  refine s_lstore_n C dX4_digest_8 rfl (by decide) 9 rfl [(1, .long 610), (0, .ref a0)] rfl ?_
  refine s_ldc2 (v := 31) C q2367 dX4_digest_9 12 rfl ?_
  refine s_lload_n C dX4_digest_12 13 rfl 0 rfl ?_
  refine s_lmul C dX4_digest_13 14 rfl ?_
  refine s_aload_n C dX4_digest_14 15 rfl 1 rfl ?_
  refine s_getR C hR fd_PatchCordsModel_state (Or.inl q1809) dX4_digest_15 18 rfl (fun x1 => ?_)
  refine s_iconst (v := 0) C dX4_digest_18 (by decide) 19 rfl ?_
  refine s_iald C hR dX4_digest_19 20 rfl (fun x2 => ?_)
  refine s_i2l C dX4_digest_20 21 rfl ?_
  refine s_ladd C dX4_digest_21 22 rfl ?_
  refine s_topl (fun x3 => ?_)
  refine s_lstore_n C dX4_digest_22 rfl (by decide) 23 rfl [(1, .long x3), (0, .ref a0)] rfl ?_
  refine s_ldc2 (v := 31) C q2367 dX4_digest_23 26 rfl ?_
  refine s_lload_n C dX4_digest_26 27 rfl 0 rfl ?_
  refine s_lmul C dX4_digest_27 28 rfl ?_
  refine s_aload_n C dX4_digest_28 29 rfl 1 rfl ?_
  refine s_call_i (rn_V (As := []) C (ct_at hR hA (ct_on (ct_X4_manyCords g TA a0))) (rv_on C hR (q := vw_12) rfl) (lw_V q2122 q2124 qs74 q112 q2125) ⟨rfl, nv_X4_manyCords⟩ ⟨by decide, by decide⟩ rfl (bl rfl) dX4_digest_29) 32 rfl (fun x4 => ?_)
  refine s_i2l C dX4_digest_32 33 rfl ?_
  refine s_ladd C dX4_digest_33 34 rfl ?_
  refine s_topl (fun x5 => ?_)
  refine s_lstore_n C dX4_digest_34 rfl (by decide) 35 rfl [(1, .long x5), (0, .ref a0)] rfl ?_
  refine s_ldc2 (v := 31) C q2367 dX4_digest_35 38 rfl ?_
  refine s_lload_n C dX4_digest_38 39 rfl 0 rfl ?_
  refine s_lmul C dX4_digest_39 40 rfl ?_
  refine s_aload_n C dX4_digest_40 41 rfl 1 rfl ?_
  refine s_getR C hR fd_PatchCordsModel_state (Or.inl q1809) dX4_digest_41 44 rfl (fun x6 => ?_)
  refine s_iconst (v := 1) C dX4_digest_44 (by decide) 45 rfl ?_
  refine s_iald C hR dX4_digest_45 46 rfl (fun x7 => ?_)
  refine s_i2l C dX4_digest_46 47 rfl ?_
  refine s_ladd C dX4_digest_47 48 rfl ?_
  refine s_topl (fun x8 => ?_)
  refine s_lstore_n C dX4_digest_48 rfl (by decide) 49 rfl [(1, .long x8), (0, .ref a0)] rfl ?_
  refine s_ldc2 (v := 31) C q2367 dX4_digest_49 52 rfl ?_
  refine s_lload_n C dX4_digest_52 53 rfl 0 rfl ?_
  refine s_lmul C dX4_digest_53 54 rfl ?_
  refine s_aload_n C dX4_digest_54 55 rfl 1 rfl ?_
  refine s_getR C hR fd_PatchCordsModel_state (Or.inl q1809) dX4_digest_55 58 rfl (fun x9 => ?_)
  refine s_iconst (v := 2) C dX4_digest_58 (by decide) 59 rfl ?_
  refine s_iald C hR dX4_digest_59 60 rfl (fun x10 => ?_)
  refine s_i2l C dX4_digest_60 61 rfl ?_
  refine s_ladd C dX4_digest_61 62 rfl ?_
  refine s_topl (fun x11 => ?_)
  refine s_lstore_n C dX4_digest_62 rfl (by decide) 63 rfl [(1, .long x11), (0, .ref a0)] rfl ?_
  refine s_ldc2 (v := 31) C q2367 dX4_digest_63 66 rfl ?_
  refine s_lload_n C dX4_digest_66 67 rfl 0 rfl ?_
  refine s_lmul C dX4_digest_67 68 rfl ?_
  refine s_aload_n C dX4_digest_68 69 rfl 1 rfl ?_
  refine s_getR C hR fd_PatchCordsModel_state (Or.inl q1809) dX4_digest_69 72 rfl (fun x12 => ?_)
  refine s_iconst (v := 3) C dX4_digest_72 (by decide) 73 rfl ?_
  refine s_iald C hR dX4_digest_73 74 rfl (fun x13 => ?_)
  refine s_i2l C dX4_digest_74 75 rfl ?_
  refine s_ladd C dX4_digest_75 76 rfl ?_
  refine s_topl (fun x14 => ?_)
  refine s_lstore_n C dX4_digest_76 rfl (by decide) 77 rfl [(1, .long x14), (0, .ref a0)] rfl ?_
  refine s_ldc2 (v := 31) C q2367 dX4_digest_77 80 rfl ?_
  refine s_lload_n C dX4_digest_80 81 rfl 0 rfl ?_
  refine s_lmul C dX4_digest_81 82 rfl ?_
  refine s_aload_n C dX4_digest_82 83 rfl 1 rfl ?_
  refine s_getR C hR fd_PatchCordsModel_state (Or.inl q1809) dX4_digest_83 86 rfl (fun x15 => ?_)
  refine s_iconst (v := 4) C dX4_digest_86 (by decide) 87 rfl ?_
  refine s_iald C hR dX4_digest_87 88 rfl (fun x16 => ?_)
  refine s_i2l C dX4_digest_88 89 rfl ?_
  refine s_ladd C dX4_digest_89 90 rfl ?_
  refine s_topl (fun x17 => ?_)
  refine s_lstore_n C dX4_digest_90 rfl (by decide) 91 rfl [(1, .long x17), (0, .ref a0)] rfl ?_
  refine s_ldc2 (v := 31) C q2367 dX4_digest_91 94 rfl ?_
  refine s_lload_n C dX4_digest_94 95 rfl 0 rfl ?_
  refine s_lmul C dX4_digest_95 96 rfl ?_
  refine s_aload_n C dX4_digest_96 97 rfl 1 rfl ?_
  refine s_call_i (rn_V (As := []) C (ct_at hR hA (ct_on (ct_X4_overNow g TA a0))) (rv_on C hR (q := vw_12) rfl) (lw_V q2178 q2180 qs78 q112 q2181) ⟨rfl, nv_X4_overNow⟩ ⟨by decide, by decide⟩ rfl (bl rfl) dX4_digest_97) 100 rfl (fun x18 => ?_)
  refine s_i2l C dX4_digest_100 101 rfl ?_
  refine s_ladd C dX4_digest_101 102 rfl ?_
  refine s_topl (fun x19 => ?_)
  refine s_lstore_n C dX4_digest_102 rfl (by decide) 103 rfl [(1, .long x19), (0, .ref a0)] rfl ?_
  refine s_ldc2 (v := 31) C q2367 dX4_digest_103 106 rfl ?_
  refine s_lload_n C dX4_digest_106 107 rfl 0 rfl ?_
  refine s_lmul C dX4_digest_107 108 rfl ?_
  refine s_aload_n C dX4_digest_108 109 rfl 1 rfl ?_
  refine s_call_i (rn_V (As := []) C (ct_at hR hA (ct_on (ct_X4_circling g TA a0))) (rv_on C hR (q := vw_12) rfl) (lw_V q2218 q2220 qs81 q112 q2221) ⟨rfl, nv_X4_circling⟩ ⟨by decide, by decide⟩ rfl (bl rfl) dX4_digest_109) 112 rfl (fun x20 => ?_)
  refine s_i2l C dX4_digest_112 113 rfl ?_
  refine s_ladd C dX4_digest_113 114 rfl ?_
  refine s_topl (fun x21 => ?_)
  refine s_lstore_n C dX4_digest_114 rfl (by decide) 115 rfl [(1, .long x21), (0, .ref a0)] rfl ?_
  refine s_ldc2 (v := 31) C q2367 dX4_digest_115 118 rfl ?_
  refine s_lload_n C dX4_digest_118 119 rfl 0 rfl ?_
  refine s_lmul C dX4_digest_119 120 rfl ?_
  refine s_aload_n C dX4_digest_120 121 rfl 1 rfl ?_
  refine s_call_i (rn_V (As := []) C (ct_at hR hA (ct_on (ct_X4_endSet g TA a0))) (rv_on C hR (q := vw_12) rfl) (lw_V q2226 q2228 qs82 q112 q2229) ⟨rfl, nv_X4_endSet⟩ ⟨by decide, by decide⟩ rfl (bl rfl) dX4_digest_121) 124 rfl (fun x22 => ?_)
  refine s_i2l C dX4_digest_124 125 rfl ?_
  refine s_ladd C dX4_digest_125 126 rfl ?_
  refine s_topl (fun x23 => ?_)
  refine s_lstore_n C dX4_digest_126 rfl (by decide) 127 rfl [(1, .long x23), (0, .ref a0)] rfl ?_
  refine s_ldc2 (v := 31) C q2367 dX4_digest_127 130 rfl ?_
  refine s_lload_n C dX4_digest_130 131 rfl 0 rfl ?_
  refine s_lmul C dX4_digest_131 132 rfl ?_
  refine s_aload_n C dX4_digest_132 133 rfl 1 rfl ?_
  refine s_getR C hR fd_PatchCordsModel_state (Or.inl q1809) dX4_digest_133 136 rfl (fun x24 => ?_)
  refine s_iconst (v := 5) C dX4_digest_136 (by decide) 137 rfl ?_
  refine s_iald C hR dX4_digest_137 138 rfl (fun x25 => ?_)
  refine s_i2l C dX4_digest_138 139 rfl ?_
  refine s_ladd C dX4_digest_139 140 rfl ?_
  refine s_topl (fun x26 => ?_)
  refine s_lstore_n C dX4_digest_140 rfl (by decide) 141 rfl [(1, .long x26), (0, .ref a0)] rfl ?_
  refine s_ldc2 (v := 31) C q2367 dX4_digest_141 144 rfl ?_
  refine s_lload_n C dX4_digest_144 145 rfl 0 rfl ?_
  refine s_lmul C dX4_digest_145 146 rfl ?_
  refine s_aload_n C dX4_digest_146 147 rfl 1 rfl ?_
  refine s_getR C hR fd_PatchCordsModel_state (Or.inl q1809) dX4_digest_147 150 rfl (fun x27 => ?_)
  refine s_bipush (v := 6) C dX4_digest_150 (by decide) 152 rfl ?_
  refine s_iald C hR dX4_digest_152 153 rfl (fun x28 => ?_)
  refine s_i2l C dX4_digest_153 154 rfl ?_
  refine s_ladd C dX4_digest_154 155 rfl ?_
  refine s_topl (fun x29 => ?_)
  refine s_lstore_n C dX4_digest_155 rfl (by decide) 156 rfl [(1, .long x29), (0, .ref a0)] rfl ?_
  refine s_ldc2 (v := 31) C q2367 dX4_digest_156 159 rfl ?_
  refine s_lload_n C dX4_digest_159 160 rfl 0 rfl ?_
  refine s_lmul C dX4_digest_160 161 rfl ?_
  refine s_aload_n C dX4_digest_161 162 rfl 1 rfl ?_
  refine s_getR C hR fd_PatchCordsModel_state (Or.inl q1809) dX4_digest_162 165 rfl (fun x30 => ?_)
  refine s_bipush (v := 7) C dX4_digest_165 (by decide) 167 rfl ?_
  refine s_iald C hR dX4_digest_167 168 rfl (fun x31 => ?_)
  refine s_i2l C dX4_digest_168 169 rfl ?_
  refine s_ladd C dX4_digest_169 170 rfl ?_
  refine s_topl (fun x32 => ?_)
  refine s_lstore_n C dX4_digest_170 rfl (by decide) 171 rfl [(1, .long x32), (0, .ref a0)] rfl ?_
  refine s_ldc2 (v := 31) C q2367 dX4_digest_171 174 rfl ?_
  refine s_lload_n C dX4_digest_174 175 rfl 0 rfl ?_
  refine s_lmul C dX4_digest_175 176 rfl ?_
  refine s_aload_n C dX4_digest_176 177 rfl 1 rfl ?_
  refine s_getR C hR fd_PatchCordsModel_state (Or.inl q1809) dX4_digest_177 180 rfl (fun x33 => ?_)
  refine s_bipush (v := 9) C dX4_digest_180 (by decide) 182 rfl ?_
  refine s_iald C hR dX4_digest_182 183 rfl (fun x34 => ?_)
  refine s_i2l C dX4_digest_183 184 rfl ?_
  refine s_ladd C dX4_digest_184 185 rfl ?_
  refine s_topl (fun x35 => ?_)
  refine s_lstore_n C dX4_digest_185 rfl (by decide) 186 rfl [(1, .long x35), (0, .ref a0)] rfl ?_
  refine s_ldc2 (v := 31) C q2367 dX4_digest_186 189 rfl ?_
  refine s_lload_n C dX4_digest_189 190 rfl 0 rfl ?_
  refine s_lmul C dX4_digest_190 191 rfl ?_
  refine s_aload_n C dX4_digest_191 192 rfl 1 rfl ?_
  refine s_call_i (rn_V (As := []) C (ct_at hR hA (ct_on (ct_X4_untilOver g TA a0))) (rv_on C hR (q := vw_12) rfl) (lw_V q2282 q2284 qs87 q112 q2285) ⟨rfl, nv_X4_untilOver⟩ ⟨by decide, by decide⟩ rfl (bl rfl) dX4_digest_192) 195 rfl (fun x36 => ?_)
  refine s_i2l C dX4_digest_195 196 rfl ?_
  refine s_ladd C dX4_digest_196 197 rfl ?_
  refine s_topl (fun x37 => ?_)
  refine s_lstore_n C dX4_digest_197 rfl (by decide) 198 rfl [(1, .long x37), (0, .ref a0)] rfl ?_
  refine s_iconst (v := 0) C dX4_digest_198 (by decide) 199 rfl ?_
  refine s_istore_n C dX4_digest_199 rfl (by decide) 200 rfl [(3, .int 0), (1, .long x37), (0, .ref a0)] rfl ?_
  refine s_lv [2, 1, 0] rfl ?_
  refine s_loop (fun (s38 : Int64 × Int32) => [(0, .ref a0), (1, .long s38.1), (3, .int s38.2)]) (fun (v44 : Int64) => [(0, .ref a0), (1, .long v44)]) 223 (x37, 0) rfl (fun v44 => ?_) (fun _ s38 hk39 hx40 => ?_)
  · refine s_iconst (v := 0) C dX4_digest_223 (by decide) 224 rfl ?_
    refine s_istore_n C dX4_digest_224 rfl (by decide) 225 rfl [(3, .int 0), (0, .ref a0), (1, .long v44)] rfl ?_
    refine s_lv [1, 2, 0] rfl ?_
    refine s_loop (fun (s45 : Int64 × Int32) => [(0, .ref a0), (1, .long s45.1), (3, .int s45.2)]) (fun (v57 : Int64) => [(0, .ref a0), (1, .long v57)]) 282 (v44, 0) rfl (fun v57 => ?_) (fun _ s45 hk46 hx47 => ?_)
    · refine s_iconst (v := 0) C dX4_digest_282 (by decide) 283 rfl ?_
      refine s_istore_n C dX4_digest_283 rfl (by decide) 284 rfl [(3, .int 0), (0, .ref a0), (1, .long v57)] rfl ?_
      refine s_lv [1, 2, 0] rfl ?_
      refine s_loop (fun (s58 : Int64 × Int32) => [(0, .ref a0), (1, .long s58.1), (3, .int s58.2)]) (fun (v72 : Int64) => [(0, .ref a0), (1, .long v72)]) 350 (v57, 0) rfl (fun v72 => ?_) (fun _ s58 hk59 hx60 => ?_)
      · refine s_aload_n C dX4_digest_350 351 rfl 0 rfl ?_
        refine s_getR C hR fd_PatchCordsModel_state (Or.inl q1809) dX4_digest_351 354 rfl (fun x73 => ?_)
        refine s_bipush (v := 6) C dX4_digest_354 (by decide) 356 rfl ?_
        refine s_iald C hR dX4_digest_356 357 rfl (fun x74 => ?_)
        refine s_iconst (v := 1) C dX4_digest_357 (by decide) 358 rfl ?_
        refine s_isub C dX4_digest_358 359 rfl ?_
        refine s_topi (fun x75 => ?_)
        refine s_istore_n C dX4_digest_359 rfl (by decide) 360 rfl [(3, .int x75), (0, .ref a0), (1, .long v72)] rfl ?_
        refine s_lv [1, 2, 0] rfl ?_
        refine s_loop (fun (s76 : Int64 × Int32) => [(0, .ref a0), (1, .long s76.1), (3, .int s76.2)]) (fun (v82 : Int64) => [(0, .ref a0), (1, .long v82)]) 387 (v72, x75) rfl (fun v82 => ?_) (fun _ s76 hk77 hx78 => ?_)
        · refine s_ldc2 (v := 31) C q2367 dX4_digest_387 390 rfl ?_
          refine s_lload_n C dX4_digest_390 391 rfl 1 rfl ?_
          refine s_lmul C dX4_digest_391 392 rfl ?_
          refine s_aload_n C dX4_digest_392 393 rfl 0 rfl ?_
          refine s_call_d (rn_V (As := []) C (ct_at hR hA (ct_on (ct_X4_mean g TA a0))) (rv_on C hR (q := vw_12) rfl) (lw_V q2254 q2256 qs83 q112 q2257) ⟨rfl, nv_X4_mean⟩ ⟨by decide, by decide⟩ rfl (bl rfl) dX4_digest_393) 396 rfl (fun x83 => ?_)
          refine s_call_l (rn_S (As := [.double x83]) C (ct_at hR hA (ct_J23_doubleToLongBits g TA x83)) (lw_S q2372 q1317 q140 q1318) nv_J23_doubleToLongBits ⟨by decide, by decide⟩ rfl (bl rfl) dX4_digest_396) 399 rfl (fun x84 => ?_)
          refine s_ladd C dX4_digest_399 400 rfl ?_
          exact s_lret C rfl dX4_digest_400
        · refine s_iload_n C dX4_digest_360 361 rfl 2 rfl ?_
          refine s_if_lt C dX4_digest_361 387 364 (by decide) rfl ?_ ?_
          · refine s_r ?_
            refine s_lv [0, 1] rfl ?_
            exact hx78 s76.1
          · refine s_ldc2 (v := 31) C q2367 dX4_digest_364 367 rfl ?_
            refine s_lload_n C dX4_digest_367 368 rfl 1 rfl ?_
            refine s_lmul C dX4_digest_368 369 rfl ?_
            refine s_aload_n C dX4_digest_369 370 rfl 0 rfl ?_
            refine s_getR C hR fd_PatchCordsModel_state (Or.inl q1809) dX4_digest_370 373 rfl (fun x79 => ?_)
            refine s_bipush (v := 10) C dX4_digest_373 (by decide) 375 rfl ?_
            refine s_iload_n C dX4_digest_375 376 rfl 2 rfl ?_
            refine s_iadd C dX4_digest_376 377 rfl ?_
            refine s_iald C hR dX4_digest_377 378 rfl (fun x80 => ?_)
            refine s_i2l C dX4_digest_378 379 rfl ?_
            refine s_ladd C dX4_digest_379 380 rfl ?_
            refine s_topl (fun x81 => ?_)
            refine s_lstore_n C dX4_digest_380 rfl (by decide) 381 rfl [(1, .long x81), (0, .ref a0), (3, .int s76.2)] rfl ?_
            refine s_iinc C dX4_digest_381 (s76.2 + (-1)) rfl 2 rfl (by decide) 384 rfl [(3, .int (s76.2 + (-1))), (1, .long x81), (0, .ref a0)] rfl ?_
            refine s_goto C dX4_digest_384 360 (by decide) ?_
            refine s_r ?_
            refine s_lv [2, 1, 0] rfl ?_
            exact hk77 (x81, s76.2 + (-1))
      · refine s_iload_n C dX4_digest_284 285 rfl 2 rfl ?_
        refine s_aload_n C dX4_digest_285 286 rfl 0 rfl ?_
        refine s_getR C hR fd_PatchCordsModel_state (Or.inl q1809) dX4_digest_286 289 rfl (fun x61 => ?_)
        refine s_iconst (v := 0) C dX4_digest_289 (by decide) 290 rfl ?_
        refine s_iald C hR dX4_digest_290 291 rfl (fun x62 => ?_)
        refine s_icmp_ge C dX4_digest_291 350 294 (by decide) rfl ?_ ?_
        · refine s_r ?_
          refine s_lv [0, 1] rfl ?_
          exact hx60 s58.1
        · refine s_aload_n C dX4_digest_294 295 rfl 0 rfl ?_
          refine s_iload_n C dX4_digest_295 296 rfl 2 rfl ?_
          refine s_call_i (rn_V (As := [.int s58.2]) C (ct_at hR hA (ct_on (ct_X4_kind g TA a0 s58.2))) (rv_on C hR (q := vw_12) rfl) (lw_V q1912 q1914 qs43 q112 q1915) ⟨rfl, nv_X4_kind⟩ ⟨by decide, by decide⟩ rfl (bl rfl) dX4_digest_296) 299 rfl (fun x63 => ?_)
          refine s_iconst (v := 1) C dX4_digest_299 (by decide) 300 rfl ?_
          refine s_cut (J := 344) (LJ := (fun (v64 : Int64) => [(0, .ref a0), (1, .long v64), (3, .int s58.2)])) (SJ := (fun (v64 : Int64) => [])) (fun v64 => ?_) (fun _ _ hK65 => ?_)
          · refine s_iinc C dX4_digest_344 (s58.2 + 1) rfl 2 rfl (by decide) 347 rfl [(3, .int (s58.2 + 1)), (0, .ref a0), (1, .long v64)] rfl ?_
            refine s_goto C dX4_digest_347 284 (by decide) ?_
            refine s_r ?_
            refine s_lv [1, 2, 0] rfl ?_
            exact hk59 (v64, s58.2 + 1)
          · refine s_icmp_ne C dX4_digest_300 344 303 (by decide) rfl ?_ ?_
            · refine s_ldc2 (v := 31) C q2367 dX4_digest_303 306 rfl ?_
              refine s_lload_n C dX4_digest_306 307 rfl 1 rfl ?_
              refine s_lmul C dX4_digest_307 308 rfl ?_
              refine s_aload_n C dX4_digest_308 309 rfl 0 rfl ?_
              refine s_iload_n C dX4_digest_309 310 rfl 2 rfl ?_
              refine s_iconst (v := 2) C dX4_digest_310 (by decide) 311 rfl ?_
              refine s_call_i (rn_V (As := [.int s58.2, .int 2]) C (ct_at hR hA (ct_on (ct_X4_of g TA a0 s58.2 2))) (rv_on C hR (q := vw_12) rfl) (lw_V q1916 q1918 qs44 q112 q1919) ⟨rfl, nv_X4_of⟩ ⟨by decide, by decide⟩ rfl (bl rfl) dX4_digest_311) 314 rfl (fun x66 => ?_)
              refine s_i2l C dX4_digest_314 315 rfl ?_
              refine s_ladd C dX4_digest_315 316 rfl ?_
              refine s_topl (fun x67 => ?_)
              refine s_lstore_n C dX4_digest_316 rfl (by decide) 317 rfl [(1, .long x67), (0, .ref a0), (3, .int s58.2)] rfl ?_
              refine s_ldc2 (v := 31) C q2367 dX4_digest_317 320 rfl ?_
              refine s_lload_n C dX4_digest_320 321 rfl 0 rfl ?_
              refine s_lmul C dX4_digest_321 322 rfl ?_
              refine s_aload_n C dX4_digest_322 323 rfl 1 rfl ?_
              refine s_iload_n C dX4_digest_323 324 rfl 2 rfl ?_
              refine s_iconst (v := 3) C dX4_digest_324 (by decide) 325 rfl ?_
              refine s_call_i (rn_V (As := [.int s58.2, .int 3]) C (ct_at hR hA (ct_on (ct_X4_of g TA a0 s58.2 3))) (rv_on C hR (q := vw_12) rfl) (lw_V q1916 q1918 qs44 q112 q1919) ⟨rfl, nv_X4_of⟩ ⟨by decide, by decide⟩ rfl (bl rfl) dX4_digest_325) 328 rfl (fun x68 => ?_)
              refine s_i2l C dX4_digest_328 329 rfl ?_
              refine s_ladd C dX4_digest_329 330 rfl ?_
              refine s_topl (fun x69 => ?_)
              refine s_lstore_n C dX4_digest_330 rfl (by decide) 331 rfl [(1, .long x69), (0, .ref a0), (3, .int s58.2)] rfl ?_
              refine s_ldc2 (v := 31) C q2367 dX4_digest_331 334 rfl ?_
              refine s_lload_n C dX4_digest_334 335 rfl 0 rfl ?_
              refine s_lmul C dX4_digest_335 336 rfl ?_
              refine s_aload_n C dX4_digest_336 337 rfl 1 rfl ?_
              refine s_iload_n C dX4_digest_337 338 rfl 2 rfl ?_
              refine s_call_i (rn_V (As := [.int s58.2]) C (ct_at hR hA (ct_on (ct_X4_rateNow g TA a0 s58.2))) (rv_on C hR (q := vw_12) rfl) (lw_V q2170 q2172 qs77 q112 q2173) ⟨rfl, nv_X4_rateNow⟩ ⟨by decide, by decide⟩ rfl (bl rfl) dX4_digest_338) 341 rfl (fun x70 => ?_)
              refine s_i2l C dX4_digest_341 342 rfl ?_
              refine s_ladd C dX4_digest_342 343 rfl ?_
              refine s_topl (fun x71 => ?_)
              refine s_lstore_n C dX4_digest_343 rfl (by decide) 344 rfl [(1, .long x71), (0, .ref a0), (3, .int s58.2)] rfl ?_
              refine s_r ?_
              refine s_lv [1, 0, 2] rfl ?_
              exact hK65 x71
            · refine s_r ?_
              refine s_lv [0, 1, 2] rfl ?_
              exact hK65 s58.1
    · refine s_iload_n C dX4_digest_225 226 rfl 2 rfl ?_
      refine s_aload_n C dX4_digest_226 227 rfl 0 rfl ?_
      refine s_getR C hR fd_PatchCordsModel_state (Or.inl q1809) dX4_digest_227 230 rfl (fun x48 => ?_)
      refine s_iconst (v := 0) C dX4_digest_230 (by decide) 231 rfl ?_
      refine s_iald C hR dX4_digest_231 232 rfl (fun x49 => ?_)
      refine s_icmp_ge C dX4_digest_232 282 235 (by decide) rfl ?_ ?_
      · refine s_r ?_
        refine s_lv [0, 1] rfl ?_
        exact hx47 s45.1
      · refine s_iconst (v := 0) C dX4_digest_235 (by decide) 236 rfl ?_
        refine s_istore C dX4_digest_236 (by decide) 238 rfl [(4, .int 0), (0, .ref a0), (1, .long s45.1), (3, .int s45.2)] rfl ?_
        refine s_lv [1, 2, 3, 0] rfl ?_
        refine s_loop (fun (s50 : Int64 × Int32) => [(0, .ref a0), (1, .long s50.1), (3, .int s45.2), (4, .int s50.2)]) (fun (v56 : Int64) => [(0, .ref a0), (1, .long v56), (3, .int s45.2)]) 276 (s45.1, 0) rfl (fun v56 => ?_) (fun _ s50 hk51 hx52 => ?_)
        · refine s_iinc C dX4_digest_276 (s45.2 + 1) rfl 2 rfl (by decide) 279 rfl [(3, .int (s45.2 + 1)), (0, .ref a0), (1, .long v56)] rfl ?_
          refine s_goto C dX4_digest_279 225 (by decide) ?_
          refine s_r ?_
          refine s_lv [1, 2, 0] rfl ?_
          exact hk46 (v56, s45.2 + 1)
        · refine s_iload C dX4_digest_238 240 rfl 3 rfl ?_
          refine s_iconst (v := 4) C dX4_digest_240 (by decide) 241 rfl ?_
          refine s_icmp_ge C dX4_digest_241 276 244 (by decide) rfl ?_ ?_
          · refine s_r ?_
            refine s_lv [0, 1, 2] rfl ?_
            exact hx52 s50.1
          · refine s_aload_n C dX4_digest_244 245 rfl 0 rfl ?_
            refine s_iload_n C dX4_digest_245 246 rfl 2 rfl ?_
            refine s_call_i (rn_V (As := [.int s45.2]) C (ct_at hR hA (ct_on (ct_X4_isWeighted g TA a0 s45.2))) (rv_on C hR (q := vw_12) rfl) (lw_V q1908 q1910 qs42 q112 q1911) ⟨rfl, nv_X4_isWeighted⟩ ⟨by decide, by decide⟩ rfl (bl rfl) dX4_digest_246) 249 rfl (fun x53 => ?_)
            refine s_if_eq C dX4_digest_249 276 252 (by decide) rfl ?_ ?_
            · refine s_r ?_
              refine s_lv [0, 1, 2] rfl ?_
              exact hx52 s50.1
            · refine s_ldc2 (v := 31) C q2367 dX4_digest_252 255 rfl ?_
              refine s_lload_n C dX4_digest_255 256 rfl 1 rfl ?_
              refine s_lmul C dX4_digest_256 257 rfl ?_
              refine s_aload_n C dX4_digest_257 258 rfl 0 rfl ?_
              refine s_iload_n C dX4_digest_258 259 rfl 2 rfl ?_
              refine s_bipush (v := 9) C dX4_digest_259 (by decide) 261 rfl ?_
              refine s_iload C dX4_digest_261 263 rfl 3 rfl ?_
              refine s_iadd C dX4_digest_263 264 rfl ?_
              refine s_call_i (rn_V (As := [.int s45.2, .int (9 + s50.2)]) C (ct_at hR hA (ct_on (ct_X4_of g TA a0 s45.2 (9 + s50.2)))) (rv_on C hR (q := vw_12) rfl) (lw_V q1916 q1918 qs44 q112 q1919) ⟨rfl, nv_X4_of⟩ ⟨by decide, by decide⟩ rfl (bl rfl) dX4_digest_264) 267 rfl (fun x54 => ?_)
              refine s_i2l C dX4_digest_267 268 rfl ?_
              refine s_ladd C dX4_digest_268 269 rfl ?_
              refine s_topl (fun x55 => ?_)
              refine s_lstore_n C dX4_digest_269 rfl (by decide) 270 rfl [(1, .long x55), (0, .ref a0), (3, .int s45.2), (4, .int s50.2)] rfl ?_
              refine s_iinc C dX4_digest_270 (s50.2 + 1) rfl 3 rfl (by decide) 273 rfl [(4, .int (s50.2 + 1)), (1, .long x55), (0, .ref a0), (3, .int s45.2)] rfl ?_
              refine s_goto C dX4_digest_273 238 (by decide) ?_
              refine s_r ?_
              refine s_lv [2, 1, 3, 0] rfl ?_
              exact hk51 (x55, s50.2 + 1)
  · refine s_iload_n C dX4_digest_200 201 rfl 2 rfl ?_
    refine s_aload_n C dX4_digest_201 202 rfl 0 rfl ?_
    refine s_getR C hR fd_PatchCordsModel_state (Or.inl q1809) dX4_digest_202 205 rfl (fun x41 => ?_)
    refine s_iconst (v := 0) C dX4_digest_205 (by decide) 206 rfl ?_
    refine s_iald C hR dX4_digest_206 207 rfl (fun x42 => ?_)
    refine s_icmp_ge C dX4_digest_207 223 210 (by decide) rfl ?_ ?_
    · refine s_r ?_
      refine s_lv [0, 1] rfl ?_
      exact hx40 s38.1
    · refine s_aload_n C dX4_digest_210 211 rfl 0 rfl ?_
      refine s_lload_n C dX4_digest_211 212 rfl 1 rfl ?_
      refine s_iload_n C dX4_digest_212 213 rfl 2 rfl ?_
      refine s_call_l (rn_V (As := [.long s38.1, .int s38.2]) C (ct_at hR hA (ct_on (ct_X4_withModule g TA a0 s38.1 s38.2))) (rv_on C hR (q := vw_12) rfl) (lw_V q2368 q2370 qs99 q112 q2371) ⟨rfl, nv_X4_withModule⟩ ⟨by decide, by decide⟩ rfl (bl rfl) dX4_digest_213) 216 rfl (fun x43 => ?_)
      refine s_lstore_n C dX4_digest_216 rfl (by decide) 217 rfl [(1, .long x43), (0, .ref a0), (3, .int s38.2)] rfl ?_
      refine s_iinc C dX4_digest_217 (s38.2 + 1) rfl 2 rfl (by decide) 220 rfl [(3, .int (s38.2 + 1)), (1, .long x43), (0, .ref a0)] rfl ?_
      refine s_goto C dX4_digest_220 200 (by decide) ?_
      refine s_r ?_
      refine s_lv [2, 1, 0] rfl ?_
      exact hk39 (x43, s38.2 + 1)
