/-! THE REFERENCE'S WALKS -/
theorem nv_X4_init : yX4_init.cls ≠ "java/lang/invoke/MethodHandle" ∧ yX4_init.cls ≠ "java/lang/invoke/VarHandle" ∧ (parseMethodDescriptor yX4_init.desc).map (fun d => d.parameters.length) = some 0 := by decide +kernel
theorem ct_X4_init {l : Launch} (g : sm_G) (TA : Nat → Prop) (a0 : Nat) : sm_CT l g (so_R g TA) (so_A g TA) yX4_init cX4_init 1 none 1 12 [.ref a0] em_v (f_X4_init g a0) := by
  refine sm_of (own := "PatchCordsModel") rfl rfl (bl rfl) (fun Y C hR hA hl hm => ?_)
  subst hl
  refine s_lv (L' := [(0, .ref a0)]) [0] rfl ?_
  refine s_top ?_
  unfold f_X4_init
  refine s_aload_n C dX4_init_0 1 rfl 0 rfl ?_
  refine s_objInit C q1807 q147 q148 (by decide) (bl rfl) dX4_init_1 4 rfl ?_
  refine s_aload_n C dX4_init_4 5 rfl 0 rfl ?_
  refine s_sipush (v := 242) C dX4_init_5 (by decide) 8 rfl ?_
  refine s_newa C hR 0 .int rfl (fun _ => rfl) (fun _ h => by cases h) (by decide) q237 dX4_init_8 10 rfl (fun x1 => ?_)
  refine s_putF C hR hA fd_PatchCordsModel_state q1809 dX4_init_10 hm rfl rfl 13 rfl ?_
  refine s_aload_n C dX4_init_13 14 rfl 0 rfl ?_
  refine s_sipush (v := 1452) C dX4_init_14 (by decide) 17 rfl ?_
  refine s_newa C hR 0 .int rfl (fun _ => rfl) (fun _ h => by cases h) (by decide) q237 dX4_init_17 19 rfl (fun x2 => ?_)
  refine s_putF C hR hA fd_PatchCordsModel_history q1810 dX4_init_19 hm rfl rfl 22 rfl ?_
  refine s_aload_n C dX4_init_22 23 rfl 0 rfl ?_
  refine s_sipush (v := 242) C dX4_init_23 (by decide) 26 rfl ?_
  refine s_newa C hR 0 .int rfl (fun _ => rfl) (fun _ h => by cases h) (by decide) q237 dX4_init_26 28 rfl (fun x3 => ?_)
  refine s_putF C hR hA fd_PatchCordsModel_snapshot q1812 dX4_init_28 hm rfl rfl 31 rfl ?_
  refine s_aload_n C dX4_init_31 32 rfl 0 rfl ?_
  refine s_sipush (v := 242) C dX4_init_32 (by decide) 35 rfl ?_
  refine s_newa C hR 0 .int rfl (fun _ => rfl) (fun _ h => by cases h) (by decide) q237 dX4_init_35 37 rfl (fun x4 => ?_)
  refine s_putF C hR hA fd_PatchCordsModel_kept q1814 dX4_init_37 hm rfl rfl 40 rfl ?_
  refine s_aload_n C dX4_init_40 41 rfl 0 rfl ?_
  refine s_bipush (v := 16) C dX4_init_41 (by decide) 43 rfl ?_
  refine s_newa C hR 0 .int rfl (fun _ => rfl) (fun _ h => by cases h) (by decide) q237 dX4_init_43 45 rfl (fun x5 => ?_)
  refine s_putF C hR hA fd_PatchCordsModel_levels q1815 dX4_init_45 hm rfl rfl 48 rfl ?_
  refine s_aload_n C dX4_init_48 49 rfl 0 rfl ?_
  refine s_bipush (v := 16) C dX4_init_49 (by decide) 51 rfl ?_
  refine s_newa C hR 0 .int rfl (fun _ => rfl) (fun _ h => by cases h) (by decide) q237 dX4_init_51 53 rfl (fun x6 => ?_)
  refine s_putF C hR hA fd_PatchCordsModel_outs q1816 dX4_init_53 hm rfl rfl 56 rfl ?_
  refine s_aload_n C dX4_init_56 57 rfl 0 rfl ?_
  refine s_bipush (v := 16) C dX4_init_57 (by decide) 59 rfl ?_
  refine s_newa C hR 0 .int rfl (fun _ => rfl) (fun _ h => by cases h) (by decide) q237 dX4_init_59 61 rfl (fun x7 => ?_)
  refine s_putF C hR hA fd_PatchCordsModel_rates q1818 dX4_init_61 hm rfl rfl 64 rfl ?_
  refine s_aload_n C dX4_init_64 65 rfl 0 rfl ?_
  refine s_bipush (v := 16) C dX4_init_65 (by decide) 67 rfl ?_
  refine s_newa C hR 0 .int rfl (fun _ => rfl) (fun _ h => by cases h) (by decide) q237 dX4_init_67 69 rfl (fun x8 => ?_)
  refine s_putF C hR hA fd_PatchCordsModel_before q1819 dX4_init_69 hm rfl rfl 72 rfl ?_
  refine s_aload_n C dX4_init_72 73 rfl 0 rfl ?_
  refine s_bipush (v := 60) C dX4_init_73 (by decide) 75 rfl ?_
  refine s_newa C hR 0 .int rfl (fun _ => rfl) (fun _ h => by cases h) (by decide) q237 dX4_init_75 77 rfl (fun x9 => ?_)
  refine s_putF C hR hA fd_PatchCordsModel_text q1820 dX4_init_77 hm rfl rfl 80 rfl ?_
  refine s_aload_n C dX4_init_80 81 rfl 0 rfl ?_
  refine s_getR C hR fd_PatchCordsModel_state (Or.inl q1809) dX4_init_81 84 rfl (fun x10 => ?_)
  refine s_iconst (v := 5) C dX4_init_84 (by decide) 85 rfl ?_
  refine s_iconst (v := (-1)) C dX4_init_85 (by decide) 86 rfl ?_
  refine s_iast C hR hA dX4_init_86 87 rfl ?_
  refine s_aload_n C dX4_init_87 88 rfl 0 rfl ?_
  refine s_getR C hR fd_PatchCordsModel_state (Or.inl q1809) dX4_init_88 91 rfl (fun x11 => ?_)
  refine s_bipush (v := 8) C dX4_init_91 (by decide) 93 rfl ?_
  refine s_iconst (v := (-1)) C dX4_init_93 (by decide) 94 rfl ?_
  refine s_iast C hR hA dX4_init_94 95 rfl ?_
  refine s_aload_n C dX4_init_95 96 rfl 0 rfl ?_
  refine s_getR C hR fd_PatchCordsModel_state (Or.inl q1809) dX4_init_96 99 rfl (fun x12 => ?_)
  refine s_bipush (v := 9) C dX4_init_99 (by decide) 101 rfl ?_
  refine s_iconst (v := (-1)) C dX4_init_101 (by decide) 102 rfl ?_
  refine s_iast C hR hA dX4_init_102 103 rfl ?_
  exact s_vret C rfl dX4_init_103
theorem nv_X4_thrown : yX4_thrown.cls ≠ "java/lang/invoke/MethodHandle" ∧ yX4_thrown.cls ≠ "java/lang/invoke/VarHandle" ∧ (parseMethodDescriptor yX4_thrown.desc).map (fun d => d.parameters.length) = some 0 := by decide +kernel
theorem ct_X4_thrown {l : Launch} (g : sm_G) (TA : Nat → Prop) (a0 : Nat) : sm_CT l g (so_R g TA) (so_A g TA) yX4_thrown cX4_thrown 1 (some .int) 0 0 [.ref a0] em_i (f_X4_thrown g a0) := by
  refine sm_of (own := "PatchCordsModel") rfl rfl (bl rfl) (fun Y C hR hA hl hm => ?_)
  subst hl
  refine s_lv (L' := [(0, .ref a0)]) [0] rfl ?_
  refine s_top ?_
  unfold f_X4_thrown
  refine s_aload_n C dX4_thrown_0 1 rfl 0 rfl ?_
  refine s_getI C hR fd_PatchCordsModel_thrown (Or.inl q1808) dX4_thrown_1 4 rfl (fun x1 => ?_)
  exact s_iret C rfl rfl dX4_thrown_4
theorem nv_X4_within : yX4_within.cls ≠ "java/lang/invoke/MethodHandle" ∧ yX4_within.cls ≠ "java/lang/invoke/VarHandle" ∧ (parseMethodDescriptor yX4_within.desc).map (fun d => d.parameters.length) = some 3 := by decide +kernel
theorem ct_X4_within {l : Launch} (g : sm_G) (TA : Nat → Prop) (p0 : Int32) (p1 : Int32) (p2 : Int32) : sm_CT l g (so_R g TA) (so_A g TA) yX4_within cX4_within 3 (some .boolean) 0 0 [.int p0, .int p1, .int p2] em_i (f_X4_within g p0 p1 p2) := by
  refine sm_of (own := "PatchCordsModel") rfl rfl (bl rfl) (fun Y C hR hA hl hm => ?_)
  subst hl
  refine s_lv (L' := [(0, .int p0), (1, .int p1), (2, .int p2)]) [0, 1, 2] rfl ?_
  refine s_top ?_
  unfold f_X4_within
  refine s_iload_n C dX4_within_0 1 rfl 0 rfl ?_
  refine s_iload_n C dX4_within_1 2 rfl 1 rfl ?_
  refine s_cut (J := 15) (LJ := (fun (v1 : Int32) => [])) (SJ := (fun (v1 : Int32) => [.int v1])) (fun v1 => ?_) (fun _ _ hK2 => ?_)
  · refine s_zb (fun h => ?_)
    exact s_iret C rfl (s_zn h) dX4_within_15
  · refine s_icmp_lt C dX4_within_2 14 5 (by decide) rfl ?_ ?_
    · refine s_iconst (v := 0) C dX4_within_14 (by decide) 15 rfl ?_
      refine s_r ?_
      refine s_lv [] rfl ?_
      exact hK2 0
    · refine s_iload_n C dX4_within_5 6 rfl 0 rfl ?_
      refine s_iload_n C dX4_within_6 7 rfl 2 rfl ?_
      refine s_icmp_gt C dX4_within_7 14 10 (by decide) rfl ?_ ?_
      · refine s_iconst (v := 0) C dX4_within_14 (by decide) 15 rfl ?_
        refine s_r ?_
        refine s_lv [] rfl ?_
        exact hK2 0
      · refine s_iconst (v := 1) C dX4_within_10 (by decide) 11 rfl ?_
        refine s_goto C dX4_within_11 15 (by decide) ?_
        refine s_r ?_
        refine s_lv [] rfl ?_
        exact hK2 1
theorem nv_X4_canPut : yX4_canPut.cls ≠ "java/lang/invoke/MethodHandle" ∧ yX4_canPut.cls ≠ "java/lang/invoke/VarHandle" ∧ (parseMethodDescriptor yX4_canPut.desc).map (fun d => d.parameters.length) = some 0 := by decide +kernel
theorem ct_X4_canPut {l : Launch} (g : sm_G) (TA : Nat → Prop) (a0 : Nat) : sm_CT l g (so_R g TA) (so_A g TA) yX4_canPut cX4_canPut 1 (some .boolean) 0 0 [.ref a0] em_i (f_X4_canPut g a0) := by
  refine sm_of (own := "PatchCordsModel") rfl rfl (bl rfl) (fun Y C hR hA hl hm => ?_)
  subst hl
  refine s_lv (L' := [(0, .ref a0)]) [0] rfl ?_
  refine s_top ?_
  unfold f_X4_canPut
  refine s_aload_n C dX4_canPut_0 1 rfl 0 rfl ?_
  refine s_getR C hR fd_PatchCordsModel_state (Or.inl q1809) dX4_canPut_1 4 rfl (fun x1 => ?_)
  refine s_iconst (v := 0) C dX4_canPut_4 (by decide) 5 rfl ?_
  refine s_iald C hR dX4_canPut_5 6 rfl (fun x2 => ?_)
  refine s_bipush (v := 16) C dX4_canPut_6 (by decide) 8 rfl ?_
  refine s_cut (J := 16) (LJ := (fun (v3 : Int32) => [])) (SJ := (fun (v3 : Int32) => [.int v3])) (fun v3 => ?_) (fun _ _ hK4 => ?_)
  · refine s_zb (fun h => ?_)
    exact s_iret C rfl (s_zn h) dX4_canPut_16
  · refine s_icmp_ge C dX4_canPut_8 15 11 (by decide) rfl ?_ ?_
    · refine s_iconst (v := 0) C dX4_canPut_15 (by decide) 16 rfl ?_
      refine s_r ?_
      refine s_lv [] rfl ?_
      exact hK4 0
    · refine s_iconst (v := 1) C dX4_canPut_11 (by decide) 12 rfl ?_
      refine s_goto C dX4_canPut_12 16 (by decide) ?_
      refine s_r ?_
      refine s_lv [] rfl ?_
      exact hK4 1
theorem nv_X4_saves : yX4_saves.cls ≠ "java/lang/invoke/MethodHandle" ∧ yX4_saves.cls ≠ "java/lang/invoke/VarHandle" ∧ (parseMethodDescriptor yX4_saves.desc).map (fun d => d.parameters.length) = some 0 := by decide +kernel
theorem ct_X4_saves {l : Launch} (g : sm_G) (TA : Nat → Prop) (a0 : Nat) : sm_CT l g (so_R g TA) (so_A g TA) yX4_saves cX4_saves 2 none 0 0 [.ref a0] em_v (f_X4_saves g a0) := by
  refine sm_of (own := "PatchCordsModel") rfl rfl (bl rfl) (fun Y C hR hA hl hm => ?_)
  subst hl
  refine s_lv (L' := [(0, .ref a0)]) [0] rfl ?_
  refine s_top ?_
  unfold f_X4_saves
  refine s_aload_n C dX4_saves_0 1 rfl 0 rfl ?_
  refine s_getI C hR fd_PatchCordsModel_savedStates (Or.inl q1811) dX4_saves_1 4 rfl (fun x1 => ?_)
  refine s_bipush (v := 6) C dX4_saves_4 (by decide) 6 rfl ?_
  refine s_cut (J := 50) (LJ := (fun (v2 : Unit) => [(0, .ref a0)])) (SJ := (fun (v2 : Unit) => [])) (fun v2 => ?_) (fun _ _ hK3 => ?_)
  · refine s_iconst (v := 0) C dX4_saves_50 (by decide) 51 rfl ?_
    refine s_istore_n C dX4_saves_51 rfl (by decide) 52 rfl [(1, .int 0), (0, .ref a0)] rfl ?_
    refine s_lv [1, 0] rfl ?_
    refine s_loop (fun (s12 : Int32) => [(0, .ref a0), (1, .int s12)]) (fun (v19 : Unit) => [(0, .ref a0)]) 86 0 rfl (fun v19 => ?_) (fun _ s12 hk13 hx14 => ?_)
    · refine s_aload_n C dX4_saves_86 87 rfl 0 rfl ?_
      refine s_dup C dX4_saves_87 rfl 88 rfl ?_
      refine s_getI C hR fd_PatchCordsModel_savedStates (Or.inl q1811) dX4_saves_88 91 rfl (fun x20 => ?_)
      refine s_iconst (v := 1) C dX4_saves_91 (by decide) 92 rfl ?_
      refine s_iadd C dX4_saves_92 93 rfl ?_
      refine s_put C hR hA fd_PatchCordsModel_savedStates (Or.inl q1811) dX4_saves_93 rfl rfl 96 rfl ?_
      exact s_vret C rfl dX4_saves_96
    · refine s_iload_n C dX4_saves_52 53 rfl 1 rfl ?_
      refine s_sipush (v := 242) C dX4_saves_53 (by decide) 56 rfl ?_
      refine s_icmp_ge C dX4_saves_56 86 59 (by decide) rfl ?_ ?_
      · refine s_r ?_
        refine s_lv [0] rfl ?_
        exact hx14 ()
      · refine s_aload_n C dX4_saves_59 60 rfl 0 rfl ?_
        refine s_getR C hR fd_PatchCordsModel_history (Or.inl q1810) dX4_saves_60 63 rfl (fun x15 => ?_)
        refine s_aload_n C dX4_saves_63 64 rfl 0 rfl ?_
        refine s_getI C hR fd_PatchCordsModel_savedStates (Or.inl q1811) dX4_saves_64 67 rfl (fun x16 => ?_)
        refine s_sipush (v := 242) C dX4_saves_67 (by decide) 70 rfl ?_
        refine s_imul C dX4_saves_70 71 rfl ?_
        refine s_iload_n C dX4_saves_71 72 rfl 1 rfl ?_
        refine s_iadd C dX4_saves_72 73 rfl ?_
        refine s_aload_n C dX4_saves_73 74 rfl 0 rfl ?_
        refine s_getR C hR fd_PatchCordsModel_state (Or.inl q1809) dX4_saves_74 77 rfl (fun x17 => ?_)
        refine s_iload_n C dX4_saves_77 78 rfl 1 rfl ?_
        refine s_iald C hR dX4_saves_78 79 rfl (fun x18 => ?_)
        refine s_iast C hR hA dX4_saves_79 80 rfl ?_
        refine s_iinc C dX4_saves_80 (s12 + 1) rfl 1 rfl (by decide) 83 rfl [(1, .int (s12 + 1)), (0, .ref a0)] rfl ?_
        refine s_goto C dX4_saves_83 52 (by decide) ?_
        refine s_r ?_
        refine s_lv [1, 0] rfl ?_
        exact hk13 (s12 + 1)
  · refine s_icmp_ne C dX4_saves_6 50 9 (by decide) rfl ?_ ?_
    · refine s_iconst (v := 0) C dX4_saves_9 (by decide) 10 rfl ?_
      refine s_istore_n C dX4_saves_10 rfl (by decide) 11 rfl [(1, .int 0), (0, .ref a0)] rfl ?_
      refine s_lv [1, 0] rfl ?_
      refine s_loop (fun (s4 : Int32) => [(0, .ref a0), (1, .int s4)]) (fun (v10 : Unit) => [(0, .ref a0)]) 40 0 rfl (fun v10 => ?_) (fun _ s4 hk5 hx6 => ?_)
      · refine s_aload_n C dX4_saves_40 41 rfl 0 rfl ?_
        refine s_dup C dX4_saves_41 rfl 42 rfl ?_
        refine s_getI C hR fd_PatchCordsModel_savedStates (Or.inl q1811) dX4_saves_42 45 rfl (fun x11 => ?_)
        refine s_iconst (v := 1) C dX4_saves_45 (by decide) 46 rfl ?_
        refine s_isub C dX4_saves_46 47 rfl ?_
        refine s_put C hR hA fd_PatchCordsModel_savedStates (Or.inl q1811) dX4_saves_47 rfl rfl 50 rfl ?_
        refine s_r ?_
        refine s_lv [0] rfl ?_
        exact hK3 ()
      · refine s_iload_n C dX4_saves_11 12 rfl 1 rfl ?_
        refine s_sipush (v := 1210) C dX4_saves_12 (by decide) 15 rfl ?_
        refine s_icmp_ge C dX4_saves_15 40 18 (by decide) rfl ?_ ?_
        · refine s_r ?_
          refine s_lv [0] rfl ?_
          exact hx6 ()
        · refine s_aload_n C dX4_saves_18 19 rfl 0 rfl ?_
          refine s_getR C hR fd_PatchCordsModel_history (Or.inl q1810) dX4_saves_19 22 rfl (fun x7 => ?_)
          refine s_iload_n C dX4_saves_22 23 rfl 1 rfl ?_
          refine s_aload_n C dX4_saves_23 24 rfl 0 rfl ?_
          refine s_getR C hR fd_PatchCordsModel_history (Or.inl q1810) dX4_saves_24 27 rfl (fun x8 => ?_)
          refine s_iload_n C dX4_saves_27 28 rfl 1 rfl ?_
          refine s_sipush (v := 242) C dX4_saves_28 (by decide) 31 rfl ?_
          refine s_iadd C dX4_saves_31 32 rfl ?_
          refine s_iald C hR dX4_saves_32 33 rfl (fun x9 => ?_)
          refine s_iast C hR hA dX4_saves_33 34 rfl ?_
          refine s_iinc C dX4_saves_34 (s4 + 1) rfl 1 rfl (by decide) 37 rfl [(1, .int (s4 + 1)), (0, .ref a0)] rfl ?_
          refine s_goto C dX4_saves_37 11 (by decide) ?_
          refine s_r ?_
          refine s_lv [1, 0] rfl ?_
          exact hk5 (s4 + 1)
    · refine s_r ?_
      refine s_lv [0] rfl ?_
      exact hK3 ()
theorem nv_X4_puts : yX4_puts.cls ≠ "java/lang/invoke/MethodHandle" ∧ yX4_puts.cls ≠ "java/lang/invoke/VarHandle" ∧ (parseMethodDescriptor yX4_puts.desc).map (fun d => d.parameters.length) = some 3 := by decide +kernel
theorem ct_X4_puts {l : Launch} (g : sm_G) (TA : Nat → Prop) (a0 : Nat) (p0 : Int32) (p1 : Int32) (p2 : Int32) : sm_CT l g (so_R g TA) (so_A g TA) yX4_puts cX4_puts 4 none 0 0 [.ref a0, .int p0, .int p1, .int p2] em_v (f_X4_puts g a0 p0 p1 p2) := by
  refine sm_of (own := "PatchCordsModel") rfl rfl (bl rfl) (fun Y C hR hA hl hm => ?_)
  subst hl
  refine s_lv (L' := [(0, .ref a0), (1, .int p0), (2, .int p1), (3, .int p2)]) [0, 1, 2, 3] rfl ?_
  refine s_top ?_
  unfold f_X4_puts
  refine s_aload_n C dX4_puts_0 1 rfl 0 rfl ?_
  refine s_getR C hR fd_PatchCordsModel_state (Or.inl q1809) dX4_puts_1 4 rfl (fun x1 => ?_)
  refine s_bipush (v := 34) C dX4_puts_4 (by decide) 6 rfl ?_
  refine s_bipush (v := 13) C dX4_puts_6 (by decide) 8 rfl ?_
  refine s_iload_n C dX4_puts_8 9 rfl 1 rfl ?_
  refine s_imul C dX4_puts_9 10 rfl ?_
  refine s_iadd C dX4_puts_10 11 rfl ?_
  refine s_iload_n C dX4_puts_11 12 rfl 2 rfl ?_
  refine s_iadd C dX4_puts_12 13 rfl ?_
  refine s_iload_n C dX4_puts_13 14 rfl 3 rfl ?_
  refine s_iast C hR hA dX4_puts_14 15 rfl ?_
  exact s_vret C rfl dX4_puts_15
theorem nv_X4_putsUp : yX4_putsUp.cls ≠ "java/lang/invoke/MethodHandle" ∧ yX4_putsUp.cls ≠ "java/lang/invoke/VarHandle" ∧ (parseMethodDescriptor yX4_putsUp.desc).map (fun d => d.parameters.length) = some 1 := by decide +kernel
theorem ct_X4_putsUp {l : Launch} (g : sm_G) (TA : Nat → Prop) (a0 : Nat) (p0 : Int32) : sm_CT l g (so_R g TA) (so_A g TA) yX4_putsUp cX4_putsUp 4 (some .int) 1 23 [.ref a0, .int p0] em_i (f_X4_putsUp g a0 p0) := by
  refine sm_of (own := "PatchCordsModel") rfl rfl (bl rfl) (fun Y C hR hA hl hm => ?_)
  subst hl
  refine s_lv (L' := [(0, .ref a0), (1, .int p0)]) [0, 1] rfl ?_
  refine s_top ?_
  unfold f_X4_putsUp
  refine s_aload_n C dX4_putsUp_0 1 rfl 0 rfl ?_
  refine s_getR C hR fd_PatchCordsModel_state (Or.inl q1809) dX4_putsUp_1 4 rfl (fun x1 => ?_)
  refine s_iconst (v := 0) C dX4_putsUp_4 (by decide) 5 rfl ?_
  refine s_iald C hR dX4_putsUp_5 6 rfl (fun x2 => ?_)
  refine s_istore_n C dX4_putsUp_6 rfl (by decide) 7 rfl [(2, .int x2), (0, .ref a0), (1, .int p0)] rfl ?_
  refine s_aload_n C dX4_putsUp_7 8 rfl 1 rfl ?_
  refine s_getR C hR fd_PatchCordsModel_state (Or.inl q1809) dX4_putsUp_8 11 rfl (fun x3 => ?_)
  refine s_iconst (v := 0) C dX4_putsUp_11 (by decide) 12 rfl ?_
  refine s_dup2 C dX4_putsUp_12 rfl rfl 13 rfl ?_
  refine s_iald C hR dX4_putsUp_13 14 rfl (fun x4 => ?_)
  refine s_iconst (v := 1) C dX4_putsUp_14 (by decide) 15 rfl ?_
  refine s_iadd C dX4_putsUp_15 16 rfl ?_
  refine s_iast C hR hA dX4_putsUp_16 17 rfl ?_
  refine s_aload_n C dX4_putsUp_17 18 rfl 1 rfl ?_
  refine s_iload_n C dX4_putsUp_18 19 rfl 0 rfl ?_
  refine s_iconst (v := 0) C dX4_putsUp_19 (by decide) 20 rfl ?_
  refine s_iload_n C dX4_putsUp_20 21 rfl 2 rfl ?_
  refine s_call_v (rn_V (As := [.int x2, .int 0, .int p0]) C (ct_at hR hA (ct_on (ct_X4_puts g TA a0 x2 0 p0))) (rv_on C hR (q := vw_12) rfl) (lw_V q1892 q1894 qs39 q112 q1895) ⟨rfl, nv_X4_puts⟩ ⟨by decide, by decide⟩ rfl (bl rfl) dX4_putsUp_21) 24 rfl ?_
  refine s_aload_n C dX4_putsUp_24 25 rfl 1 rfl ?_
  refine s_iload_n C dX4_putsUp_25 26 rfl 0 rfl ?_
  refine s_iconst (v := 1) C dX4_putsUp_26 (by decide) 27 rfl ?_
  refine s_iload_n C dX4_putsUp_27 28 rfl 2 rfl ?_
  refine s_iconst (v := 5) C dX4_putsUp_28 (by decide) 29 rfl ?_
  refine s_cut (J := 50) (LJ := (fun (v6 : Int32) => [(0, .ref a0), (2, .int x2)])) (SJ := (fun (v6 : Int32) => [.int v6, .int 1, .int x2, .ref a0])) (fun v6 => ?_) (fun _ _ hK7 => ?_)
  · refine s_call_v (rn_V (As := [.int x2, .int 1, .int v6]) C (ct_at hR hA (ct_on (ct_X4_puts g TA a0 x2 1 v6))) (rv_on C hR (q := vw_12) rfl) (lw_V q1892 q1894 qs39 q112 q1895) ⟨rfl, nv_X4_puts⟩ ⟨by decide, by decide⟩ rfl (bl rfl) dX4_putsUp_50) 53 rfl ?_
    refine s_aload_n C dX4_putsUp_53 54 rfl 0 rfl ?_
    refine s_iload_n C dX4_putsUp_54 55 rfl 1 rfl ?_
    refine s_iconst (v := 2) C dX4_putsUp_55 (by decide) 56 rfl ?_
    refine s_bipush (v := 100) C dX4_putsUp_56 (by decide) 58 rfl ?_
    refine s_call_v (rn_V (As := [.int x2, .int 2, .int 100]) C (ct_at hR hA (ct_on (ct_X4_puts g TA a0 x2 2 100))) (rv_on C hR (q := vw_12) rfl) (lw_V q1892 q1894 qs39 q112 q1895) ⟨rfl, nv_X4_puts⟩ ⟨by decide, by decide⟩ rfl (bl rfl) dX4_putsUp_58) 61 rfl ?_
    refine s_aload_n C dX4_putsUp_61 62 rfl 0 rfl ?_
    refine s_iload_n C dX4_putsUp_62 63 rfl 1 rfl ?_
    refine s_iconst (v := 3) C dX4_putsUp_63 (by decide) 64 rfl ?_
    refine s_iconst (v := 0) C dX4_putsUp_64 (by decide) 65 rfl ?_
    refine s_call_v (rn_V (As := [.int x2, .int 3, .int 0]) C (ct_at hR hA (ct_on (ct_X4_puts g TA a0 x2 3 0))) (rv_on C hR (q := vw_12) rfl) (lw_V q1892 q1894 qs39 q112 q1895) ⟨rfl, nv_X4_puts⟩ ⟨by decide, by decide⟩ rfl (bl rfl) dX4_putsUp_65) 68 rfl ?_
    refine s_aload_n C dX4_putsUp_68 69 rfl 0 rfl ?_
    refine s_iload_n C dX4_putsUp_69 70 rfl 1 rfl ?_
    refine s_iconst (v := 4) C dX4_putsUp_70 (by decide) 71 rfl ?_
    refine s_iconst (v := 0) C dX4_putsUp_71 (by decide) 72 rfl ?_
    refine s_call_v (rn_V (As := [.int x2, .int 4, .int 0]) C (ct_at hR hA (ct_on (ct_X4_puts g TA a0 x2 4 0))) (rv_on C hR (q := vw_12) rfl) (lw_V q1892 q1894 qs39 q112 q1895) ⟨rfl, nv_X4_puts⟩ ⟨by decide, by decide⟩ rfl (bl rfl) dX4_putsUp_72) 75 rfl ?_
    refine s_iconst (v := 0) C dX4_putsUp_75 (by decide) 76 rfl ?_
    refine s_istore_n C dX4_putsUp_76 rfl (by decide) 77 rfl [(3, .int 0), (0, .ref a0), (2, .int x2)] rfl ?_
    refine s_lv [1, 2, 0] rfl ?_
    refine s_loop (fun (s12 : Int32) => [(0, .ref a0), (2, .int x2), (3, .int s12)]) (fun (v17 : Unit) => [(2, .int x2)]) 107 0 rfl (fun v17 => ?_) (fun _ s12 hk13 hx14 => ?_)
    · refine s_iload_n C dX4_putsUp_107 108 rfl 0 rfl ?_
      exact s_iret C rfl rfl dX4_putsUp_108
    · refine s_iload_n C dX4_putsUp_77 78 rfl 2 rfl ?_
      refine s_iconst (v := 4) C dX4_putsUp_78 (by decide) 79 rfl ?_
      refine s_icmp_ge C dX4_putsUp_79 107 82 (by decide) rfl ?_ ?_
      · refine s_r ?_
        refine s_lv [1] rfl ?_
        exact hx14 ()
      · refine s_aload_n C dX4_putsUp_82 83 rfl 0 rfl ?_
        refine s_iload_n C dX4_putsUp_83 84 rfl 1 rfl ?_
        refine s_iconst (v := 5) C dX4_putsUp_84 (by decide) 85 rfl ?_
        refine s_iload_n C dX4_putsUp_85 86 rfl 2 rfl ?_
        refine s_iadd C dX4_putsUp_86 87 rfl ?_
        refine s_iconst (v := (-1)) C dX4_putsUp_87 (by decide) 88 rfl ?_
        refine s_call_v (rn_V (As := [.int x2, .int (5 + s12), .int (-1)]) C (ct_at hR hA (ct_on (ct_X4_puts g TA a0 x2 (5 + s12) (-1)))) (rv_on C hR (q := vw_12) rfl) (lw_V q1892 q1894 qs39 q112 q1895) ⟨rfl, nv_X4_puts⟩ ⟨by decide, by decide⟩ rfl (bl rfl) dX4_putsUp_88) 91 rfl ?_
        refine s_aload_n C dX4_putsUp_91 92 rfl 0 rfl ?_
        refine s_iload_n C dX4_putsUp_92 93 rfl 1 rfl ?_
        refine s_bipush (v := 9) C dX4_putsUp_93 (by decide) 95 rfl ?_
        refine s_iload_n C dX4_putsUp_95 96 rfl 2 rfl ?_
        refine s_iadd C dX4_putsUp_96 97 rfl ?_
        refine s_iconst (v := 1) C dX4_putsUp_97 (by decide) 98 rfl ?_
        refine s_call_v (rn_V (As := [.int x2, .int (9 + s12), .int 1]) C (ct_at hR hA (ct_on (ct_X4_puts g TA a0 x2 (9 + s12) 1))) (rv_on C hR (q := vw_12) rfl) (lw_V q1892 q1894 qs39 q112 q1895) ⟨rfl, nv_X4_puts⟩ ⟨by decide, by decide⟩ rfl (bl rfl) dX4_putsUp_98) 101 rfl ?_
        refine s_iinc C dX4_putsUp_101 (s12 + 1) rfl 2 rfl (by decide) 104 rfl [(3, .int (s12 + 1)), (0, .ref a0), (2, .int x2)] rfl ?_
        refine s_goto C dX4_putsUp_104 77 (by decide) ?_
        refine s_r ?_
        refine s_lv [1, 2, 0] rfl ?_
        exact hk13 (s12 + 1)
  · refine s_icmp_ne C dX4_putsUp_29 38 32 (by decide) rfl ?_ ?_
    · refine s_sipush (v := 10000) C dX4_putsUp_32 (by decide) 35 rfl ?_
      refine s_goto C dX4_putsUp_35 50 (by decide) ?_
      refine s_r ?_
      refine s_lv [1, 0] rfl ?_
      exact hK7 10000
    · refine s_iload_n C dX4_putsUp_38 39 rfl 2 rfl ?_
      refine s_iconst (v := 2) C dX4_putsUp_39 (by decide) 40 rfl ?_
      refine s_icmp_ne C dX4_putsUp_40 49 43 (by decide) rfl ?_ ?_
      · refine s_sipush (v := 500) C dX4_putsUp_43 (by decide) 46 rfl ?_
        refine s_goto C dX4_putsUp_46 50 (by decide) ?_
        refine s_r ?_
        refine s_lv [1, 0] rfl ?_
        exact hK7 500
      · refine s_iconst (v := 0) C dX4_putsUp_49 (by decide) 50 rfl ?_
        refine s_r ?_
        refine s_lv [1, 0] rfl ?_
        exact hK7 0
theorem nv_X4_put : yX4_put.cls ≠ "java/lang/invoke/MethodHandle" ∧ yX4_put.cls ≠ "java/lang/invoke/VarHandle" ∧ (parseMethodDescriptor yX4_put.desc).map (fun d => d.parameters.length) = some 1 := by decide +kernel
theorem ct_X4_put {l : Launch} (g : sm_G) (TA : Nat → Prop) (a0 : Nat) (p0 : Int32) : sm_CT l g (so_R g TA) (so_A g TA) yX4_put cX4_put 2 (some .int) 2 46 [.ref a0, .int p0] em_i (f_X4_put g a0 p0) := by
  refine sm_of (own := "PatchCordsModel") rfl rfl (bl rfl) (fun Y C hR hA hl hm => ?_)
  subst hl
  refine s_lv (L' := [(0, .ref a0), (1, .int p0)]) [0, 1] rfl ?_
  refine s_top ?_
  unfold f_X4_put
  refine s_aload_n C dX4_put_0 1 rfl 0 rfl ?_
  refine s_iload_n C dX4_put_1 2 rfl 1 rfl ?_
  refine s_iconst (v := 0) C dX4_put_2 (by decide) 3 rfl ?_
  refine s_iconst (v := 5) C dX4_put_3 (by decide) 4 rfl ?_
  refine s_call_i (rn_S (As := [.int p0, .int 0, .int 5]) C (ct_at hR hA (ct_X4_within g TA p0 0 5)) (lw_S q1877 q1878 q112 q1879) nv_X4_within ⟨by decide, by decide⟩ rfl (bl rfl) dX4_put_4) 7 rfl (fun x1 => ?_)
  refine s_cut (J := 26) (LJ := (fun (v2 : Int32) => [(0, .ref a0), (1, .int p0)])) (SJ := (fun (v2 : Int32) => [.int v2, .ref a0])) (fun v2 => ?_) (fun _ _ hK3 => ?_)
  · refine s_put C hR hA fd_PatchCordsModel_thrown (Or.inl q1808) dX4_put_26 rfl rfl 29 rfl ?_
    refine s_aload_n C dX4_put_29 30 rfl 0 rfl ?_
    refine s_getI C hR fd_PatchCordsModel_thrown (Or.inl q1808) dX4_put_30 33 rfl (fun x5 => ?_)
    refine s_if_le C dX4_put_33 38 36 (by decide) rfl ?_ ?_
    · refine s_aload_n C dX4_put_38 39 rfl 0 rfl ?_
      refine s_call_v (rn_V (As := []) C (ct_at hR hA (ct_on (ct_X4_saves g TA a0))) (rv_on C hR (q := vw_12) rfl) (lw_V q1884 q1886 qs37 q112 q1887) ⟨rfl, nv_X4_saves⟩ ⟨by decide, by decide⟩ rfl (bl rfl) dX4_put_39) 42 rfl ?_
      refine s_aload_n C dX4_put_42 43 rfl 0 rfl ?_
      refine s_iload_n C dX4_put_43 44 rfl 1 rfl ?_
      refine s_call_i (rn_V (As := [.int p0]) C (ct_at hR hA (ct_on (ct_X4_putsUp g TA a0 p0))) (rv_on C hR (q := vw_12) rfl) (lw_V q1888 q1890 qs38 q112 q1891) ⟨rfl, nv_X4_putsUp⟩ ⟨by decide, by decide⟩ rfl (bl rfl) dX4_put_44) 47 rfl (fun x7 => ?_)
      exact s_iret C rfl rfl dX4_put_47
    · refine s_iconst (v := 0) C dX4_put_36 (by decide) 37 rfl ?_
      exact s_iret C rfl rfl dX4_put_37
  · refine s_if_ne C dX4_put_7 14 10 (by decide) rfl ?_ ?_
    · refine s_iconst (v := 1) C dX4_put_10 (by decide) 11 rfl ?_
      refine s_goto C dX4_put_11 26 (by decide) ?_
      refine s_r ?_
      refine s_lv [0, 1] rfl ?_
      exact hK3 1
    · refine s_aload_n C dX4_put_14 15 rfl 0 rfl ?_
      refine s_call_i (rn_V (As := []) C (ct_at hR hA (ct_on (ct_X4_canPut g TA a0))) (rv_on C hR (q := vw_12) rfl) (lw_V q1880 q1882 qs36 q112 q1883) ⟨rfl, nv_X4_canPut⟩ ⟨by decide, by decide⟩ rfl (bl rfl) dX4_put_15) 18 rfl (fun x4 => ?_)
      refine s_if_eq C dX4_put_18 25 21 (by decide) rfl ?_ ?_
      · refine s_iconst (v := 2) C dX4_put_25 (by decide) 26 rfl ?_
        refine s_r ?_
        refine s_lv [0, 1] rfl ?_
        exact hK3 2
      · refine s_iconst (v := 0) C dX4_put_21 (by decide) 22 rfl ?_
        refine s_goto C dX4_put_22 26 (by decide) ?_
        refine s_r ?_
        refine s_lv [0, 1] rfl ?_
        exact hK3 0
theorem nv_X4_isModule : yX4_isModule.cls ≠ "java/lang/invoke/MethodHandle" ∧ yX4_isModule.cls ≠ "java/lang/invoke/VarHandle" ∧ (parseMethodDescriptor yX4_isModule.desc).map (fun d => d.parameters.length) = some 1 := by decide +kernel
theorem ct_X4_isModule {l : Launch} (g : sm_G) (TA : Nat → Prop) (a0 : Nat) (p0 : Int32) : sm_CT l g (so_R g TA) (so_A g TA) yX4_isModule cX4_isModule 2 (some .boolean) 1 22 [.ref a0, .int p0] em_i (f_X4_isModule g a0 p0) := by
  refine sm_of (own := "PatchCordsModel") rfl rfl (bl rfl) (fun Y C hR hA hl hm => ?_)
  subst hl
  refine s_lv (L' := [(0, .ref a0), (1, .int p0)]) [0, 1] rfl ?_
  refine s_top ?_
  unfold f_X4_isModule
  refine s_iload_n C dX4_isModule_0 1 rfl 1 rfl ?_
  refine s_iconst (v := 0) C dX4_isModule_1 (by decide) 2 rfl ?_
  refine s_aload_n C dX4_isModule_2 3 rfl 0 rfl ?_
  refine s_getR C hR fd_PatchCordsModel_state (Or.inl q1809) dX4_isModule_3 6 rfl (fun x1 => ?_)
  refine s_iconst (v := 0) C dX4_isModule_6 (by decide) 7 rfl ?_
  refine s_iald C hR dX4_isModule_7 8 rfl (fun x2 => ?_)
  refine s_iconst (v := 1) C dX4_isModule_8 (by decide) 9 rfl ?_
  refine s_isub C dX4_isModule_9 10 rfl ?_
  refine s_call_i (rn_S (As := [.int p0, .int 0, .int (x2 - 1)]) C (ct_at hR hA (ct_X4_within g TA p0 0 (x2 - 1))) (lw_S q1877 q1878 q112 q1879) nv_X4_within ⟨by decide, by decide⟩ rfl (bl rfl) dX4_isModule_10) 13 rfl (fun x3 => ?_)
  refine s_zb (fun h => ?_)
  exact s_iret C rfl (s_zn h) dX4_isModule_13
theorem nv_X4_of : yX4_of.cls ≠ "java/lang/invoke/MethodHandle" ∧ yX4_of.cls ≠ "java/lang/invoke/VarHandle" ∧ (parseMethodDescriptor yX4_of.desc).map (fun d => d.parameters.length) = some 2 := by decide +kernel
theorem ct_X4_of {l : Launch} (g : sm_G) (TA : Nat → Prop) (a0 : Nat) (p0 : Int32) (p1 : Int32) : sm_CT l g (so_R g TA) (so_A g TA) yX4_of cX4_of 3 (some .int) 0 0 [.ref a0, .int p0, .int p1] em_i (f_X4_of g a0 p0 p1) := by
  refine sm_of (own := "PatchCordsModel") rfl rfl (bl rfl) (fun Y C hR hA hl hm => ?_)
  subst hl
  refine s_lv (L' := [(0, .ref a0), (1, .int p0), (2, .int p1)]) [0, 1, 2] rfl ?_
  refine s_top ?_
  unfold f_X4_of
  refine s_aload_n C dX4_of_0 1 rfl 0 rfl ?_
  refine s_getR C hR fd_PatchCordsModel_state (Or.inl q1809) dX4_of_1 4 rfl (fun x1 => ?_)
  refine s_bipush (v := 34) C dX4_of_4 (by decide) 6 rfl ?_
  refine s_bipush (v := 13) C dX4_of_6 (by decide) 8 rfl ?_
  refine s_iload_n C dX4_of_8 9 rfl 1 rfl ?_
  refine s_imul C dX4_of_9 10 rfl ?_
  refine s_iadd C dX4_of_10 11 rfl ?_
  refine s_iload_n C dX4_of_11 12 rfl 2 rfl ?_
  refine s_iadd C dX4_of_12 13 rfl ?_
  refine s_iald C hR dX4_of_13 14 rfl (fun x2 => ?_)
  exact s_iret C rfl rfl dX4_of_14
theorem nv_X4_kind : yX4_kind.cls ≠ "java/lang/invoke/MethodHandle" ∧ yX4_kind.cls ≠ "java/lang/invoke/VarHandle" ∧ (parseMethodDescriptor yX4_kind.desc).map (fun d => d.parameters.length) = some 1 := by decide +kernel
theorem ct_X4_kind {l : Launch} (g : sm_G) (TA : Nat → Prop) (a0 : Nat) (p0 : Int32) : sm_CT l g (so_R g TA) (so_A g TA) yX4_kind cX4_kind 2 (some .int) 1 22 [.ref a0, .int p0] em_i (f_X4_kind g a0 p0) := by
  refine sm_of (own := "PatchCordsModel") rfl rfl (bl rfl) (fun Y C hR hA hl hm => ?_)
  subst hl
  refine s_lv (L' := [(0, .ref a0), (1, .int p0)]) [0, 1] rfl ?_
  refine s_top ?_
  unfold f_X4_kind
  refine s_aload_n C dX4_kind_0 1 rfl 0 rfl ?_
  refine s_iload_n C dX4_kind_1 2 rfl 1 rfl ?_
  refine s_iconst (v := 0) C dX4_kind_2 (by decide) 3 rfl ?_
  refine s_call_i (rn_V (As := [.int p0, .int 0]) C (ct_at hR hA (ct_on (ct_X4_of g TA a0 p0 0))) (rv_on C hR (q := vw_12) rfl) (lw_V q1916 q1918 qs44 q112 q1919) ⟨rfl, nv_X4_of⟩ ⟨by decide, by decide⟩ rfl (bl rfl) dX4_kind_3) 6 rfl (fun x1 => ?_)
  exact s_iret C rfl rfl dX4_kind_6
theorem nv_X4_isWeighted : yX4_isWeighted.cls ≠ "java/lang/invoke/MethodHandle" ∧ yX4_isWeighted.cls ≠ "java/lang/invoke/VarHandle" ∧ (parseMethodDescriptor yX4_isWeighted.desc).map (fun d => d.parameters.length) = some 1 := by decide +kernel
theorem ct_X4_isWeighted {l : Launch} (g : sm_G) (TA : Nat → Prop) (a0 : Nat) (p0 : Int32) : sm_CT l g (so_R g TA) (so_A g TA) yX4_isWeighted cX4_isWeighted 2 (some .boolean) 2 43 [.ref a0, .int p0] em_i (f_X4_isWeighted g a0 p0) := by
  refine sm_of (own := "PatchCordsModel") rfl rfl (bl rfl) (fun Y C hR hA hl hm => ?_)
  subst hl
  refine s_lv (L' := [(0, .ref a0), (1, .int p0)]) [0, 1] rfl ?_
  refine s_top ?_
  unfold f_X4_isWeighted
  refine s_aload_n C dX4_isWeighted_0 1 rfl 0 rfl ?_
  refine s_iload_n C dX4_isWeighted_1 2 rfl 1 rfl ?_
  refine s_call_i (rn_V (As := [.int p0]) C (ct_at hR hA (ct_on (ct_X4_kind g TA a0 p0))) (rv_on C hR (q := vw_12) rfl) (lw_V q1912 q1914 qs43 q112 q1915) ⟨rfl, nv_X4_kind⟩ ⟨by decide, by decide⟩ rfl (bl rfl) dX4_isWeighted_2) 5 rfl (fun x1 => ?_)
  refine s_cut (J := 22) (LJ := (fun (v2 : Int32) => [])) (SJ := (fun (v2 : Int32) => [.int v2])) (fun v2 => ?_) (fun _ _ hK3 => ?_)
  · refine s_zb (fun h => ?_)
    exact s_iret C rfl (s_zn h) dX4_isWeighted_22
  · refine s_if_eq C dX4_isWeighted_5 17 8 (by decide) rfl ?_ ?_
    · refine s_iconst (v := 1) C dX4_isWeighted_17 (by decide) 18 rfl ?_
      refine s_goto C dX4_isWeighted_18 22 (by decide) ?_
      refine s_r ?_
      refine s_lv [] rfl ?_
      exact hK3 1
    · refine s_aload_n C dX4_isWeighted_8 9 rfl 0 rfl ?_
      refine s_iload_n C dX4_isWeighted_9 10 rfl 1 rfl ?_
      refine s_call_i (rn_V (As := [.int p0]) C (ct_at hR hA (ct_on (ct_X4_kind g TA a0 p0))) (rv_on C hR (q := vw_12) rfl) (lw_V q1912 q1914 qs43 q112 q1915) ⟨rfl, nv_X4_kind⟩ ⟨by decide, by decide⟩ rfl (bl rfl) dX4_isWeighted_10) 13 rfl (fun x4 => ?_)
      refine s_iconst (v := 1) C dX4_isWeighted_13 (by decide) 14 rfl ?_
      refine s_icmp_ne C dX4_isWeighted_14 21 17 (by decide) rfl ?_ ?_
      · refine s_iconst (v := 1) C dX4_isWeighted_17 (by decide) 18 rfl ?_
        refine s_goto C dX4_isWeighted_18 22 (by decide) ?_
        refine s_r ?_
        refine s_lv [] rfl ?_
        exact hK3 1
      · refine s_iconst (v := 0) C dX4_isWeighted_21 (by decide) 22 rfl ?_
        refine s_r ?_
        refine s_lv [] rfl ?_
        exact hK3 0
theorem nv_X4_inputsOfKind : yX4_inputsOfKind.cls ≠ "java/lang/invoke/MethodHandle" ∧ yX4_inputsOfKind.cls ≠ "java/lang/invoke/VarHandle" ∧ (parseMethodDescriptor yX4_inputsOfKind.desc).map (fun d => d.parameters.length) = some 1 := by decide +kernel
theorem ct_X4_inputsOfKind {l : Launch} (g : sm_G) (TA : Nat → Prop) (p0 : Int32) : sm_CT l g (so_R g TA) (so_A g TA) yX4_inputsOfKind cX4_inputsOfKind 1 (some .int) 0 0 [.int p0] em_i (f_X4_inputsOfKind g p0) := by
  refine sm_of (own := "PatchCordsModel") rfl rfl (bl rfl) (fun Y C hR hA hl hm => ?_)
  subst hl
  refine s_lv (L' := [(0, .int p0)]) [0] rfl ?_
  refine s_top ?_
  unfold f_X4_inputsOfKind
  refine s_iload_n C dX4_inputsOfKind_0 1 rfl 0 rfl ?_
  refine s_iconst (v := 5) C dX4_inputsOfKind_1 (by decide) 2 rfl ?_
  refine s_cut (J := 28) (LJ := (fun (v1 : Int32) => [])) (SJ := (fun (v1 : Int32) => [.int v1])) (fun v1 => ?_) (fun _ _ hK2 => ?_)
  · exact s_iret C rfl rfl dX4_inputsOfKind_28
  · refine s_icmp_ne C dX4_inputsOfKind_2 9 5 (by decide) rfl ?_ ?_
    · refine s_iconst (v := 0) C dX4_inputsOfKind_5 (by decide) 6 rfl ?_
      refine s_goto C dX4_inputsOfKind_6 28 (by decide) ?_
      refine s_r ?_
      refine s_lv [] rfl ?_
      exact hK2 0
    · refine s_iload_n C dX4_inputsOfKind_9 10 rfl 0 rfl ?_
      refine s_iconst (v := 2) C dX4_inputsOfKind_10 (by decide) 11 rfl ?_
      refine s_icmp_ne C dX4_inputsOfKind_11 18 14 (by decide) rfl ?_ ?_
      · refine s_iconst (v := 1) C dX4_inputsOfKind_14 (by decide) 15 rfl ?_
        refine s_goto C dX4_inputsOfKind_15 28 (by decide) ?_
        refine s_r ?_
        refine s_lv [] rfl ?_
        exact hK2 1
      · refine s_iload_n C dX4_inputsOfKind_18 19 rfl 0 rfl ?_
        refine s_iconst (v := 3) C dX4_inputsOfKind_19 (by decide) 20 rfl ?_
        refine s_icmp_ne C dX4_inputsOfKind_20 27 23 (by decide) rfl ?_ ?_
        · refine s_iconst (v := 2) C dX4_inputsOfKind_23 (by decide) 24 rfl ?_
          refine s_goto C dX4_inputsOfKind_24 28 (by decide) ?_
          refine s_r ?_
          refine s_lv [] rfl ?_
          exact hK2 2
        · refine s_iconst (v := 4) C dX4_inputsOfKind_27 (by decide) 28 rfl ?_
          refine s_r ?_
          refine s_lv [] rfl ?_
          exact hK2 4
theorem nv_X4_isInput : yX4_isInput.cls ≠ "java/lang/invoke/MethodHandle" ∧ yX4_isInput.cls ≠ "java/lang/invoke/VarHandle" ∧ (parseMethodDescriptor yX4_isInput.desc).map (fun d => d.parameters.length) = some 2 := by decide +kernel
theorem ct_X4_isInput {l : Launch} (g : sm_G) (TA : Nat → Prop) (a0 : Nat) (p0 : Int32) (p1 : Int32) : sm_CT l g (so_R g TA) (so_A g TA) yX4_isInput cX4_isInput 3 (some .boolean) 2 43 [.ref a0, .int p0, .int p1] em_i (f_X4_isInput g a0 p0 p1) := by
  refine sm_of (own := "PatchCordsModel") rfl rfl (bl rfl) (fun Y C hR hA hl hm => ?_)
  subst hl
  refine s_lv (L' := [(0, .ref a0), (1, .int p0), (2, .int p1)]) [0, 1, 2] rfl ?_
  refine s_top ?_
  unfold f_X4_isInput
  refine s_aload_n C dX4_isInput_0 1 rfl 0 rfl ?_
  refine s_iload_n C dX4_isInput_1 2 rfl 1 rfl ?_
  refine s_call_i (rn_V (As := [.int p0]) C (ct_at hR hA (ct_on (ct_X4_isModule g TA a0 p0))) (rv_on C hR (q := vw_12) rfl) (lw_V q1904 q1906 qs41 q112 q1907) ⟨rfl, nv_X4_isModule⟩ ⟨by decide, by decide⟩ rfl (bl rfl) dX4_isInput_2) 5 rfl (fun x1 => ?_)
  refine s_cut (J := 31) (LJ := (fun (v2 : Int32) => [])) (SJ := (fun (v2 : Int32) => [.int v2])) (fun v2 => ?_) (fun _ _ hK3 => ?_)
  · refine s_zb (fun h => ?_)
    exact s_iret C rfl (s_zn h) dX4_isInput_31
  · refine s_if_eq C dX4_isInput_5 30 8 (by decide) rfl ?_ ?_
    · refine s_iconst (v := 0) C dX4_isInput_30 (by decide) 31 rfl ?_
      refine s_r ?_
      refine s_lv [] rfl ?_
      exact hK3 0
    · refine s_iload_n C dX4_isInput_8 9 rfl 2 rfl ?_
      refine s_iconst (v := 0) C dX4_isInput_9 (by decide) 10 rfl ?_
      refine s_aload_n C dX4_isInput_10 11 rfl 0 rfl ?_
      refine s_iload_n C dX4_isInput_11 12 rfl 1 rfl ?_
      refine s_call_i (rn_V (As := [.int p0]) C (ct_at hR hA (ct_on (ct_X4_kind g TA a0 p0))) (rv_on C hR (q := vw_12) rfl) (lw_V q1912 q1914 qs43 q112 q1915) ⟨rfl, nv_X4_kind⟩ ⟨by decide, by decide⟩ rfl (bl rfl) dX4_isInput_12) 15 rfl (fun x4 => ?_)
      refine s_call_i (rn_S (As := [.int x4]) C (ct_at hR hA (ct_X4_inputsOfKind g TA x4)) (lw_S q1924 q1925 q112 q1926) nv_X4_inputsOfKind ⟨by decide, by decide⟩ rfl (bl rfl) dX4_isInput_15) 18 rfl (fun x5 => ?_)
      refine s_iconst (v := 1) C dX4_isInput_18 (by decide) 19 rfl ?_
      refine s_isub C dX4_isInput_19 20 rfl ?_
      refine s_call_i (rn_S (As := [.int p1, .int 0, .int (x5 - 1)]) C (ct_at hR hA (ct_X4_within g TA p1 0 (x5 - 1))) (lw_S q1877 q1878 q112 q1879) nv_X4_within ⟨by decide, by decide⟩ rfl (bl rfl) dX4_isInput_20) 23 rfl (fun x6 => ?_)
      refine s_if_eq C dX4_isInput_23 30 26 (by decide) rfl ?_ ?_
      · refine s_iconst (v := 0) C dX4_isInput_30 (by decide) 31 rfl ?_
        refine s_r ?_
        refine s_lv [] rfl ?_
        exact hK3 0
      · refine s_iconst (v := 1) C dX4_isInput_26 (by decide) 27 rfl ?_
        refine s_goto C dX4_isInput_27 31 (by decide) ?_
        refine s_r ?_
        refine s_lv [] rfl ?_
        exact hK3 1
theorem nv_X4_whyNoWeight : yX4_whyNoWeight.cls ≠ "java/lang/invoke/MethodHandle" ∧ yX4_whyNoWeight.cls ≠ "java/lang/invoke/VarHandle" ∧ (parseMethodDescriptor yX4_whyNoWeight.desc).map (fun d => d.parameters.length) = some 2 := by decide +kernel
theorem ct_X4_whyNoWeight {l : Launch} (g : sm_G) (TA : Nat → Prop) (a0 : Nat) (p0 : Int32) (p1 : Int32) : sm_CT l g (so_R g TA) (so_A g TA) yX4_whyNoWeight cX4_whyNoWeight 3 (some .int) 3 65 [.ref a0, .int p0, .int p1] em_i (f_X4_whyNoWeight g a0 p0 p1) := by
  refine sm_of (own := "PatchCordsModel") rfl rfl (bl rfl) (fun Y C hR hA hl hm => ?_)
  subst hl
  refine s_lv (L' := [(0, .ref a0), (1, .int p0), (2, .int p1)]) [0, 1, 2] rfl ?_
  refine s_top ?_
  unfold f_X4_whyNoWeight
  refine s_aload_n C dX4_whyNoWeight_0 1 rfl 0 rfl ?_
  refine s_iload_n C dX4_whyNoWeight_1 2 rfl 1 rfl ?_
  refine s_call_i (rn_V (As := [.int p0]) C (ct_at hR hA (ct_on (ct_X4_isModule g TA a0 p0))) (rv_on C hR (q := vw_12) rfl) (lw_V q1904 q1906 qs41 q112 q1907) ⟨rfl, nv_X4_isModule⟩ ⟨by decide, by decide⟩ rfl (bl rfl) dX4_whyNoWeight_2) 5 rfl (fun x1 => ?_)
  refine s_cut (J := 47) (LJ := (fun (v2 : Int32) => [])) (SJ := (fun (v2 : Int32) => [.int v2])) (fun v2 => ?_) (fun _ _ hK3 => ?_)
  · exact s_iret C rfl rfl dX4_whyNoWeight_47
  · refine s_if_eq C dX4_whyNoWeight_5 17 8 (by decide) rfl ?_ ?_
    · refine s_iconst (v := 1) C dX4_whyNoWeight_17 (by decide) 18 rfl ?_
      refine s_goto C dX4_whyNoWeight_18 47 (by decide) ?_
      refine s_r ?_
      refine s_lv [] rfl ?_
      exact hK3 1
    · refine s_iload_n C dX4_whyNoWeight_8 9 rfl 2 rfl ?_
      refine s_iconst (v := 0) C dX4_whyNoWeight_9 (by decide) 10 rfl ?_
      refine s_iconst (v := 3) C dX4_whyNoWeight_10 (by decide) 11 rfl ?_
      refine s_call_i (rn_S (As := [.int p1, .int 0, .int 3]) C (ct_at hR hA (ct_X4_within g TA p1 0 3)) (lw_S q1877 q1878 q112 q1879) nv_X4_within ⟨by decide, by decide⟩ rfl (bl rfl) dX4_whyNoWeight_11) 14 rfl (fun x4 => ?_)
      refine s_if_ne C dX4_whyNoWeight_14 21 17 (by decide) rfl ?_ ?_
      · refine s_iconst (v := 1) C dX4_whyNoWeight_17 (by decide) 18 rfl ?_
        refine s_goto C dX4_whyNoWeight_18 47 (by decide) ?_
        refine s_r ?_
        refine s_lv [] rfl ?_
        exact hK3 1
      · refine s_aload_n C dX4_whyNoWeight_21 22 rfl 0 rfl ?_
        refine s_iload_n C dX4_whyNoWeight_22 23 rfl 1 rfl ?_
        refine s_call_i (rn_V (As := [.int p0]) C (ct_at hR hA (ct_on (ct_X4_isWeighted g TA a0 p0))) (rv_on C hR (q := vw_12) rfl) (lw_V q1908 q1910 qs42 q112 q1911) ⟨rfl, nv_X4_isWeighted⟩ ⟨by decide, by decide⟩ rfl (bl rfl) dX4_whyNoWeight_23) 26 rfl (fun x5 => ?_)
        refine s_if_eq C dX4_whyNoWeight_26 33 29 (by decide) rfl ?_ ?_
        · refine s_aload_n C dX4_whyNoWeight_33 34 rfl 0 rfl ?_
          refine s_iload_n C dX4_whyNoWeight_34 35 rfl 1 rfl ?_
          refine s_iload_n C dX4_whyNoWeight_35 36 rfl 2 rfl ?_
          refine s_call_i (rn_V (As := [.int p0, .int p1]) C (ct_at hR hA (ct_on (ct_X4_isInput g TA a0 p0 p1))) (rv_on C hR (q := vw_12) rfl) (lw_V q1920 q1922 qs45 q112 q1923) ⟨rfl, nv_X4_isInput⟩ ⟨by decide, by decide⟩ rfl (bl rfl) dX4_whyNoWeight_36) 39 rfl (fun x6 => ?_)
          refine s_if_eq C dX4_whyNoWeight_39 46 42 (by decide) rfl ?_ ?_
          · refine s_iconst (v := 1) C dX4_whyNoWeight_46 (by decide) 47 rfl ?_
            refine s_r ?_
            refine s_lv [] rfl ?_
            exact hK3 1
          · refine s_iconst (v := 2) C dX4_whyNoWeight_42 (by decide) 43 rfl ?_
            refine s_goto C dX4_whyNoWeight_43 47 (by decide) ?_
            refine s_r ?_
            refine s_lv [] rfl ?_
            exact hK3 2
        · refine s_iconst (v := 0) C dX4_whyNoWeight_29 (by decide) 30 rfl ?_
          refine s_goto C dX4_whyNoWeight_30 47 (by decide) ?_
          refine s_r ?_
          refine s_lv [] rfl ?_
          exact hK3 0
theorem nv_X4_turnWeight : yX4_turnWeight.cls ≠ "java/lang/invoke/MethodHandle" ∧ yX4_turnWeight.cls ≠ "java/lang/invoke/VarHandle" ∧ (parseMethodDescriptor yX4_turnWeight.desc).map (fun d => d.parameters.length) = some 2 := by decide +kernel
theorem ct_X4_turnWeight {l : Launch} (g : sm_G) (TA : Nat → Prop) (a0 : Nat) (p0 : Int32) (p1 : Int32) : sm_CT l g (so_R g TA) (so_A g TA) yX4_turnWeight cX4_turnWeight 3 (some .int) 4 87 [.ref a0, .int p0, .int p1] em_i (f_X4_turnWeight g a0 p0 p1) := by
  refine sm_of (own := "PatchCordsModel") rfl rfl (bl rfl) (fun Y C hR hA hl hm => ?_)
  subst hl
  refine s_lv (L' := [(0, .ref a0), (1, .int p0), (2, .int p1)]) [0, 1, 2] rfl ?_
  refine s_top ?_
  unfold f_X4_turnWeight
  refine s_aload_n C dX4_turnWeight_0 1 rfl 0 rfl ?_
  refine s_aload_n C dX4_turnWeight_1 2 rfl 0 rfl ?_
  refine s_iload_n C dX4_turnWeight_2 3 rfl 1 rfl ?_
  refine s_iload_n C dX4_turnWeight_3 4 rfl 2 rfl ?_
  refine s_call_i (rn_V (As := [.int p0, .int p1]) C (ct_at hR hA (ct_on (ct_X4_whyNoWeight g TA a0 p0 p1))) (rv_on C hR (q := vw_12) rfl) (lw_V q1900 q1902 qs40 q112 q1903) ⟨rfl, nv_X4_whyNoWeight⟩ ⟨by decide, by decide⟩ rfl (bl rfl) dX4_turnWeight_4) 7 rfl (fun x1 => ?_)
  refine s_put C hR hA fd_PatchCordsModel_thrown (Or.inl q1808) dX4_turnWeight_7 rfl rfl 10 rfl ?_
  refine s_aload_n C dX4_turnWeight_10 11 rfl 0 rfl ?_
  refine s_getI C hR fd_PatchCordsModel_thrown (Or.inl q1808) dX4_turnWeight_11 14 rfl (fun x2 => ?_)
  refine s_if_le C dX4_turnWeight_14 19 17 (by decide) rfl ?_ ?_
  · refine s_aload_n C dX4_turnWeight_19 20 rfl 0 rfl ?_
    refine s_call_v (rn_V (As := []) C (ct_at hR hA (ct_on (ct_X4_saves g TA a0))) (rv_on C hR (q := vw_12) rfl) (lw_V q1884 q1886 qs37 q112 q1887) ⟨rfl, nv_X4_saves⟩ ⟨by decide, by decide⟩ rfl (bl rfl) dX4_turnWeight_20) 23 rfl ?_
    refine s_aload_n C dX4_turnWeight_23 24 rfl 0 rfl ?_
    refine s_iload_n C dX4_turnWeight_24 25 rfl 1 rfl ?_
    refine s_bipush (v := 9) C dX4_turnWeight_25 (by decide) 27 rfl ?_
    refine s_iload_n C dX4_turnWeight_27 28 rfl 2 rfl ?_
    refine s_iadd C dX4_turnWeight_28 29 rfl ?_
    refine s_bipush (v := 11) C dX4_turnWeight_29 (by decide) 31 rfl ?_
    refine s_aload_n C dX4_turnWeight_31 32 rfl 0 rfl ?_
    refine s_iload_n C dX4_turnWeight_32 33 rfl 1 rfl ?_
    refine s_bipush (v := 9) C dX4_turnWeight_33 (by decide) 35 rfl ?_
    refine s_iload_n C dX4_turnWeight_35 36 rfl 2 rfl ?_
    refine s_iadd C dX4_turnWeight_36 37 rfl ?_
    refine s_call_i (rn_V (As := [.int p0, .int (9 + p1)]) C (ct_at hR hA (ct_on (ct_X4_of g TA a0 p0 (9 + p1)))) (rv_on C hR (q := vw_12) rfl) (lw_V q1916 q1918 qs44 q112 q1919) ⟨rfl, nv_X4_of⟩ ⟨by decide, by decide⟩ rfl (bl rfl) dX4_turnWeight_37) 40 rfl (fun x4 => ?_)
    refine s_isub C dX4_turnWeight_40 41 rfl ?_
    refine s_call_v (rn_V (As := [.int p0, .int (9 + p1), .int (11 - x4)]) C (ct_at hR hA (ct_on (ct_X4_puts g TA a0 p0 (9 + p1) (11 - x4)))) (rv_on C hR (q := vw_12) rfl) (lw_V q1892 q1894 qs39 q112 q1895) ⟨rfl, nv_X4_puts⟩ ⟨by decide, by decide⟩ rfl (bl rfl) dX4_turnWeight_41) 44 rfl ?_
    refine s_aload_n C dX4_turnWeight_44 45 rfl 0 rfl ?_
    refine s_iload_n C dX4_turnWeight_45 46 rfl 1 rfl ?_
    refine s_bipush (v := 9) C dX4_turnWeight_46 (by decide) 48 rfl ?_
    refine s_iload_n C dX4_turnWeight_48 49 rfl 2 rfl ?_
    refine s_iadd C dX4_turnWeight_49 50 rfl ?_
    refine s_call_i (rn_V (As := [.int p0, .int (9 + p1)]) C (ct_at hR hA (ct_on (ct_X4_of g TA a0 p0 (9 + p1)))) (rv_on C hR (q := vw_12) rfl) (lw_V q1916 q1918 qs44 q112 q1919) ⟨rfl, nv_X4_of⟩ ⟨by decide, by decide⟩ rfl (bl rfl) dX4_turnWeight_50) 53 rfl (fun x6 => ?_)
    exact s_iret C rfl rfl dX4_turnWeight_53
  · refine s_iconst (v := 0) C dX4_turnWeight_17 (by decide) 18 rfl ?_
    exact s_iret C rfl rfl dX4_turnWeight_18
theorem nv_X4_hasVoltage : yX4_hasVoltage.cls ≠ "java/lang/invoke/MethodHandle" ∧ yX4_hasVoltage.cls ≠ "java/lang/invoke/VarHandle" ∧ (parseMethodDescriptor yX4_hasVoltage.desc).map (fun d => d.parameters.length) = some 1 := by decide +kernel
theorem ct_X4_hasVoltage {l : Launch} (g : sm_G) (TA : Nat → Prop) (a0 : Nat) (p0 : Int32) : sm_CT l g (so_R g TA) (so_A g TA) yX4_hasVoltage cX4_hasVoltage 2 (some .boolean) 2 43 [.ref a0, .int p0] em_i (f_X4_hasVoltage g a0 p0) := by
  refine sm_of (own := "PatchCordsModel") rfl rfl (bl rfl) (fun Y C hR hA hl hm => ?_)
  subst hl
  refine s_lv (L' := [(0, .ref a0), (1, .int p0)]) [0, 1] rfl ?_
  refine s_top ?_
  unfold f_X4_hasVoltage
  refine s_aload_n C dX4_hasVoltage_0 1 rfl 0 rfl ?_
  refine s_iload_n C dX4_hasVoltage_1 2 rfl 1 rfl ?_
  refine s_call_i (rn_V (As := [.int p0]) C (ct_at hR hA (ct_on (ct_X4_kind g TA a0 p0))) (rv_on C hR (q := vw_12) rfl) (lw_V q1912 q1914 qs43 q112 q1915) ⟨rfl, nv_X4_kind⟩ ⟨by decide, by decide⟩ rfl (bl rfl) dX4_hasVoltage_2) 5 rfl (fun x1 => ?_)
  refine s_iconst (v := 5) C dX4_hasVoltage_5 (by decide) 6 rfl ?_
  refine s_cut (J := 23) (LJ := (fun (v2 : Int32) => [])) (SJ := (fun (v2 : Int32) => [.int v2])) (fun v2 => ?_) (fun _ _ hK3 => ?_)
  · refine s_zb (fun h => ?_)
    exact s_iret C rfl (s_zn h) dX4_hasVoltage_23
  · refine s_icmp_eq C dX4_hasVoltage_6 18 9 (by decide) rfl ?_ ?_
    · refine s_iconst (v := 1) C dX4_hasVoltage_18 (by decide) 19 rfl ?_
      refine s_goto C dX4_hasVoltage_19 23 (by decide) ?_
      refine s_r ?_
      refine s_lv [] rfl ?_
      exact hK3 1
    · refine s_aload_n C dX4_hasVoltage_9 10 rfl 0 rfl ?_
      refine s_iload_n C dX4_hasVoltage_10 11 rfl 1 rfl ?_
      refine s_call_i (rn_V (As := [.int p0]) C (ct_at hR hA (ct_on (ct_X4_kind g TA a0 p0))) (rv_on C hR (q := vw_12) rfl) (lw_V q1912 q1914 qs43 q112 q1915) ⟨rfl, nv_X4_kind⟩ ⟨by decide, by decide⟩ rfl (bl rfl) dX4_hasVoltage_11) 14 rfl (fun x4 => ?_)
      refine s_iconst (v := 1) C dX4_hasVoltage_14 (by decide) 15 rfl ?_
      refine s_icmp_ne C dX4_hasVoltage_15 22 18 (by decide) rfl ?_ ?_
      · refine s_iconst (v := 1) C dX4_hasVoltage_18 (by decide) 19 rfl ?_
        refine s_goto C dX4_hasVoltage_19 23 (by decide) ?_
        refine s_r ?_
        refine s_lv [] rfl ?_
        exact hK3 1
      · refine s_iconst (v := 0) C dX4_hasVoltage_22 (by decide) 23 rfl ?_
        refine s_r ?_
        refine s_lv [] rfl ?_
        exact hK3 0
theorem nv_X4_whyNoVoltage : yX4_whyNoVoltage.cls ≠ "java/lang/invoke/MethodHandle" ∧ yX4_whyNoVoltage.cls ≠ "java/lang/invoke/VarHandle" ∧ (parseMethodDescriptor yX4_whyNoVoltage.desc).map (fun d => d.parameters.length) = some 2 := by decide +kernel
theorem ct_X4_whyNoVoltage {l : Launch} (g : sm_G) (TA : Nat → Prop) (a0 : Nat) (p0 : Int32) (p1 : Int32) : sm_CT l g (so_R g TA) (so_A g TA) yX4_whyNoVoltage cX4_whyNoVoltage 3 (some .int) 3 64 [.ref a0, .int p0, .int p1] em_i (f_X4_whyNoVoltage g a0 p0 p1) := by
  refine sm_of (own := "PatchCordsModel") rfl rfl (bl rfl) (fun Y C hR hA hl hm => ?_)
  subst hl
  refine s_lv (L' := [(0, .ref a0), (1, .int p0), (2, .int p1)]) [0, 1, 2] rfl ?_
  refine s_top ?_
  unfold f_X4_whyNoVoltage
  refine s_aload_n C dX4_whyNoVoltage_0 1 rfl 0 rfl ?_
  refine s_iload_n C dX4_whyNoVoltage_1 2 rfl 1 rfl ?_
  refine s_call_i (rn_V (As := [.int p0]) C (ct_at hR hA (ct_on (ct_X4_isModule g TA a0 p0))) (rv_on C hR (q := vw_12) rfl) (lw_V q1904 q1906 qs41 q112 q1907) ⟨rfl, nv_X4_isModule⟩ ⟨by decide, by decide⟩ rfl (bl rfl) dX4_whyNoVoltage_2) 5 rfl (fun x1 => ?_)
  refine s_cut (J := 38) (LJ := (fun (v2 : Int32) => [])) (SJ := (fun (v2 : Int32) => [.int v2])) (fun v2 => ?_) (fun _ _ hK3 => ?_)
  · exact s_iret C rfl rfl dX4_whyNoVoltage_38
  · refine s_if_ne C dX4_whyNoVoltage_5 12 8 (by decide) rfl ?_ ?_
    · refine s_iconst (v := 1) C dX4_whyNoVoltage_8 (by decide) 9 rfl ?_
      refine s_goto C dX4_whyNoVoltage_9 38 (by decide) ?_
      refine s_r ?_
      refine s_lv [] rfl ?_
      exact hK3 1
    · refine s_aload_n C dX4_whyNoVoltage_12 13 rfl 0 rfl ?_
      refine s_iload_n C dX4_whyNoVoltage_13 14 rfl 1 rfl ?_
      refine s_call_i (rn_V (As := [.int p0]) C (ct_at hR hA (ct_on (ct_X4_hasVoltage g TA a0 p0))) (rv_on C hR (q := vw_12) rfl) (lw_V q1935 q1937 qs47 q112 q1938) ⟨rfl, nv_X4_hasVoltage⟩ ⟨by decide, by decide⟩ rfl (bl rfl) dX4_whyNoVoltage_14) 17 rfl (fun x4 => ?_)
      refine s_if_eq C dX4_whyNoVoltage_17 37 20 (by decide) rfl ?_ ?_
      · refine s_iconst (v := 2) C dX4_whyNoVoltage_37 (by decide) 38 rfl ?_
        refine s_r ?_
        refine s_lv [] rfl ?_
        exact hK3 2
      · refine s_iload_n C dX4_whyNoVoltage_20 21 rfl 2 rfl ?_
        refine s_sipush (v := (-10000)) C dX4_whyNoVoltage_21 (by decide) 24 rfl ?_
        refine s_sipush (v := 10000) C dX4_whyNoVoltage_24 (by decide) 27 rfl ?_
        refine s_call_i (rn_S (As := [.int p1, .int (-10000), .int 10000]) C (ct_at hR hA (ct_X4_within g TA p1 (-10000) 10000)) (lw_S q1877 q1878 q112 q1879) nv_X4_within ⟨by decide, by decide⟩ rfl (bl rfl) dX4_whyNoVoltage_27) 30 rfl (fun x5 => ?_)
        refine s_if_eq C dX4_whyNoVoltage_30 37 33 (by decide) rfl ?_ ?_
        · refine s_iconst (v := 2) C dX4_whyNoVoltage_37 (by decide) 38 rfl ?_
          refine s_r ?_
          refine s_lv [] rfl ?_
          exact hK3 2
        · refine s_iconst (v := 0) C dX4_whyNoVoltage_33 (by decide) 34 rfl ?_
          refine s_goto C dX4_whyNoVoltage_34 38 (by decide) ?_
          refine s_r ?_
          refine s_lv [] rfl ?_
          exact hK3 0
theorem nv_X4_setsVoltage : yX4_setsVoltage.cls ≠ "java/lang/invoke/MethodHandle" ∧ yX4_setsVoltage.cls ≠ "java/lang/invoke/VarHandle" ∧ (parseMethodDescriptor yX4_setsVoltage.desc).map (fun d => d.parameters.length) = some 2 := by decide +kernel
theorem ct_X4_setsVoltage {l : Launch} (g : sm_G) (TA : Nat → Prop) (a0 : Nat) (p0 : Int32) (p1 : Int32) : sm_CT l g (so_R g TA) (so_A g TA) yX4_setsVoltage cX4_setsVoltage 4 (some .int) 2 43 [.ref a0, .int p0, .int p1] em_i (f_X4_setsVoltage g a0 p0 p1) := by
  refine sm_of (own := "PatchCordsModel") rfl rfl (bl rfl) (fun Y C hR hA hl hm => ?_)
  subst hl
  refine s_lv (L' := [(0, .ref a0), (1, .int p0), (2, .int p1)]) [0, 1, 2] rfl ?_
  refine s_top ?_
  unfold f_X4_setsVoltage
  refine s_aload_n C dX4_setsVoltage_0 1 rfl 0 rfl ?_
  refine s_iload_n C dX4_setsVoltage_1 2 rfl 1 rfl ?_
  refine s_iconst (v := 1) C dX4_setsVoltage_2 (by decide) 3 rfl ?_
  refine s_call_i (rn_V (As := [.int p0, .int 1]) C (ct_at hR hA (ct_on (ct_X4_of g TA a0 p0 1))) (rv_on C hR (q := vw_12) rfl) (lw_V q1916 q1918 qs44 q112 q1919) ⟨rfl, nv_X4_of⟩ ⟨by decide, by decide⟩ rfl (bl rfl) dX4_setsVoltage_3) 6 rfl (fun x1 => ?_)
  refine s_istore_n C dX4_setsVoltage_6 rfl (by decide) 7 rfl [(3, .int x1), (0, .ref a0), (1, .int p0), (2, .int p1)] rfl ?_
  refine s_aload_n C dX4_setsVoltage_7 8 rfl 1 rfl ?_
  refine s_iload_n C dX4_setsVoltage_8 9 rfl 2 rfl ?_
  refine s_iconst (v := 1) C dX4_setsVoltage_9 (by decide) 10 rfl ?_
  refine s_iload_n C dX4_setsVoltage_10 11 rfl 3 rfl ?_
  refine s_call_v (rn_V (As := [.int p0, .int 1, .int p1]) C (ct_at hR hA (ct_on (ct_X4_puts g TA a0 p0 1 p1))) (rv_on C hR (q := vw_12) rfl) (lw_V q1892 q1894 qs39 q112 q1895) ⟨rfl, nv_X4_puts⟩ ⟨by decide, by decide⟩ rfl (bl rfl) dX4_setsVoltage_11) 14 rfl ?_
  refine s_aload_n C dX4_setsVoltage_14 15 rfl 1 rfl ?_
  refine s_iload_n C dX4_setsVoltage_15 16 rfl 2 rfl ?_
  refine s_call_i (rn_V (As := [.int p0]) C (ct_at hR hA (ct_on (ct_X4_kind g TA a0 p0))) (rv_on C hR (q := vw_12) rfl) (lw_V q1912 q1914 qs43 q112 q1915) ⟨rfl, nv_X4_kind⟩ ⟨by decide, by decide⟩ rfl (bl rfl) dX4_setsVoltage_16) 19 rfl (fun x3 => ?_)
  refine s_iconst (v := 1) C dX4_setsVoltage_19 (by decide) 20 rfl ?_
  refine s_cut (J := 43) (LJ := (fun (v4 : Unit) => [(3, .int x1)])) (SJ := (fun (v4 : Unit) => [])) (fun v4 => ?_) (fun _ _ hK5 => ?_)
  · refine s_iload_n C dX4_setsVoltage_43 44 rfl 0 rfl ?_
    exact s_iret C rfl rfl dX4_setsVoltage_44
  · refine s_icmp_ne C dX4_setsVoltage_20 43 23 (by decide) rfl ?_ ?_
    · refine s_aload_n C dX4_setsVoltage_23 24 rfl 1 rfl ?_
      refine s_getR C hR fd_PatchCordsModel_state (Or.inl q1809) dX4_setsVoltage_24 27 rfl (fun x6 => ?_)
      refine s_iconst (v := 1) C dX4_setsVoltage_27 (by decide) 28 rfl ?_
      refine s_iald C hR dX4_setsVoltage_28 29 rfl (fun x7 => ?_)
      refine s_if_ne C dX4_setsVoltage_29 43 32 (by decide) rfl ?_ ?_
      · refine s_aload_n C dX4_setsVoltage_32 33 rfl 1 rfl ?_
        refine s_iload_n C dX4_setsVoltage_33 34 rfl 2 rfl ?_
        refine s_iconst (v := 3) C dX4_setsVoltage_34 (by decide) 35 rfl ?_
        refine s_sipush (v := 1000) C dX4_setsVoltage_35 (by decide) 38 rfl ?_
        refine s_iload_n C dX4_setsVoltage_38 39 rfl 3 rfl ?_
        refine s_imul C dX4_setsVoltage_39 40 rfl ?_
        refine s_call_v (rn_V (As := [.int p0, .int 3, .int (1000 * p1)]) C (ct_at hR hA (ct_on (ct_X4_puts g TA a0 p0 3 (1000 * p1)))) (rv_on C hR (q := vw_12) rfl) (lw_V q1892 q1894 qs39 q112 q1895) ⟨rfl, nv_X4_puts⟩ ⟨by decide, by decide⟩ rfl (bl rfl) dX4_setsVoltage_40) 43 rfl ?_
        refine s_r ?_
        refine s_lv [0] rfl ?_
        exact hK5 ()
      · refine s_r ?_
        refine s_lv [0] rfl ?_
        exact hK5 ()
    · refine s_r ?_
      refine s_lv [0] rfl ?_
      exact hK5 ()
theorem nv_X4_setVoltage : yX4_setVoltage.cls ≠ "java/lang/invoke/MethodHandle" ∧ yX4_setVoltage.cls ≠ "java/lang/invoke/VarHandle" ∧ (parseMethodDescriptor yX4_setVoltage.desc).map (fun d => d.parameters.length) = some 2 := by decide +kernel
theorem ct_X4_setVoltage {l : Launch} (g : sm_G) (TA : Nat → Prop) (a0 : Nat) (p0 : Int32) (p1 : Int32) : sm_CT l g (so_R g TA) (so_A g TA) yX4_setVoltage cX4_setVoltage 3 (some .int) 4 86 [.ref a0, .int p0, .int p1] em_i (f_X4_setVoltage g a0 p0 p1) := by
  refine sm_of (own := "PatchCordsModel") rfl rfl (bl rfl) (fun Y C hR hA hl hm => ?_)
  subst hl
  refine s_lv (L' := [(0, .ref a0), (1, .int p0), (2, .int p1)]) [0, 1, 2] rfl ?_
  refine s_top ?_
  unfold f_X4_setVoltage
  refine s_aload_n C dX4_setVoltage_0 1 rfl 0 rfl ?_
  refine s_aload_n C dX4_setVoltage_1 2 rfl 0 rfl ?_
  refine s_iload_n C dX4_setVoltage_2 3 rfl 1 rfl ?_
  refine s_iload_n C dX4_setVoltage_3 4 rfl 2 rfl ?_
  refine s_call_i (rn_V (As := [.int p0, .int p1]) C (ct_at hR hA (ct_on (ct_X4_whyNoVoltage g TA a0 p0 p1))) (rv_on C hR (q := vw_12) rfl) (lw_V q1931 q1933 qs46 q112 q1934) ⟨rfl, nv_X4_whyNoVoltage⟩ ⟨by decide, by decide⟩ rfl (bl rfl) dX4_setVoltage_4) 7 rfl (fun x1 => ?_)
  refine s_put C hR hA fd_PatchCordsModel_thrown (Or.inl q1808) dX4_setVoltage_7 rfl rfl 10 rfl ?_
  refine s_aload_n C dX4_setVoltage_10 11 rfl 0 rfl ?_
  refine s_getI C hR fd_PatchCordsModel_thrown (Or.inl q1808) dX4_setVoltage_11 14 rfl (fun x2 => ?_)
  refine s_if_le C dX4_setVoltage_14 19 17 (by decide) rfl ?_ ?_
  · refine s_aload_n C dX4_setVoltage_19 20 rfl 0 rfl ?_
    refine s_call_v (rn_V (As := []) C (ct_at hR hA (ct_on (ct_X4_saves g TA a0))) (rv_on C hR (q := vw_12) rfl) (lw_V q1884 q1886 qs37 q112 q1887) ⟨rfl, nv_X4_saves⟩ ⟨by decide, by decide⟩ rfl (bl rfl) dX4_setVoltage_20) 23 rfl ?_
    refine s_aload_n C dX4_setVoltage_23 24 rfl 0 rfl ?_
    refine s_iload_n C dX4_setVoltage_24 25 rfl 1 rfl ?_
    refine s_iload_n C dX4_setVoltage_25 26 rfl 2 rfl ?_
    refine s_call_i (rn_V (As := [.int p0, .int p1]) C (ct_at hR hA (ct_on (ct_X4_setsVoltage g TA a0 p0 p1))) (rv_on C hR (q := vw_12) rfl) (lw_V q1939 q1941 qs48 q112 q1942) ⟨rfl, nv_X4_setsVoltage⟩ ⟨by decide, by decide⟩ rfl (bl rfl) dX4_setVoltage_26) 29 rfl (fun x4 => ?_)
    exact s_iret C rfl rfl dX4_setVoltage_29
  · refine s_iconst (v := 0) C dX4_setVoltage_17 (by decide) 18 rfl ?_
    exact s_iret C rfl rfl dX4_setVoltage_18
theorem nv_X4_whyNoFactor : yX4_whyNoFactor.cls ≠ "java/lang/invoke/MethodHandle" ∧ yX4_whyNoFactor.cls ≠ "java/lang/invoke/VarHandle" ∧ (parseMethodDescriptor yX4_whyNoFactor.desc).map (fun d => d.parameters.length) = some 2 := by decide +kernel
theorem ct_X4_whyNoFactor {l : Launch} (g : sm_G) (TA : Nat → Prop) (a0 : Nat) (p0 : Int32) (p1 : Int32) : sm_CT l g (so_R g TA) (so_A g TA) yX4_whyNoFactor cX4_whyNoFactor 3 (some .int) 2 43 [.ref a0, .int p0, .int p1] em_i (f_X4_whyNoFactor g a0 p0 p1) := by
  refine sm_of (own := "PatchCordsModel") rfl rfl (bl rfl) (fun Y C hR hA hl hm => ?_)
  subst hl
  refine s_lv (L' := [(0, .ref a0), (1, .int p0), (2, .int p1)]) [0, 1, 2] rfl ?_
  refine s_top ?_
  unfold f_X4_whyNoFactor
  refine s_aload_n C dX4_whyNoFactor_0 1 rfl 0 rfl ?_
  refine s_iload_n C dX4_whyNoFactor_1 2 rfl 1 rfl ?_
  refine s_call_i (rn_V (As := [.int p0]) C (ct_at hR hA (ct_on (ct_X4_isModule g TA a0 p0))) (rv_on C hR (q := vw_12) rfl) (lw_V q1904 q1906 qs41 q112 q1907) ⟨rfl, nv_X4_isModule⟩ ⟨by decide, by decide⟩ rfl (bl rfl) dX4_whyNoFactor_2) 5 rfl (fun x1 => ?_)
  refine s_cut (J := 37) (LJ := (fun (v2 : Int32) => [])) (SJ := (fun (v2 : Int32) => [.int v2])) (fun v2 => ?_) (fun _ _ hK3 => ?_)
  · exact s_iret C rfl rfl dX4_whyNoFactor_37
  · refine s_if_ne C dX4_whyNoFactor_5 12 8 (by decide) rfl ?_ ?_
    · refine s_iconst (v := 1) C dX4_whyNoFactor_8 (by decide) 9 rfl ?_
      refine s_goto C dX4_whyNoFactor_9 37 (by decide) ?_
      refine s_r ?_
      refine s_lv [] rfl ?_
      exact hK3 1
    · refine s_aload_n C dX4_whyNoFactor_12 13 rfl 0 rfl ?_
      refine s_iload_n C dX4_whyNoFactor_13 14 rfl 1 rfl ?_
      refine s_call_i (rn_V (As := [.int p0]) C (ct_at hR hA (ct_on (ct_X4_kind g TA a0 p0))) (rv_on C hR (q := vw_12) rfl) (lw_V q1912 q1914 qs43 q112 q1915) ⟨rfl, nv_X4_kind⟩ ⟨by decide, by decide⟩ rfl (bl rfl) dX4_whyNoFactor_14) 17 rfl (fun x4 => ?_)
      refine s_iconst (v := 2) C dX4_whyNoFactor_17 (by decide) 18 rfl ?_
      refine s_icmp_ne C dX4_whyNoFactor_18 36 21 (by decide) rfl ?_ ?_
      · refine s_iload_n C dX4_whyNoFactor_21 22 rfl 2 rfl ?_
        refine s_iconst (v := 0) C dX4_whyNoFactor_22 (by decide) 23 rfl ?_
        refine s_sipush (v := 1000) C dX4_whyNoFactor_23 (by decide) 26 rfl ?_
        refine s_call_i (rn_S (As := [.int p1, .int 0, .int 1000]) C (ct_at hR hA (ct_X4_within g TA p1 0 1000)) (lw_S q1877 q1878 q112 q1879) nv_X4_within ⟨by decide, by decide⟩ rfl (bl rfl) dX4_whyNoFactor_26) 29 rfl (fun x5 => ?_)
        refine s_if_eq C dX4_whyNoFactor_29 36 32 (by decide) rfl ?_ ?_
        · refine s_iconst (v := 2) C dX4_whyNoFactor_36 (by decide) 37 rfl ?_
          refine s_r ?_
          refine s_lv [] rfl ?_
          exact hK3 2
        · refine s_iconst (v := 0) C dX4_whyNoFactor_32 (by decide) 33 rfl ?_
          refine s_goto C dX4_whyNoFactor_33 37 (by decide) ?_
          refine s_r ?_
          refine s_lv [] rfl ?_
          exact hK3 0
      · refine s_iconst (v := 2) C dX4_whyNoFactor_36 (by decide) 37 rfl ?_
        refine s_r ?_
        refine s_lv [] rfl ?_
        exact hK3 2
theorem nv_X4_setsFactor : yX4_setsFactor.cls ≠ "java/lang/invoke/MethodHandle" ∧ yX4_setsFactor.cls ≠ "java/lang/invoke/VarHandle" ∧ (parseMethodDescriptor yX4_setsFactor.desc).map (fun d => d.parameters.length) = some 2 := by decide +kernel
theorem ct_X4_setsFactor {l : Launch} (g : sm_G) (TA : Nat → Prop) (a0 : Nat) (p0 : Int32) (p1 : Int32) : sm_CT l g (so_R g TA) (so_A g TA) yX4_setsFactor cX4_setsFactor 4 (some .int) 1 23 [.ref a0, .int p0, .int p1] em_i (f_X4_setsFactor g a0 p0 p1) := by
  refine sm_of (own := "PatchCordsModel") rfl rfl (bl rfl) (fun Y C hR hA hl hm => ?_)
  subst hl
  refine s_lv (L' := [(0, .ref a0), (1, .int p0), (2, .int p1)]) [0, 1, 2] rfl ?_
  refine s_top ?_
  unfold f_X4_setsFactor
  refine s_aload_n C dX4_setsFactor_0 1 rfl 0 rfl ?_
  refine s_iload_n C dX4_setsFactor_1 2 rfl 1 rfl ?_
  refine s_iconst (v := 1) C dX4_setsFactor_2 (by decide) 3 rfl ?_
  refine s_call_i (rn_V (As := [.int p0, .int 1]) C (ct_at hR hA (ct_on (ct_X4_of g TA a0 p0 1))) (rv_on C hR (q := vw_12) rfl) (lw_V q1916 q1918 qs44 q112 q1919) ⟨rfl, nv_X4_of⟩ ⟨by decide, by decide⟩ rfl (bl rfl) dX4_setsFactor_3) 6 rfl (fun x1 => ?_)
  refine s_istore_n C dX4_setsFactor_6 rfl (by decide) 7 rfl [(3, .int x1), (0, .ref a0), (1, .int p0), (2, .int p1)] rfl ?_
  refine s_aload_n C dX4_setsFactor_7 8 rfl 1 rfl ?_
  refine s_iload_n C dX4_setsFactor_8 9 rfl 2 rfl ?_
  refine s_iconst (v := 1) C dX4_setsFactor_9 (by decide) 10 rfl ?_
  refine s_iload_n C dX4_setsFactor_10 11 rfl 3 rfl ?_
  refine s_call_v (rn_V (As := [.int p0, .int 1, .int p1]) C (ct_at hR hA (ct_on (ct_X4_puts g TA a0 p0 1 p1))) (rv_on C hR (q := vw_12) rfl) (lw_V q1892 q1894 qs39 q112 q1895) ⟨rfl, nv_X4_puts⟩ ⟨by decide, by decide⟩ rfl (bl rfl) dX4_setsFactor_11) 14 rfl ?_
  refine s_iload_n C dX4_setsFactor_14 15 rfl 0 rfl ?_
  exact s_iret C rfl rfl dX4_setsFactor_15
theorem nv_X4_setFactor : yX4_setFactor.cls ≠ "java/lang/invoke/MethodHandle" ∧ yX4_setFactor.cls ≠ "java/lang/invoke/VarHandle" ∧ (parseMethodDescriptor yX4_setFactor.desc).map (fun d => d.parameters.length) = some 2 := by decide +kernel
theorem ct_X4_setFactor {l : Launch} (g : sm_G) (TA : Nat → Prop) (a0 : Nat) (p0 : Int32) (p1 : Int32) : sm_CT l g (so_R g TA) (so_A g TA) yX4_setFactor cX4_setFactor 3 (some .int) 3 65 [.ref a0, .int p0, .int p1] em_i (f_X4_setFactor g a0 p0 p1) := by
  refine sm_of (own := "PatchCordsModel") rfl rfl (bl rfl) (fun Y C hR hA hl hm => ?_)
  subst hl
  refine s_lv (L' := [(0, .ref a0), (1, .int p0), (2, .int p1)]) [0, 1, 2] rfl ?_
  refine s_top ?_
  unfold f_X4_setFactor
  refine s_aload_n C dX4_setFactor_0 1 rfl 0 rfl ?_
  refine s_aload_n C dX4_setFactor_1 2 rfl 0 rfl ?_
  refine s_iload_n C dX4_setFactor_2 3 rfl 1 rfl ?_
  refine s_iload_n C dX4_setFactor_3 4 rfl 2 rfl ?_
  refine s_call_i (rn_V (As := [.int p0, .int p1]) C (ct_at hR hA (ct_on (ct_X4_whyNoFactor g TA a0 p0 p1))) (rv_on C hR (q := vw_12) rfl) (lw_V q1947 q1949 qs49 q112 q1950) ⟨rfl, nv_X4_whyNoFactor⟩ ⟨by decide, by decide⟩ rfl (bl rfl) dX4_setFactor_4) 7 rfl (fun x1 => ?_)
  refine s_put C hR hA fd_PatchCordsModel_thrown (Or.inl q1808) dX4_setFactor_7 rfl rfl 10 rfl ?_
  refine s_aload_n C dX4_setFactor_10 11 rfl 0 rfl ?_
  refine s_getI C hR fd_PatchCordsModel_thrown (Or.inl q1808) dX4_setFactor_11 14 rfl (fun x2 => ?_)
  refine s_if_le C dX4_setFactor_14 19 17 (by decide) rfl ?_ ?_
  · refine s_aload_n C dX4_setFactor_19 20 rfl 0 rfl ?_
    refine s_call_v (rn_V (As := []) C (ct_at hR hA (ct_on (ct_X4_saves g TA a0))) (rv_on C hR (q := vw_12) rfl) (lw_V q1884 q1886 qs37 q112 q1887) ⟨rfl, nv_X4_saves⟩ ⟨by decide, by decide⟩ rfl (bl rfl) dX4_setFactor_20) 23 rfl ?_
    refine s_aload_n C dX4_setFactor_23 24 rfl 0 rfl ?_
    refine s_iload_n C dX4_setFactor_24 25 rfl 1 rfl ?_
    refine s_iload_n C dX4_setFactor_25 26 rfl 2 rfl ?_
    refine s_call_i (rn_V (As := [.int p0, .int p1]) C (ct_at hR hA (ct_on (ct_X4_setsFactor g TA a0 p0 p1))) (rv_on C hR (q := vw_12) rfl) (lw_V q1951 q1953 qs50 q112 q1954) ⟨rfl, nv_X4_setsFactor⟩ ⟨by decide, by decide⟩ rfl (bl rfl) dX4_setFactor_26) 29 rfl (fun x4 => ?_)
    exact s_iret C rfl rfl dX4_setFactor_29
  · refine s_iconst (v := 0) C dX4_setFactor_17 (by decide) 18 rfl ?_
    exact s_iret C rfl rfl dX4_setFactor_18
theorem nv_X4_setSpeed : yX4_setSpeed.cls ≠ "java/lang/invoke/MethodHandle" ∧ yX4_setSpeed.cls ≠ "java/lang/invoke/VarHandle" ∧ (parseMethodDescriptor yX4_setSpeed.desc).map (fun d => d.parameters.length) = some 2 := by decide +kernel
theorem ct_X4_setSpeed {l : Launch} (g : sm_G) (TA : Nat → Prop) (a0 : Nat) (p0 : Int32) (p1 : Int32) : sm_CT l g (so_R g TA) (so_A g TA) yX4_setSpeed cX4_setSpeed 4 (some .int) 2 43 [.ref a0, .int p0, .int p1] em_i (f_X4_setSpeed g a0 p0 p1) := by
  refine sm_of (own := "PatchCordsModel") rfl rfl (bl rfl) (fun Y C hR hA hl hm => ?_)
  subst hl
  refine s_lv (L' := [(0, .ref a0), (1, .int p0), (2, .int p1)]) [0, 1, 2] rfl ?_
  refine s_top ?_
  unfold f_X4_setSpeed
  refine s_aload_n C dX4_setSpeed_0 1 rfl 0 rfl ?_
  refine s_aload_n C dX4_setSpeed_1 2 rfl 0 rfl ?_
  refine s_iload_n C dX4_setSpeed_2 3 rfl 1 rfl ?_
  refine s_call_i (rn_V (As := [.int p0]) C (ct_at hR hA (ct_on (ct_X4_isModule g TA a0 p0))) (rv_on C hR (q := vw_12) rfl) (lw_V q1904 q1906 qs41 q112 q1907) ⟨rfl, nv_X4_isModule⟩ ⟨by decide, by decide⟩ rfl (bl rfl) dX4_setSpeed_3) 6 rfl (fun x1 => ?_)
  refine s_cut (J := 38) (LJ := (fun (v2 : Int32) => [(0, .ref a0), (1, .int p0), (2, .int p1)])) (SJ := (fun (v2 : Int32) => [.int v2, .ref a0])) (fun v2 => ?_) (fun _ _ hK3 => ?_)
  · refine s_put C hR hA fd_PatchCordsModel_thrown (Or.inl q1808) dX4_setSpeed_38 rfl rfl 41 rfl ?_
    refine s_aload_n C dX4_setSpeed_41 42 rfl 0 rfl ?_
    refine s_getI C hR fd_PatchCordsModel_thrown (Or.inl q1808) dX4_setSpeed_42 45 rfl (fun x6 => ?_)
    refine s_if_le C dX4_setSpeed_45 50 48 (by decide) rfl ?_ ?_
    · refine s_aload_n C dX4_setSpeed_50 51 rfl 0 rfl ?_
      refine s_call_v (rn_V (As := []) C (ct_at hR hA (ct_on (ct_X4_saves g TA a0))) (rv_on C hR (q := vw_12) rfl) (lw_V q1884 q1886 qs37 q112 q1887) ⟨rfl, nv_X4_saves⟩ ⟨by decide, by decide⟩ rfl (bl rfl) dX4_setSpeed_51) 54 rfl ?_
      refine s_aload_n C dX4_setSpeed_54 55 rfl 0 rfl ?_
      refine s_iload_n C dX4_setSpeed_55 56 rfl 1 rfl ?_
      refine s_iconst (v := 2) C dX4_setSpeed_56 (by decide) 57 rfl ?_
      refine s_call_i (rn_V (As := [.int p0, .int 2]) C (ct_at hR hA (ct_on (ct_X4_of g TA a0 p0 2))) (rv_on C hR (q := vw_12) rfl) (lw_V q1916 q1918 qs44 q112 q1919) ⟨rfl, nv_X4_of⟩ ⟨by decide, by decide⟩ rfl (bl rfl) dX4_setSpeed_57) 60 rfl (fun x8 => ?_)
      refine s_istore_n C dX4_setSpeed_60 rfl (by decide) 61 rfl [(3, .int x8), (0, .ref a0), (1, .int p0), (2, .int p1)] rfl ?_
      refine s_aload_n C dX4_setSpeed_61 62 rfl 1 rfl ?_
      refine s_iload_n C dX4_setSpeed_62 63 rfl 2 rfl ?_
      refine s_iconst (v := 2) C dX4_setSpeed_63 (by decide) 64 rfl ?_
      refine s_iload_n C dX4_setSpeed_64 65 rfl 3 rfl ?_
      refine s_call_v (rn_V (As := [.int p0, .int 2, .int p1]) C (ct_at hR hA (ct_on (ct_X4_puts g TA a0 p0 2 p1))) (rv_on C hR (q := vw_12) rfl) (lw_V q1892 q1894 qs39 q112 q1895) ⟨rfl, nv_X4_puts⟩ ⟨by decide, by decide⟩ rfl (bl rfl) dX4_setSpeed_65) 68 rfl ?_
      refine s_iload_n C dX4_setSpeed_68 69 rfl 0 rfl ?_
      exact s_iret C rfl rfl dX4_setSpeed_69
    · refine s_iconst (v := 0) C dX4_setSpeed_48 (by decide) 49 rfl ?_
      exact s_iret C rfl rfl dX4_setSpeed_49
  · refine s_if_ne C dX4_setSpeed_6 13 9 (by decide) rfl ?_ ?_
    · refine s_iconst (v := 1) C dX4_setSpeed_9 (by decide) 10 rfl ?_
      refine s_goto C dX4_setSpeed_10 38 (by decide) ?_
      refine s_r ?_
      refine s_lv [0, 1, 2] rfl ?_
      exact hK3 1
    · refine s_aload_n C dX4_setSpeed_13 14 rfl 0 rfl ?_
      refine s_iload_n C dX4_setSpeed_14 15 rfl 1 rfl ?_
      refine s_call_i (rn_V (As := [.int p0]) C (ct_at hR hA (ct_on (ct_X4_kind g TA a0 p0))) (rv_on C hR (q := vw_12) rfl) (lw_V q1912 q1914 qs43 q112 q1915) ⟨rfl, nv_X4_kind⟩ ⟨by decide, by decide⟩ rfl (bl rfl) dX4_setSpeed_15) 18 rfl (fun x4 => ?_)
      refine s_iconst (v := 1) C dX4_setSpeed_18 (by decide) 19 rfl ?_
      refine s_icmp_ne C dX4_setSpeed_19 37 22 (by decide) rfl ?_ ?_
      · refine s_iload_n C dX4_setSpeed_22 23 rfl 2 rfl ?_
        refine s_iconst (v := 1) C dX4_setSpeed_23 (by decide) 24 rfl ?_
        refine s_sipush (v := 1000) C dX4_setSpeed_24 (by decide) 27 rfl ?_
        refine s_call_i (rn_S (As := [.int p1, .int 1, .int 1000]) C (ct_at hR hA (ct_X4_within g TA p1 1 1000)) (lw_S q1877 q1878 q112 q1879) nv_X4_within ⟨by decide, by decide⟩ rfl (bl rfl) dX4_setSpeed_27) 30 rfl (fun x5 => ?_)
        refine s_if_eq C dX4_setSpeed_30 37 33 (by decide) rfl ?_ ?_
        · refine s_iconst (v := 2) C dX4_setSpeed_37 (by decide) 38 rfl ?_
          refine s_r ?_
          refine s_lv [0, 1, 2] rfl ?_
          exact hK3 2
        · refine s_iconst (v := 0) C dX4_setSpeed_33 (by decide) 34 rfl ?_
          refine s_goto C dX4_setSpeed_34 38 (by decide) ?_
          refine s_r ?_
          refine s_lv [0, 1, 2] rfl ?_
          exact hK3 0
      · refine s_iconst (v := 2) C dX4_setSpeed_37 (by decide) 38 rfl ?_
        refine s_r ?_
        refine s_lv [0, 1, 2] rfl ?_
        exact hK3 2
theorem nv_X4_feedersOf : yX4_feedersOf.cls ≠ "java/lang/invoke/MethodHandle" ∧ yX4_feedersOf.cls ≠ "java/lang/invoke/VarHandle" ∧ (parseMethodDescriptor yX4_feedersOf.desc).map (fun d => d.parameters.length) = some 1 := by decide +kernel
theorem ct_X4_feedersOf {l : Launch} (g : sm_G) (TA : Nat → Prop) (a0 : Nat) (p0 : Int32) : sm_CT l g (so_R g TA) (so_A g TA) yX4_feedersOf cX4_feedersOf 4 (some .int) 1 22 [.ref a0, .int p0] em_i (f_X4_feedersOf g a0 p0) := by
  refine sm_of (own := "PatchCordsModel") rfl rfl (bl rfl) (fun Y C hR hA hl hm => ?_)
  subst hl
  refine s_lv (L' := [(0, .ref a0), (1, .int p0)]) [0, 1] rfl ?_
  refine s_top ?_
  unfold f_X4_feedersOf
  refine s_iconst (v := 0) C dX4_feedersOf_0 (by decide) 1 rfl ?_
  refine s_istore_n C dX4_feedersOf_1 rfl (by decide) 2 rfl [(2, .int 0), (0, .ref a0), (1, .int p0)] rfl ?_
  refine s_iconst (v := 0) C dX4_feedersOf_2 (by decide) 3 rfl ?_
  refine s_istore_n C dX4_feedersOf_3 rfl (by decide) 4 rfl [(3, .int 0), (2, .int 0), (0, .ref a0), (1, .int p0)] rfl ?_
  refine s_lv [2, 3, 1, 0] rfl ?_
  refine s_loop (fun (s1 : Int32 × Int32) => [(0, .ref a0), (1, .int p0), (2, .int s1.1), (3, .int s1.2)]) (fun (v9 : Int32) => [(2, .int v9)]) 44 (0, 0) rfl (fun v9 => ?_) (fun _ s1 hk2 hx3 => ?_)
  · refine s_iload_n C dX4_feedersOf_44 45 rfl 0 rfl ?_
    exact s_iret C rfl rfl dX4_feedersOf_45
  · refine s_iload_n C dX4_feedersOf_4 5 rfl 3 rfl ?_
    refine s_iconst (v := 4) C dX4_feedersOf_5 (by decide) 6 rfl ?_
    refine s_icmp_ge C dX4_feedersOf_6 44 9 (by decide) rfl ?_ ?_
    · refine s_r ?_
      refine s_lv [2] rfl ?_
      exact hx3 s1.1
    · refine s_iload_n C dX4_feedersOf_9 10 rfl 2 rfl ?_
      refine s_aload_n C dX4_feedersOf_10 11 rfl 0 rfl ?_
      refine s_iload_n C dX4_feedersOf_11 12 rfl 1 rfl ?_
      refine s_iconst (v := 5) C dX4_feedersOf_12 (by decide) 13 rfl ?_
      refine s_iload_n C dX4_feedersOf_13 14 rfl 3 rfl ?_
      refine s_iadd C dX4_feedersOf_14 15 rfl ?_
      refine s_call_i (rn_V (As := [.int p0, .int (5 + s1.2)]) C (ct_at hR hA (ct_on (ct_X4_of g TA a0 p0 (5 + s1.2)))) (rv_on C hR (q := vw_12) rfl) (lw_V q1916 q1918 qs44 q112 q1919) ⟨rfl, nv_X4_of⟩ ⟨by decide, by decide⟩ rfl (bl rfl) dX4_feedersOf_15) 18 rfl (fun x4 => ?_)
      refine s_iconst (v := (-1)) C dX4_feedersOf_18 (by decide) 19 rfl ?_
      refine s_cut (J := 36) (LJ := (fun (v5 : Int32) => [(0, .ref a0), (1, .int p0), (3, .int s1.2)])) (SJ := (fun (v5 : Int32) => [.int v5, .int s1.1])) (fun v5 => ?_) (fun _ _ hK6 => ?_)
      · refine s_ior C dX4_feedersOf_36 37 rfl ?_
        refine s_topi (fun x8 => ?_)
        refine s_istore_n C dX4_feedersOf_37 rfl (by decide) 38 rfl [(2, .int x8), (0, .ref a0), (1, .int p0), (3, .int s1.2)] rfl ?_
        refine s_iinc C dX4_feedersOf_38 (s1.2 + 1) rfl 3 rfl (by decide) 41 rfl [(3, .int (s1.2 + 1)), (2, .int x8), (0, .ref a0), (1, .int p0)] rfl ?_
        refine s_goto C dX4_feedersOf_41 4 (by decide) ?_
        refine s_r ?_
        refine s_lv [2, 3, 1, 0] rfl ?_
        exact hk2 (x8, s1.2 + 1)
      · refine s_icmp_ne C dX4_feedersOf_19 26 22 (by decide) rfl ?_ ?_
        · refine s_iconst (v := 0) C dX4_feedersOf_22 (by decide) 23 rfl ?_
          refine s_goto C dX4_feedersOf_23 36 (by decide) ?_
          refine s_r ?_
          refine s_lv [0, 1, 3] rfl ?_
          exact hK6 0
        · refine s_iconst (v := 1) C dX4_feedersOf_26 (by decide) 27 rfl ?_
          refine s_aload_n C dX4_feedersOf_27 28 rfl 0 rfl ?_
          refine s_iload_n C dX4_feedersOf_28 29 rfl 1 rfl ?_
          refine s_iconst (v := 5) C dX4_feedersOf_29 (by decide) 30 rfl ?_
          refine s_iload_n C dX4_feedersOf_30 31 rfl 3 rfl ?_
          refine s_iadd C dX4_feedersOf_31 32 rfl ?_
          refine s_call_i (rn_V (As := [.int p0, .int (5 + s1.2)]) C (ct_at hR hA (ct_on (ct_X4_of g TA a0 p0 (5 + s1.2)))) (rv_on C hR (q := vw_12) rfl) (lw_V q1916 q1918 qs44 q112 q1919) ⟨rfl, nv_X4_of⟩ ⟨by decide, by decide⟩ rfl (bl rfl) dX4_feedersOf_32) 35 rfl (fun x7 => ?_)
          refine s_ishl C dX4_feedersOf_35 36 rfl ?_
          refine s_r ?_
          refine s_lv [0, 1, 3] rfl ?_
          exact hK6 ((1 : Int32) <<< (x7 &&& 31))
theorem nv_X4_has : yX4_has.cls ≠ "java/lang/invoke/MethodHandle" ∧ yX4_has.cls ≠ "java/lang/invoke/VarHandle" ∧ (parseMethodDescriptor yX4_has.desc).map (fun d => d.parameters.length) = some 2 := by decide +kernel
theorem ct_X4_has {l : Launch} (g : sm_G) (TA : Nat → Prop) (p0 : Int32) (p1 : Int32) : sm_CT l g (so_R g TA) (so_A g TA) yX4_has cX4_has 2 (some .boolean) 0 0 [.int p0, .int p1] em_i (f_X4_has g p0 p1) := by
  refine sm_of (own := "PatchCordsModel") rfl rfl (bl rfl) (fun Y C hR hA hl hm => ?_)
  subst hl
  refine s_lv (L' := [(0, .int p0), (1, .int p1)]) [0, 1] rfl ?_
  refine s_top ?_
  unfold f_X4_has
  refine s_iload_n C dX4_has_0 1 rfl 0 rfl ?_
  refine s_iload_n C dX4_has_1 2 rfl 1 rfl ?_
  refine s_ishr C dX4_has_2 3 rfl ?_
  refine s_iconst (v := 1) C dX4_has_3 (by decide) 4 rfl ?_
  refine s_iand C dX4_has_4 5 rfl ?_
  refine s_iconst (v := 1) C dX4_has_5 (by decide) 6 rfl ?_
  refine s_cut (J := 14) (LJ := (fun (v1 : Int32) => [])) (SJ := (fun (v1 : Int32) => [.int v1])) (fun v1 => ?_) (fun _ _ hK2 => ?_)
  · refine s_zb (fun h => ?_)
    exact s_iret C rfl (s_zn h) dX4_has_14
  · refine s_icmp_ne C dX4_has_6 13 9 (by decide) rfl ?_ ?_
    · refine s_iconst (v := 1) C dX4_has_9 (by decide) 10 rfl ?_
      refine s_goto C dX4_has_10 14 (by decide) ?_
      refine s_r ?_
      refine s_lv [] rfl ?_
      exact hK2 1
    · refine s_iconst (v := 0) C dX4_has_13 (by decide) 14 rfl ?_
      refine s_r ?_
      refine s_lv [] rfl ?_
      exact hK2 0
theorem nv_X4_depends : yX4_depends.cls ≠ "java/lang/invoke/MethodHandle" ∧ yX4_depends.cls ≠ "java/lang/invoke/VarHandle" ∧ (parseMethodDescriptor yX4_depends.desc).map (fun d => d.parameters.length) = some 2 := by decide +kernel
theorem ct_X4_depends {l : Launch} (g : sm_G) (TA : Nat → Prop) (a0 : Nat) (p0 : Int32) (p1 : Int32) : sm_CT l g (so_R g TA) (so_A g TA) yX4_depends cX4_depends 6 (some .int) 2 45 [.ref a0, .int p0, .int p1] em_i (f_X4_depends g a0 p0 p1) := by
  refine sm_of (own := "PatchCordsModel") rfl rfl (bl rfl) (fun Y C hR hA hl hm => ?_)
  subst hl
  refine s_lv (L' := [(0, .ref a0), (1, .int p0), (2, .int p1)]) [0, 1, 2] rfl ?_
  refine s_top ?_
  unfold f_X4_depends
  refine s_iconst (v := 0) C dX4_depends_0 (by decide) 1 rfl ?_
  refine s_istore_n C dX4_depends_1 rfl (by decide) 2 rfl [(3, .int 0), (0, .ref a0), (1, .int p0), (2, .int p1)] rfl ?_
  refine s_iload_n C dX4_depends_2 3 rfl 3 rfl ?_
  refine s_cut (J := 24) (LJ := (fun (v1 : Int32) => [(0, .ref a0), (2, .int p1), (3, .int 0)])) (SJ := (fun (v1 : Int32) => [.int v1])) (fun v1 => ?_) (fun _ _ hK2 => ?_)
  · refine s_istore C dX4_depends_24 (by decide) 26 rfl [(4, .int v1), (0, .ref a0), (2, .int p1), (3, .int 0)] rfl ?_
    refine s_lv [1, 2, 3, 0] rfl ?_
    refine s_loop (fun (s6 : Int32 × Int32) => [(0, .ref a0), (2, .int p1), (3, .int s6.1), (4, .int s6.2)]) (fun (v22 : Int32) => [(3, .int v22)]) 96 (0, v1) rfl (fun v22 => ?_) (fun _ s6 hk7 hx8 => ?_)
    · refine s_iload_n C dX4_depends_96 97 rfl 0 rfl ?_
      exact s_iret C rfl rfl dX4_depends_97
    · refine s_iload C dX4_depends_26 28 rfl 3 rfl ?_
      refine s_iload_n C dX4_depends_28 29 rfl 2 rfl ?_
      refine s_icmp_eq C dX4_depends_29 96 32 (by decide) rfl ?_ ?_
      · refine s_r ?_
        refine s_lv [2] rfl ?_
        exact hx8 s6.1
      · refine s_iload C dX4_depends_32 34 rfl 3 rfl ?_
        refine s_istore_n C dX4_depends_34 rfl (by decide) 35 rfl [(3, .int s6.2), (0, .ref a0), (2, .int p1), (4, .int s6.2)] rfl ?_
        refine s_iconst (v := 0) C dX4_depends_35 (by decide) 36 rfl ?_
        refine s_istore C dX4_depends_36 (by decide) 38 rfl [(5, .int 0), (3, .int s6.2), (0, .ref a0), (2, .int p1), (4, .int s6.2)] rfl ?_
        refine s_lv [2, 3, 1, 4, 0] rfl ?_
        refine s_loop (fun (s9 : Int32 × Int32) => [(0, .ref a0), (2, .int p1), (3, .int s6.2), (4, .int s9.1), (5, .int s9.2)]) (fun (v21 : Int32) => [(0, .ref a0), (2, .int p1), (3, .int s6.2), (4, .int v21)]) 93 (s6.2, 0) rfl (fun v21 => ?_) (fun _ s9 hk10 hx11 => ?_)
        · refine s_goto C dX4_depends_93 26 (by decide) ?_
          refine s_r ?_
          refine s_lv [0, 1, 2, 3] rfl ?_
          exact hk7 (s6.2, v21)
        · refine s_iload C dX4_depends_38 40 rfl 4 rfl ?_
          refine s_aload_n C dX4_depends_40 41 rfl 0 rfl ?_
          refine s_getR C hR fd_PatchCordsModel_state (Or.inl q1809) dX4_depends_41 44 rfl (fun x12 => ?_)
          refine s_iconst (v := 0) C dX4_depends_44 (by decide) 45 rfl ?_
          refine s_iald C hR dX4_depends_45 46 rfl (fun x13 => ?_)
          refine s_icmp_ge C dX4_depends_46 93 49 (by decide) rfl ?_ ?_
          · refine s_r ?_
            refine s_lv [0, 1, 2, 3] rfl ?_
            exact hx11 s9.1
          · refine s_iload C dX4_depends_49 51 rfl 3 rfl ?_
            refine s_iload_n C dX4_depends_51 52 rfl 2 rfl ?_
            refine s_iload C dX4_depends_52 54 rfl 4 rfl ?_
            refine s_call_i (rn_S (As := [.int s6.2, .int s9.2]) C (ct_at hR hA (ct_X4_has g TA s6.2 s9.2)) (lw_S q1979 q1980 q112 q1981) nv_X4_has ⟨by decide, by decide⟩ rfl (bl rfl) dX4_depends_54) 57 rfl (fun x14 => ?_)
            refine s_cut (J := 84) (LJ := (fun (v15 : Int32) => [(0, .ref a0), (2, .int p1), (3, .int s6.2), (5, .int s9.2)])) (SJ := (fun (v15 : Int32) => [.int v15, .int s9.1])) (fun v15 => ?_) (fun _ _ hK16 => ?_)
            · refine s_ior C dX4_depends_84 85 rfl ?_
              refine s_topi (fun x20 => ?_)
              refine s_istore C dX4_depends_85 (by decide) 87 rfl [(4, .int x20), (0, .ref a0), (2, .int p1), (3, .int s6.2), (5, .int s9.2)] rfl ?_
              refine s_iinc C dX4_depends_87 (s9.2 + 1) rfl 4 rfl (by decide) 90 rfl [(5, .int (s9.2 + 1)), (4, .int x20), (0, .ref a0), (2, .int p1), (3, .int s6.2)] rfl ?_
              refine s_goto C dX4_depends_90 38 (by decide) ?_
              refine s_r ?_
              refine s_lv [2, 3, 4, 1, 0] rfl ?_
              exact hk10 (x20, s9.2 + 1)
            · refine s_if_eq C dX4_depends_57 83 60 (by decide) rfl ?_ ?_
              · refine s_iconst (v := 0) C dX4_depends_83 (by decide) 84 rfl ?_
                refine s_r ?_
                refine s_lv [0, 1, 2, 4] rfl ?_
                exact hK16 0
              · refine s_iload_n C dX4_depends_60 61 rfl 1 rfl ?_
                refine s_if_ne C dX4_depends_61 74 64 (by decide) rfl ?_ ?_
                · refine s_aload_n C dX4_depends_64 65 rfl 0 rfl ?_
                  refine s_iload C dX4_depends_65 67 rfl 4 rfl ?_
                  refine s_call_i (rn_V (As := [.int s9.2]) C (ct_at hR hA (ct_on (ct_X4_kind g TA a0 s9.2))) (rv_on C hR (q := vw_12) rfl) (lw_V q1912 q1914 qs43 q112 q1915) ⟨rfl, nv_X4_kind⟩ ⟨by decide, by decide⟩ rfl (bl rfl) dX4_depends_67) 70 rfl (fun x18 => ?_)
                  refine s_iconst (v := 1) C dX4_depends_70 (by decide) 71 rfl ?_
                  refine s_icmp_eq C dX4_depends_71 83 74 (by decide) rfl ?_ ?_
                  · refine s_iconst (v := 0) C dX4_depends_83 (by decide) 84 rfl ?_
                    refine s_r ?_
                    refine s_lv [0, 1, 2, 4] rfl ?_
                    exact hK16 0
                  · refine s_aload_n C dX4_depends_74 75 rfl 0 rfl ?_
                    refine s_iload C dX4_depends_75 77 rfl 4 rfl ?_
                    refine s_call_i (rn_V (As := [.int s9.2]) C (ct_at hR hA (ct_on (ct_X4_feedersOf g TA a0 s9.2))) (rv_on C hR (q := vw_12) rfl) (lw_V q1975 q1977 qs54 q112 q1978) ⟨rfl, nv_X4_feedersOf⟩ ⟨by decide, by decide⟩ rfl (bl rfl) dX4_depends_77) 80 rfl (fun x19 => ?_)
                    refine s_goto C dX4_depends_80 84 (by decide) ?_
                    refine s_r ?_
                    refine s_lv [0, 1, 2, 4] rfl ?_
                    exact hK16 x19
                · refine s_aload_n C dX4_depends_74 75 rfl 0 rfl ?_
                  refine s_iload C dX4_depends_75 77 rfl 4 rfl ?_
                  refine s_call_i (rn_V (As := [.int s9.2]) C (ct_at hR hA (ct_on (ct_X4_feedersOf g TA a0 s9.2))) (rv_on C hR (q := vw_12) rfl) (lw_V q1975 q1977 qs54 q112 q1978) ⟨rfl, nv_X4_feedersOf⟩ ⟨by decide, by decide⟩ rfl (bl rfl) dX4_depends_77) 80 rfl (fun x17 => ?_)
                  refine s_goto C dX4_depends_80 84 (by decide) ?_
                  refine s_r ?_
                  refine s_lv [0, 1, 2, 4] rfl ?_
                  exact hK16 x17
  · refine s_if_ne C dX4_depends_3 15 6 (by decide) rfl ?_ ?_
    · refine s_aload_n C dX4_depends_6 7 rfl 1 rfl ?_
      refine s_iload_n C dX4_depends_7 8 rfl 2 rfl ?_
      refine s_call_i (rn_V (As := [.int p0]) C (ct_at hR hA (ct_on (ct_X4_kind g TA a0 p0))) (rv_on C hR (q := vw_12) rfl) (lw_V q1912 q1914 qs43 q112 q1915) ⟨rfl, nv_X4_kind⟩ ⟨by decide, by decide⟩ rfl (bl rfl) dX4_depends_8) 11 rfl (fun x4 => ?_)
      refine s_iconst (v := 1) C dX4_depends_11 (by decide) 12 rfl ?_
      refine s_icmp_eq C dX4_depends_12 23 15 (by decide) rfl ?_ ?_
      · refine s_iconst (v := 0) C dX4_depends_23 (by decide) 24 rfl ?_
        refine s_r ?_
        refine s_lv [1, 3, 0] rfl ?_
        exact hK2 0
      · refine s_aload_n C dX4_depends_15 16 rfl 1 rfl ?_
        refine s_iload_n C dX4_depends_16 17 rfl 2 rfl ?_
        refine s_call_i (rn_V (As := [.int p0]) C (ct_at hR hA (ct_on (ct_X4_feedersOf g TA a0 p0))) (rv_on C hR (q := vw_12) rfl) (lw_V q1975 q1977 qs54 q112 q1978) ⟨rfl, nv_X4_feedersOf⟩ ⟨by decide, by decide⟩ rfl (bl rfl) dX4_depends_17) 20 rfl (fun x5 => ?_)
        refine s_goto C dX4_depends_20 24 (by decide) ?_
        refine s_r ?_
        refine s_lv [1, 3, 0] rfl ?_
        exact hK2 x5
    · refine s_aload_n C dX4_depends_15 16 rfl 1 rfl ?_
      refine s_iload_n C dX4_depends_16 17 rfl 2 rfl ?_
      refine s_call_i (rn_V (As := [.int p0]) C (ct_at hR hA (ct_on (ct_X4_feedersOf g TA a0 p0))) (rv_on C hR (q := vw_12) rfl) (lw_V q1975 q1977 qs54 q112 q1978) ⟨rfl, nv_X4_feedersOf⟩ ⟨by decide, by decide⟩ rfl (bl rfl) dX4_depends_17) 20 rfl (fun x3 => ?_)
      refine s_goto C dX4_depends_20 24 (by decide) ?_
      refine s_r ?_
      refine s_lv [1, 3, 0] rfl ?_
      exact hK2 x3
theorem nv_X4_circles : yX4_circles.cls ≠ "java/lang/invoke/MethodHandle" ∧ yX4_circles.cls ≠ "java/lang/invoke/VarHandle" ∧ (parseMethodDescriptor yX4_circles.desc).map (fun d => d.parameters.length) = some 2 := by decide +kernel
theorem ct_X4_circles {l : Launch} (g : sm_G) (TA : Nat → Prop) (a0 : Nat) (p0 : Int32) (p1 : Int32) : sm_CT l g (so_R g TA) (so_A g TA) yX4_circles cX4_circles 3 (some .boolean) 3 70 [.ref a0, .int p0, .int p1] em_i (f_X4_circles g a0 p0 p1) := by
  refine sm_of (own := "PatchCordsModel") rfl rfl (bl rfl) (fun Y C hR hA hl hm => ?_)
  subst hl
  refine s_lv (L' := [(0, .ref a0), (1, .int p0), (2, .int p1)]) [0, 1, 2] rfl ?_
  refine s_top ?_
  unfold f_X4_circles
  refine s_aload_n C dX4_circles_0 1 rfl 0 rfl ?_
  refine s_iload_n C dX4_circles_1 2 rfl 1 rfl ?_
  refine s_call_i (rn_V (As := [.int p0]) C (ct_at hR hA (ct_on (ct_X4_kind g TA a0 p0))) (rv_on C hR (q := vw_12) rfl) (lw_V q1912 q1914 qs43 q112 q1915) ⟨rfl, nv_X4_kind⟩ ⟨by decide, by decide⟩ rfl (bl rfl) dX4_circles_2) 5 rfl (fun x1 => ?_)
  refine s_iconst (v := 1) C dX4_circles_5 (by decide) 6 rfl ?_
  refine s_icmp_eq C dX4_circles_6 18 9 (by decide) rfl ?_ ?_
  · refine s_iconst (v := 0) C dX4_circles_18 (by decide) 19 rfl ?_
    exact s_iret C rfl rfl dX4_circles_19
  · refine s_aload_n C dX4_circles_9 10 rfl 0 rfl ?_
    refine s_iload_n C dX4_circles_10 11 rfl 2 rfl ?_
    refine s_call_i (rn_V (As := [.int p1]) C (ct_at hR hA (ct_on (ct_X4_kind g TA a0 p1))) (rv_on C hR (q := vw_12) rfl) (lw_V q1912 q1914 qs43 q112 q1915) ⟨rfl, nv_X4_kind⟩ ⟨by decide, by decide⟩ rfl (bl rfl) dX4_circles_11) 14 rfl (fun x2 => ?_)
    refine s_iconst (v := 1) C dX4_circles_14 (by decide) 15 rfl ?_
    refine s_icmp_ne C dX4_circles_15 20 18 (by decide) rfl ?_ ?_
    · refine s_iconst (v := 0) C dX4_circles_18 (by decide) 19 rfl ?_
      exact s_iret C rfl rfl dX4_circles_19
    · refine s_iload_n C dX4_circles_20 21 rfl 1 rfl ?_
      refine s_iload_n C dX4_circles_21 22 rfl 2 rfl ?_
      refine s_cut (J := 43) (LJ := (fun (v3 : Int32) => [])) (SJ := (fun (v3 : Int32) => [.int v3])) (fun v3 => ?_) (fun _ _ hK4 => ?_)
      · refine s_zb (fun h => ?_)
        exact s_iret C rfl (s_zn h) dX4_circles_43
      · refine s_icmp_eq C dX4_circles_22 38 25 (by decide) rfl ?_ ?_
        · refine s_iconst (v := 1) C dX4_circles_38 (by decide) 39 rfl ?_
          refine s_goto C dX4_circles_39 43 (by decide) ?_
          refine s_r ?_
          refine s_lv [] rfl ?_
          exact hK4 1
        · refine s_aload_n C dX4_circles_25 26 rfl 0 rfl ?_
          refine s_iload_n C dX4_circles_26 27 rfl 1 rfl ?_
          refine s_iconst (v := 0) C dX4_circles_27 (by decide) 28 rfl ?_
          refine s_call_i (rn_V (As := [.int p0, .int 0]) C (ct_at hR hA (ct_on (ct_X4_depends g TA a0 p0 0))) (rv_on C hR (q := vw_12) rfl) (lw_V q1971 q1973 qs53 q112 q1974) ⟨rfl, nv_X4_depends⟩ ⟨by decide, by decide⟩ rfl (bl rfl) dX4_circles_28) 31 rfl (fun x5 => ?_)
          refine s_iload_n C dX4_circles_31 32 rfl 2 rfl ?_
          refine s_call_i (rn_S (As := [.int x5, .int p1]) C (ct_at hR hA (ct_X4_has g TA x5 p1)) (lw_S q1979 q1980 q112 q1981) nv_X4_has ⟨by decide, by decide⟩ rfl (bl rfl) dX4_circles_32) 35 rfl (fun x6 => ?_)
          refine s_if_eq C dX4_circles_35 42 38 (by decide) rfl ?_ ?_
          · refine s_iconst (v := 0) C dX4_circles_42 (by decide) 43 rfl ?_
            refine s_r ?_
            refine s_lv [] rfl ?_
            exact hK4 0
          · refine s_iconst (v := 1) C dX4_circles_38 (by decide) 39 rfl ?_
            refine s_goto C dX4_circles_39 43 (by decide) ?_
            refine s_r ?_
            refine s_lv [] rfl ?_
            exact hK4 1
theorem nv_X4_whyNoJoin : yX4_whyNoJoin.cls ≠ "java/lang/invoke/MethodHandle" ∧ yX4_whyNoJoin.cls ≠ "java/lang/invoke/VarHandle" ∧ (parseMethodDescriptor yX4_whyNoJoin.desc).map (fun d => d.parameters.length) = some 3 := by decide +kernel
theorem ct_X4_whyNoJoin {l : Launch} (g : sm_G) (TA : Nat → Prop) (a0 : Nat) (p0 : Int32) (p1 : Int32) (p2 : Int32) : sm_CT l g (so_R g TA) (so_A g TA) yX4_whyNoJoin cX4_whyNoJoin 4 (some .int) 4 92 [.ref a0, .int p0, .int p1, .int p2] em_i (f_X4_whyNoJoin g a0 p0 p1 p2) := by
  refine sm_of (own := "PatchCordsModel") rfl rfl (bl rfl) (fun Y C hR hA hl hm => ?_)
  subst hl
  refine s_lv (L' := [(0, .ref a0), (1, .int p0), (2, .int p1), (3, .int p2)]) [0, 1, 2, 3] rfl ?_
  refine s_top ?_
  unfold f_X4_whyNoJoin
  refine s_aload_n C dX4_whyNoJoin_0 1 rfl 0 rfl ?_
  refine s_iload_n C dX4_whyNoJoin_1 2 rfl 1 rfl ?_
  refine s_call_i (rn_V (As := [.int p0]) C (ct_at hR hA (ct_on (ct_X4_isModule g TA a0 p0))) (rv_on C hR (q := vw_12) rfl) (lw_V q1904 q1906 qs41 q112 q1907) ⟨rfl, nv_X4_isModule⟩ ⟨by decide, by decide⟩ rfl (bl rfl) dX4_whyNoJoin_2) 5 rfl (fun x1 => ?_)
  refine s_cut (J := 35) (LJ := (fun (v2 : Int32) => [])) (SJ := (fun (v2 : Int32) => [.int v2])) (fun v2 => ?_) (fun _ _ hK3 => ?_)
  · exact s_iret C rfl rfl dX4_whyNoJoin_35
  · refine s_if_eq C dX4_whyNoJoin_5 17 8 (by decide) rfl ?_ ?_
    · refine s_iconst (v := 1) C dX4_whyNoJoin_17 (by decide) 18 rfl ?_
      refine s_goto C dX4_whyNoJoin_18 35 (by decide) ?_
      refine s_r ?_
      refine s_lv [] rfl ?_
      exact hK3 1
    · refine s_aload_n C dX4_whyNoJoin_8 9 rfl 0 rfl ?_
      refine s_iload_n C dX4_whyNoJoin_9 10 rfl 2 rfl ?_
      refine s_iload_n C dX4_whyNoJoin_10 11 rfl 3 rfl ?_
      refine s_call_i (rn_V (As := [.int p1, .int p2]) C (ct_at hR hA (ct_on (ct_X4_isInput g TA a0 p1 p2))) (rv_on C hR (q := vw_12) rfl) (lw_V q1920 q1922 qs45 q112 q1923) ⟨rfl, nv_X4_isInput⟩ ⟨by decide, by decide⟩ rfl (bl rfl) dX4_whyNoJoin_11) 14 rfl (fun x4 => ?_)
      refine s_if_ne C dX4_whyNoJoin_14 21 17 (by decide) rfl ?_ ?_
      · refine s_iconst (v := 1) C dX4_whyNoJoin_17 (by decide) 18 rfl ?_
        refine s_goto C dX4_whyNoJoin_18 35 (by decide) ?_
        refine s_r ?_
        refine s_lv [] rfl ?_
        exact hK3 1
      · refine s_aload_n C dX4_whyNoJoin_21 22 rfl 0 rfl ?_
        refine s_iload_n C dX4_whyNoJoin_22 23 rfl 1 rfl ?_
        refine s_iload_n C dX4_whyNoJoin_23 24 rfl 2 rfl ?_
        refine s_call_i (rn_V (As := [.int p0, .int p1]) C (ct_at hR hA (ct_on (ct_X4_circles g TA a0 p0 p1))) (rv_on C hR (q := vw_12) rfl) (lw_V q1967 q1969 qs52 q112 q1970) ⟨rfl, nv_X4_circles⟩ ⟨by decide, by decide⟩ rfl (bl rfl) dX4_whyNoJoin_24) 27 rfl (fun x5 => ?_)
        refine s_if_eq C dX4_whyNoJoin_27 34 30 (by decide) rfl ?_ ?_
        · refine s_iconst (v := 0) C dX4_whyNoJoin_34 (by decide) 35 rfl ?_
          refine s_r ?_
          refine s_lv [] rfl ?_
          exact hK3 0
        · refine s_iconst (v := 2) C dX4_whyNoJoin_30 (by decide) 31 rfl ?_
          refine s_goto C dX4_whyNoJoin_31 35 (by decide) ?_
          refine s_r ?_
          refine s_lv [] rfl ?_
          exact hK3 2
theorem nv_X4_joins : yX4_joins.cls ≠ "java/lang/invoke/MethodHandle" ∧ yX4_joins.cls ≠ "java/lang/invoke/VarHandle" ∧ (parseMethodDescriptor yX4_joins.desc).map (fun d => d.parameters.length) = some 3 := by decide +kernel
theorem ct_X4_joins {l : Launch} (g : sm_G) (TA : Nat → Prop) (a0 : Nat) (p0 : Int32) (p1 : Int32) (p2 : Int32) : sm_CT l g (so_R g TA) (so_A g TA) yX4_joins cX4_joins 5 (some .int) 1 23 [.ref a0, .int p0, .int p1, .int p2] em_i (f_X4_joins g a0 p0 p1 p2) := by
  refine sm_of (own := "PatchCordsModel") rfl rfl (bl rfl) (fun Y C hR hA hl hm => ?_)
  subst hl
  refine s_lv (L' := [(0, .ref a0), (1, .int p0), (2, .int p1), (3, .int p2)]) [0, 1, 2, 3] rfl ?_
  refine s_top ?_
  unfold f_X4_joins
  refine s_aload_n C dX4_joins_0 1 rfl 0 rfl ?_
  refine s_iload_n C dX4_joins_1 2 rfl 2 rfl ?_
  refine s_iconst (v := 5) C dX4_joins_2 (by decide) 3 rfl ?_
  refine s_iload_n C dX4_joins_3 4 rfl 3 rfl ?_
  refine s_iadd C dX4_joins_4 5 rfl ?_
  refine s_call_i (rn_V (As := [.int p1, .int (5 + p2)]) C (ct_at hR hA (ct_on (ct_X4_of g TA a0 p1 (5 + p2)))) (rv_on C hR (q := vw_12) rfl) (lw_V q1916 q1918 qs44 q112 q1919) ⟨rfl, nv_X4_of⟩ ⟨by decide, by decide⟩ rfl (bl rfl) dX4_joins_5) 8 rfl (fun x1 => ?_)
  refine s_istore C dX4_joins_8 (by decide) 10 rfl [(4, .int x1), (0, .ref a0), (1, .int p0), (2, .int p1), (3, .int p2)] rfl ?_
  refine s_aload_n C dX4_joins_10 11 rfl 1 rfl ?_
  refine s_iload_n C dX4_joins_11 12 rfl 3 rfl ?_
  refine s_iconst (v := 5) C dX4_joins_12 (by decide) 13 rfl ?_
  refine s_iload_n C dX4_joins_13 14 rfl 4 rfl ?_
  refine s_iadd C dX4_joins_14 15 rfl ?_
  refine s_iload_n C dX4_joins_15 16 rfl 2 rfl ?_
  refine s_call_v (rn_V (As := [.int p1, .int (5 + p2), .int p0]) C (ct_at hR hA (ct_on (ct_X4_puts g TA a0 p1 (5 + p2) p0))) (rv_on C hR (q := vw_12) rfl) (lw_V q1892 q1894 qs39 q112 q1895) ⟨rfl, nv_X4_puts⟩ ⟨by decide, by decide⟩ rfl (bl rfl) dX4_joins_16) 19 rfl ?_
  refine s_iload C dX4_joins_19 21 rfl 0 rfl ?_
  exact s_iret C rfl rfl dX4_joins_21
theorem nv_X4_join : yX4_join.cls ≠ "java/lang/invoke/MethodHandle" ∧ yX4_join.cls ≠ "java/lang/invoke/VarHandle" ∧ (parseMethodDescriptor yX4_join.desc).map (fun d => d.parameters.length) = some 3 := by decide +kernel
theorem ct_X4_join {l : Launch} (g : sm_G) (TA : Nat → Prop) (a0 : Nat) (p0 : Int32) (p1 : Int32) (p2 : Int32) : sm_CT l g (so_R g TA) (so_A g TA) yX4_join cX4_join 4 (some .int) 5 115 [.ref a0, .int p0, .int p1, .int p2] em_i (f_X4_join g a0 p0 p1 p2) := by
  refine sm_of (own := "PatchCordsModel") rfl rfl (bl rfl) (fun Y C hR hA hl hm => ?_)
  subst hl
  refine s_lv (L' := [(0, .ref a0), (1, .int p0), (2, .int p1), (3, .int p2)]) [0, 1, 2, 3] rfl ?_
  refine s_top ?_
  unfold f_X4_join
  refine s_aload_n C dX4_join_0 1 rfl 0 rfl ?_
  refine s_aload_n C dX4_join_1 2 rfl 0 rfl ?_
  refine s_iload_n C dX4_join_2 3 rfl 1 rfl ?_
  refine s_iload_n C dX4_join_3 4 rfl 2 rfl ?_
  refine s_iload_n C dX4_join_4 5 rfl 3 rfl ?_
  refine s_call_i (rn_V (As := [.int p0, .int p1, .int p2]) C (ct_at hR hA (ct_on (ct_X4_whyNoJoin g TA a0 p0 p1 p2))) (rv_on C hR (q := vw_12) rfl) (lw_V q1963 q1965 qs51 q112 q1966) ⟨rfl, nv_X4_whyNoJoin⟩ ⟨by decide, by decide⟩ rfl (bl rfl) dX4_join_5) 8 rfl (fun x1 => ?_)
  refine s_put C hR hA fd_PatchCordsModel_thrown (Or.inl q1808) dX4_join_8 rfl rfl 11 rfl ?_
  refine s_aload_n C dX4_join_11 12 rfl 0 rfl ?_
  refine s_getI C hR fd_PatchCordsModel_thrown (Or.inl q1808) dX4_join_12 15 rfl (fun x2 => ?_)
  refine s_if_le C dX4_join_15 20 18 (by decide) rfl ?_ ?_
  · refine s_aload_n C dX4_join_20 21 rfl 0 rfl ?_
    refine s_call_v (rn_V (As := []) C (ct_at hR hA (ct_on (ct_X4_saves g TA a0))) (rv_on C hR (q := vw_12) rfl) (lw_V q1884 q1886 qs37 q112 q1887) ⟨rfl, nv_X4_saves⟩ ⟨by decide, by decide⟩ rfl (bl rfl) dX4_join_21) 24 rfl ?_
    refine s_aload_n C dX4_join_24 25 rfl 0 rfl ?_
    refine s_iload_n C dX4_join_25 26 rfl 1 rfl ?_
    refine s_iload_n C dX4_join_26 27 rfl 2 rfl ?_
    refine s_iload_n C dX4_join_27 28 rfl 3 rfl ?_
    refine s_call_i (rn_V (As := [.int p0, .int p1, .int p2]) C (ct_at hR hA (ct_on (ct_X4_joins g TA a0 p0 p1 p2))) (rv_on C hR (q := vw_12) rfl) (lw_V q1982 q1984 qs55 q112 q1985) ⟨rfl, nv_X4_joins⟩ ⟨by decide, by decide⟩ rfl (bl rfl) dX4_join_28) 31 rfl (fun x4 => ?_)
    exact s_iret C rfl rfl dX4_join_31
  · refine s_iconst (v := 0) C dX4_join_18 (by decide) 19 rfl ?_
    exact s_iret C rfl rfl dX4_join_19
theorem nv_X4_whyNoCord : yX4_whyNoCord.cls ≠ "java/lang/invoke/MethodHandle" ∧ yX4_whyNoCord.cls ≠ "java/lang/invoke/VarHandle" ∧ (parseMethodDescriptor yX4_whyNoCord.desc).map (fun d => d.parameters.length) = some 2 := by decide +kernel
theorem ct_X4_whyNoCord {l : Launch} (g : sm_G) (TA : Nat → Prop) (a0 : Nat) (p0 : Int32) (p1 : Int32) : sm_CT l g (so_R g TA) (so_A g TA) yX4_whyNoCord cX4_whyNoCord 3 (some .int) 3 65 [.ref a0, .int p0, .int p1] em_i (f_X4_whyNoCord g a0 p0 p1) := by
  refine sm_of (own := "PatchCordsModel") rfl rfl (bl rfl) (fun Y C hR hA hl hm => ?_)
  subst hl
  refine s_lv (L' := [(0, .ref a0), (1, .int p0), (2, .int p1)]) [0, 1, 2] rfl ?_
  refine s_top ?_
  unfold f_X4_whyNoCord
  refine s_aload_n C dX4_whyNoCord_0 1 rfl 0 rfl ?_
  refine s_iload_n C dX4_whyNoCord_1 2 rfl 1 rfl ?_
  refine s_iload_n C dX4_whyNoCord_2 3 rfl 2 rfl ?_
  refine s_call_i (rn_V (As := [.int p0, .int p1]) C (ct_at hR hA (ct_on (ct_X4_isInput g TA a0 p0 p1))) (rv_on C hR (q := vw_12) rfl) (lw_V q1920 q1922 qs45 q112 q1923) ⟨rfl, nv_X4_isInput⟩ ⟨by decide, by decide⟩ rfl (bl rfl) dX4_whyNoCord_3) 6 rfl (fun x1 => ?_)
  refine s_cut (J := 30) (LJ := (fun (v2 : Int32) => [])) (SJ := (fun (v2 : Int32) => [.int v2])) (fun v2 => ?_) (fun _ _ hK3 => ?_)
  · exact s_iret C rfl rfl dX4_whyNoCord_30
  · refine s_if_ne C dX4_whyNoCord_6 13 9 (by decide) rfl ?_ ?_
    · refine s_iconst (v := 1) C dX4_whyNoCord_9 (by decide) 10 rfl ?_
      refine s_goto C dX4_whyNoCord_10 30 (by decide) ?_
      refine s_r ?_
      refine s_lv [] rfl ?_
      exact hK3 1
    · refine s_aload_n C dX4_whyNoCord_13 14 rfl 0 rfl ?_
      refine s_iload_n C dX4_whyNoCord_14 15 rfl 1 rfl ?_
      refine s_iconst (v := 5) C dX4_whyNoCord_15 (by decide) 16 rfl ?_
      refine s_iload_n C dX4_whyNoCord_16 17 rfl 2 rfl ?_
      refine s_iadd C dX4_whyNoCord_17 18 rfl ?_
      refine s_call_i (rn_V (As := [.int p0, .int (5 + p1)]) C (ct_at hR hA (ct_on (ct_X4_of g TA a0 p0 (5 + p1)))) (rv_on C hR (q := vw_12) rfl) (lw_V q1916 q1918 qs44 q112 q1919) ⟨rfl, nv_X4_of⟩ ⟨by decide, by decide⟩ rfl (bl rfl) dX4_whyNoCord_18) 21 rfl (fun x4 => ?_)
      refine s_iconst (v := (-1)) C dX4_whyNoCord_21 (by decide) 22 rfl ?_
      refine s_icmp_ne C dX4_whyNoCord_22 29 25 (by decide) rfl ?_ ?_
      · refine s_iconst (v := 2) C dX4_whyNoCord_25 (by decide) 26 rfl ?_
        refine s_goto C dX4_whyNoCord_26 30 (by decide) ?_
        refine s_r ?_
        refine s_lv [] rfl ?_
        exact hK3 2
      · refine s_iconst (v := 0) C dX4_whyNoCord_29 (by decide) 30 rfl ?_
        refine s_r ?_
        refine s_lv [] rfl ?_
        exact hK3 0
theorem nv_X4_takeOut : yX4_takeOut.cls ≠ "java/lang/invoke/MethodHandle" ∧ yX4_takeOut.cls ≠ "java/lang/invoke/VarHandle" ∧ (parseMethodDescriptor yX4_takeOut.desc).map (fun d => d.parameters.length) = some 2 := by decide +kernel
theorem ct_X4_takeOut {l : Launch} (g : sm_G) (TA : Nat → Prop) (a0 : Nat) (p0 : Int32) (p1 : Int32) : sm_CT l g (so_R g TA) (so_A g TA) yX4_takeOut cX4_takeOut 3 (some .int) 4 87 [.ref a0, .int p0, .int p1] em_i (f_X4_takeOut g a0 p0 p1) := by
  refine sm_of (own := "PatchCordsModel") rfl rfl (bl rfl) (fun Y C hR hA hl hm => ?_)
  subst hl
  refine s_lv (L' := [(0, .ref a0), (1, .int p0), (2, .int p1)]) [0, 1, 2] rfl ?_
  refine s_top ?_
  unfold f_X4_takeOut
  refine s_aload_n C dX4_takeOut_0 1 rfl 0 rfl ?_
  refine s_aload_n C dX4_takeOut_1 2 rfl 0 rfl ?_
  refine s_iload_n C dX4_takeOut_2 3 rfl 1 rfl ?_
  refine s_iload_n C dX4_takeOut_3 4 rfl 2 rfl ?_
  refine s_call_i (rn_V (As := [.int p0, .int p1]) C (ct_at hR hA (ct_on (ct_X4_whyNoCord g TA a0 p0 p1))) (rv_on C hR (q := vw_12) rfl) (lw_V q1990 q1992 qs56 q112 q1993) ⟨rfl, nv_X4_whyNoCord⟩ ⟨by decide, by decide⟩ rfl (bl rfl) dX4_takeOut_4) 7 rfl (fun x1 => ?_)
  refine s_put C hR hA fd_PatchCordsModel_thrown (Or.inl q1808) dX4_takeOut_7 rfl rfl 10 rfl ?_
  refine s_aload_n C dX4_takeOut_10 11 rfl 0 rfl ?_
  refine s_getI C hR fd_PatchCordsModel_thrown (Or.inl q1808) dX4_takeOut_11 14 rfl (fun x2 => ?_)
  refine s_if_le C dX4_takeOut_14 19 17 (by decide) rfl ?_ ?_
  · refine s_aload_n C dX4_takeOut_19 20 rfl 0 rfl ?_
    refine s_call_v (rn_V (As := []) C (ct_at hR hA (ct_on (ct_X4_saves g TA a0))) (rv_on C hR (q := vw_12) rfl) (lw_V q1884 q1886 qs37 q112 q1887) ⟨rfl, nv_X4_saves⟩ ⟨by decide, by decide⟩ rfl (bl rfl) dX4_takeOut_20) 23 rfl ?_
    refine s_aload_n C dX4_takeOut_23 24 rfl 0 rfl ?_
    refine s_iconst (v := (-1)) C dX4_takeOut_24 (by decide) 25 rfl ?_
    refine s_iload_n C dX4_takeOut_25 26 rfl 1 rfl ?_
    refine s_iload_n C dX4_takeOut_26 27 rfl 2 rfl ?_
    refine s_call_i (rn_V (As := [.int (-1), .int p0, .int p1]) C (ct_at hR hA (ct_on (ct_X4_joins g TA a0 (-1) p0 p1))) (rv_on C hR (q := vw_12) rfl) (lw_V q1982 q1984 qs55 q112 q1985) ⟨rfl, nv_X4_joins⟩ ⟨by decide, by decide⟩ rfl (bl rfl) dX4_takeOut_27) 30 rfl (fun x4 => ?_)
    exact s_iret C rfl rfl dX4_takeOut_30
  · refine s_iconst (v := 0) C dX4_takeOut_17 (by decide) 18 rfl ?_
    exact s_iret C rfl rfl dX4_takeOut_18
theorem nv_X4_canPass : yX4_canPass.cls ≠ "java/lang/invoke/MethodHandle" ∧ yX4_canPass.cls ≠ "java/lang/invoke/VarHandle" ∧ (parseMethodDescriptor yX4_canPass.desc).map (fun d => d.parameters.length) = some 1 := by decide +kernel
theorem ct_X4_canPass {l : Launch} (g : sm_G) (TA : Nat → Prop) (a0 : Nat) (p0 : Int32) : sm_CT l g (so_R g TA) (so_A g TA) yX4_canPass cX4_canPass 2 (some .boolean) 0 0 [.ref a0, .int p0] em_i (f_X4_canPass g a0 p0) := by
  refine sm_of (own := "PatchCordsModel") rfl rfl (bl rfl) (fun Y C hR hA hl hm => ?_)
  subst hl
  refine s_lv (L' := [(0, .ref a0), (1, .int p0)]) [0, 1] rfl ?_
  refine s_top ?_
  unfold f_X4_canPass
  refine s_aload_n C dX4_canPass_0 1 rfl 0 rfl ?_
  refine s_getR C hR fd_PatchCordsModel_state (Or.inl q1809) dX4_canPass_1 4 rfl (fun x1 => ?_)
  refine s_iconst (v := 4) C dX4_canPass_4 (by decide) 5 rfl ?_
  refine s_iald C hR dX4_canPass_5 6 rfl (fun x2 => ?_)
  refine s_iload_n C dX4_canPass_6 7 rfl 1 rfl ?_
  refine s_iadd C dX4_canPass_7 8 rfl ?_
  refine s_ldc (v := 99999) C q2002 dX4_canPass_8 10 rfl ?_
  refine s_cut (J := 18) (LJ := (fun (v3 : Int32) => [])) (SJ := (fun (v3 : Int32) => [.int v3])) (fun v3 => ?_) (fun _ _ hK4 => ?_)
  · refine s_zb (fun h => ?_)
    exact s_iret C rfl (s_zn h) dX4_canPass_18
  · refine s_icmp_gt C dX4_canPass_10 17 13 (by decide) rfl ?_ ?_
    · refine s_iconst (v := 0) C dX4_canPass_17 (by decide) 18 rfl ?_
      refine s_r ?_
      refine s_lv [] rfl ?_
      exact hK4 0
    · refine s_iconst (v := 1) C dX4_canPass_13 (by decide) 14 rfl ?_
      refine s_goto C dX4_canPass_14 18 (by decide) ?_
      refine s_r ?_
      refine s_lv [] rfl ?_
      exact hK4 1
theorem nv_X4_laysLevels : yX4_laysLevels.cls ≠ "java/lang/invoke/MethodHandle" ∧ yX4_laysLevels.cls ≠ "java/lang/invoke/VarHandle" ∧ (parseMethodDescriptor yX4_laysLevels.desc).map (fun d => d.parameters.length) = some 0 := by decide +kernel
theorem ct_X4_laysLevels {l : Launch} (g : sm_G) (TA : Nat → Prop) (a0 : Nat) : sm_CT l g (so_R g TA) (so_A g TA) yX4_laysLevels cX4_laysLevels 5 none 3 64 [.ref a0] em_v (f_X4_laysLevels g a0) := by
  refine sm_of (own := "PatchCordsModel") rfl rfl (bl rfl) (fun Y C hR hA hl hm => ?_)
  subst hl
  refine s_lv (L' := [(0, .ref a0)]) [0] rfl ?_
  refine s_top ?_
  unfold f_X4_laysLevels
  refine s_iconst (v := 0) C dX4_laysLevels_0 (by decide) 1 rfl ?_
  refine s_istore_n C dX4_laysLevels_1 rfl (by decide) 2 rfl [(1, .int 0), (0, .ref a0)] rfl ?_
  refine s_lv [1, 0] rfl ?_
  refine s_loop (fun (s1 : Int32) => [(0, .ref a0), (1, .int s1)]) (fun (v10 : Unit) => [(0, .ref a0)]) 37 0 rfl (fun v10 => ?_) (fun _ s1 hk2 hx3 => ?_)
  · refine s_iconst (v := 1) C dX4_laysLevels_37 (by decide) 38 rfl ?_
    refine s_istore_n C dX4_laysLevels_38 rfl (by decide) 39 rfl [(1, .int 1), (0, .ref a0)] rfl ?_
    refine s_lv [1, 0] rfl ?_
    refine s_loop (fun (s11 : Int32) => [(0, .ref a0), (1, .int s11)]) (fun (v35 : Unit) => []) 136 1 rfl (fun v35 => ?_) (fun _ s11 hk12 hx13 => ?_)
    · exact s_vret C rfl dX4_laysLevels_136
    · refine s_iload_n C dX4_laysLevels_39 40 rfl 1 rfl ?_
      refine s_if_eq C dX4_laysLevels_40 136 43 (by decide) rfl ?_ ?_
      · refine s_r ?_
        refine s_lv [] rfl ?_
        exact hx13 ()
      · refine s_iconst (v := 0) C dX4_laysLevels_43 (by decide) 44 rfl ?_
        refine s_istore_n C dX4_laysLevels_44 rfl (by decide) 45 rfl [(1, .int 0), (0, .ref a0)] rfl ?_
        refine s_iconst (v := 0) C dX4_laysLevels_45 (by decide) 46 rfl ?_
        refine s_istore_n C dX4_laysLevels_46 rfl (by decide) 47 rfl [(2, .int 0), (1, .int 0), (0, .ref a0)] rfl ?_
        refine s_lv [2, 1, 0] rfl ?_
        refine s_loop (fun (s14 : Int32 × Int32) => [(0, .ref a0), (1, .int s14.1), (2, .int s14.2)]) (fun (v34 : Int32) => [(0, .ref a0), (1, .int v34)]) 133 (0, 0) rfl (fun v34 => ?_) (fun _ s14 hk15 hx16 => ?_)
        · refine s_goto C dX4_laysLevels_133 39 (by decide) ?_
          refine s_r ?_
          refine s_lv [0, 1] rfl ?_
          exact hk12 v34
        · refine s_iload_n C dX4_laysLevels_47 48 rfl 2 rfl ?_
          refine s_aload_n C dX4_laysLevels_48 49 rfl 0 rfl ?_
          refine s_getR C hR fd_PatchCordsModel_state (Or.inl q1809) dX4_laysLevels_49 52 rfl (fun x17 => ?_)
          refine s_iconst (v := 0) C dX4_laysLevels_52 (by decide) 53 rfl ?_
          refine s_iald C hR dX4_laysLevels_53 54 rfl (fun x18 => ?_)
          refine s_icmp_ge C dX4_laysLevels_54 133 57 (by decide) rfl ?_ ?_
          · refine s_r ?_
            refine s_lv [0, 1] rfl ?_
            exact hx16 s14.1
          · refine s_iconst (v := 0) C dX4_laysLevels_57 (by decide) 58 rfl ?_
            refine s_istore_n C dX4_laysLevels_58 rfl (by decide) 59 rfl [(3, .int 0), (0, .ref a0), (1, .int s14.1), (2, .int s14.2)] rfl ?_
            refine s_lv [1, 2, 3, 0] rfl ?_
            refine s_loop (fun (s19 : Int32 × Int32) => [(0, .ref a0), (1, .int s19.1), (2, .int s14.2), (3, .int s19.2)]) (fun (v33 : Int32) => [(0, .ref a0), (1, .int v33), (2, .int s14.2)]) 127 (s14.1, 0) rfl (fun v33 => ?_) (fun _ s19 hk20 hx21 => ?_)
            · refine s_iinc C dX4_laysLevels_127 (s14.2 + 1) rfl 2 rfl (by decide) 130 rfl [(2, .int (s14.2 + 1)), (0, .ref a0), (1, .int v33)] rfl ?_
              refine s_goto C dX4_laysLevels_130 47 (by decide) ?_
              refine s_r ?_
              refine s_lv [1, 2, 0] rfl ?_
              exact hk15 (v33, s14.2 + 1)
            · refine s_iload_n C dX4_laysLevels_59 60 rfl 3 rfl ?_
              refine s_iconst (v := 4) C dX4_laysLevels_60 (by decide) 61 rfl ?_
              refine s_icmp_ge C dX4_laysLevels_61 127 64 (by decide) rfl ?_ ?_
              · refine s_r ?_
                refine s_lv [0, 1, 2] rfl ?_
                exact hx21 s19.1
              · refine s_aload_n C dX4_laysLevels_64 65 rfl 0 rfl ?_
                refine s_iload_n C dX4_laysLevels_65 66 rfl 2 rfl ?_
                refine s_call_i (rn_V (As := [.int s14.2]) C (ct_at hR hA (ct_on (ct_X4_hasVoltage g TA a0 s14.2))) (rv_on C hR (q := vw_12) rfl) (lw_V q1935 q1937 qs47 q112 q1938) ⟨rfl, nv_X4_hasVoltage⟩ ⟨by decide, by decide⟩ rfl (bl rfl) dX4_laysLevels_66) 69 rfl (fun x22 => ?_)
                refine s_if_ne C dX4_laysLevels_69 127 72 (by decide) rfl ?_ ?_
                · refine s_aload_n C dX4_laysLevels_72 73 rfl 0 rfl ?_
                  refine s_iload_n C dX4_laysLevels_73 74 rfl 2 rfl ?_
                  refine s_iconst (v := 5) C dX4_laysLevels_74 (by decide) 75 rfl ?_
                  refine s_iload_n C dX4_laysLevels_75 76 rfl 3 rfl ?_
                  refine s_iadd C dX4_laysLevels_76 77 rfl ?_
                  refine s_call_i (rn_V (As := [.int s14.2, .int (5 + s19.2)]) C (ct_at hR hA (ct_on (ct_X4_of g TA a0 s14.2 (5 + s19.2)))) (rv_on C hR (q := vw_12) rfl) (lw_V q1916 q1918 qs44 q112 q1919) ⟨rfl, nv_X4_of⟩ ⟨by decide, by decide⟩ rfl (bl rfl) dX4_laysLevels_77) 80 rfl (fun x23 => ?_)
                  refine s_istore C dX4_laysLevels_80 (by decide) 82 rfl [(4, .int x23), (0, .ref a0), (1, .int s19.1), (2, .int s14.2), (3, .int s19.2)] rfl ?_
                  refine s_iload C dX4_laysLevels_82 84 rfl 0 rfl ?_
                  refine s_iconst (v := (-1)) C dX4_laysLevels_84 (by decide) 85 rfl ?_
                  refine s_cut (J := 121) (LJ := (fun (v24 : Int32) => [(0, .ref a0), (1, .int v24), (2, .int s14.2), (3, .int s19.2)])) (SJ := (fun (v24 : Int32) => [])) (fun v24 => ?_) (fun _ _ hK25 => ?_)
                  · refine s_iinc C dX4_laysLevels_121 (s19.2 + 1) rfl 3 rfl (by decide) 124 rfl [(3, .int (s19.2 + 1)), (0, .ref a0), (1, .int v24), (2, .int s14.2)] rfl ?_
                    refine s_goto C dX4_laysLevels_124 59 (by decide) ?_
                    refine s_r ?_
                    refine s_lv [1, 2, 3, 0] rfl ?_
                    exact hk20 (v24, s19.2 + 1)
                  · refine s_icmp_eq C dX4_laysLevels_85 121 88 (by decide) rfl ?_ ?_
                    · refine s_r ?_
                      refine s_lv [1, 2, 3, 4] rfl ?_
                      exact hK25 s19.1
                    · refine s_aload_n C dX4_laysLevels_88 89 rfl 1 rfl ?_
                      refine s_getR C hR fd_PatchCordsModel_levels (Or.inl q1815) dX4_laysLevels_89 92 rfl (fun x26 => ?_)
                      refine s_iload C dX4_laysLevels_92 94 rfl 0 rfl ?_
                      refine s_iald C hR dX4_laysLevels_94 95 rfl (fun x27 => ?_)
                      refine s_aload_n C dX4_laysLevels_95 96 rfl 1 rfl ?_
                      refine s_getR C hR fd_PatchCordsModel_levels (Or.inl q1815) dX4_laysLevels_96 99 rfl (fun x28 => ?_)
                      refine s_iload_n C dX4_laysLevels_99 100 rfl 3 rfl ?_
                      refine s_iald C hR dX4_laysLevels_100 101 rfl (fun x29 => ?_)
                      refine s_icmp_lt C dX4_laysLevels_101 121 104 (by decide) rfl ?_ ?_
                      · refine s_r ?_
                        refine s_lv [1, 2, 3, 4] rfl ?_
                        exact hK25 s19.1
                      · refine s_aload_n C dX4_laysLevels_104 105 rfl 1 rfl ?_
                        refine s_getR C hR fd_PatchCordsModel_levels (Or.inl q1815) dX4_laysLevels_105 108 rfl (fun x30 => ?_)
                        refine s_iload_n C dX4_laysLevels_108 109 rfl 3 rfl ?_
                        refine s_aload_n C dX4_laysLevels_109 110 rfl 1 rfl ?_
                        refine s_getR C hR fd_PatchCordsModel_levels (Or.inl q1815) dX4_laysLevels_110 113 rfl (fun x31 => ?_)
                        refine s_iload C dX4_laysLevels_113 115 rfl 0 rfl ?_
                        refine s_iald C hR dX4_laysLevels_115 116 rfl (fun x32 => ?_)
                        refine s_iconst (v := 1) C dX4_laysLevels_116 (by decide) 117 rfl ?_
                        refine s_iadd C dX4_laysLevels_117 118 rfl ?_
                        refine s_iast C hR hA dX4_laysLevels_118 119 rfl ?_
                        refine s_iconst (v := 1) C dX4_laysLevels_119 (by decide) 120 rfl ?_
                        refine s_istore_n C dX4_laysLevels_120 rfl (by decide) 121 rfl [(1, .int 1), (4, .int x23), (0, .ref a0), (2, .int s14.2), (3, .int s19.2)] rfl ?_
                        refine s_r ?_
                        refine s_lv [2, 0, 3, 4] rfl ?_
                        exact hK25 1
                · refine s_r ?_
                  refine s_lv [0, 1, 2] rfl ?_
                  exact hx21 s19.1
  · refine s_iload_n C dX4_laysLevels_2 3 rfl 1 rfl ?_
    refine s_aload_n C dX4_laysLevels_3 4 rfl 0 rfl ?_
    refine s_getR C hR fd_PatchCordsModel_state (Or.inl q1809) dX4_laysLevels_4 7 rfl (fun x4 => ?_)
    refine s_iconst (v := 0) C dX4_laysLevels_7 (by decide) 8 rfl ?_
    refine s_iald C hR dX4_laysLevels_8 9 rfl (fun x5 => ?_)
    refine s_icmp_ge C dX4_laysLevels_9 37 12 (by decide) rfl ?_ ?_
    · refine s_r ?_
      refine s_lv [0] rfl ?_
      exact hx3 ()
    · refine s_aload_n C dX4_laysLevels_12 13 rfl 0 rfl ?_
      refine s_getR C hR fd_PatchCordsModel_levels (Or.inl q1815) dX4_laysLevels_13 16 rfl (fun x6 => ?_)
      refine s_iload_n C dX4_laysLevels_16 17 rfl 1 rfl ?_
      refine s_aload_n C dX4_laysLevels_17 18 rfl 0 rfl ?_
      refine s_iload_n C dX4_laysLevels_18 19 rfl 1 rfl ?_
      refine s_call_i (rn_V (As := [.int s1]) C (ct_at hR hA (ct_on (ct_X4_hasVoltage g TA a0 s1))) (rv_on C hR (q := vw_12) rfl) (lw_V q1935 q1937 qs47 q112 q1938) ⟨rfl, nv_X4_hasVoltage⟩ ⟨by decide, by decide⟩ rfl (bl rfl) dX4_laysLevels_19) 22 rfl (fun x7 => ?_)
      refine s_cut (J := 30) (LJ := (fun (v8 : Int32) => [(0, .ref a0), (1, .int s1)])) (SJ := (fun (v8 : Int32) => [.int v8, .int s1, .ref x6])) (fun v8 => ?_) (fun _ _ hK9 => ?_)
      · refine s_iast C hR hA dX4_laysLevels_30 31 rfl ?_
        refine s_iinc C dX4_laysLevels_31 (s1 + 1) rfl 1 rfl (by decide) 34 rfl [(1, .int (s1 + 1)), (0, .ref a0)] rfl ?_
        refine s_goto C dX4_laysLevels_34 2 (by decide) ?_
        refine s_r ?_
        refine s_lv [1, 0] rfl ?_
        exact hk2 (s1 + 1)
      · refine s_if_eq C dX4_laysLevels_22 29 25 (by decide) rfl ?_ ?_
        · refine s_iconst (v := 1) C dX4_laysLevels_29 (by decide) 30 rfl ?_
          refine s_r ?_
          refine s_lv [0, 1] rfl ?_
          exact hK9 1
        · refine s_iconst (v := 0) C dX4_laysLevels_25 (by decide) 26 rfl ?_
          refine s_goto C dX4_laysLevels_26 30 (by decide) ?_
          refine s_r ?_
          refine s_lv [0, 1] rfl ?_
          exact hK9 0
theorem nv_X4_in : yX4_in.cls ≠ "java/lang/invoke/MethodHandle" ∧ yX4_in.cls ≠ "java/lang/invoke/VarHandle" ∧ (parseMethodDescriptor yX4_in.desc).map (fun d => d.parameters.length) = some 2 := by decide +kernel
theorem ct_X4_in {l : Launch} (g : sm_G) (TA : Nat → Prop) (a0 : Nat) (p0 : Int32) (p1 : Int32) : sm_CT l g (so_R g TA) (so_A g TA) yX4_in cX4_in 4 (some .int) 1 22 [.ref a0, .int p0, .int p1] em_i (f_X4_in g a0 p0 p1) := by
  refine sm_of (own := "PatchCordsModel") rfl rfl (bl rfl) (fun Y C hR hA hl hm => ?_)
  subst hl
  refine s_lv (L' := [(0, .ref a0), (1, .int p0), (2, .int p1)]) [0, 1, 2] rfl ?_
  refine s_top ?_
  unfold f_X4_in
  refine s_aload_n C dX4_in_0 1 rfl 0 rfl ?_
  refine s_iload_n C dX4_in_1 2 rfl 1 rfl ?_
  refine s_iconst (v := 5) C dX4_in_2 (by decide) 3 rfl ?_
  refine s_iload_n C dX4_in_3 4 rfl 2 rfl ?_
  refine s_iadd C dX4_in_4 5 rfl ?_
  refine s_call_i (rn_V (As := [.int p0, .int (5 + p1)]) C (ct_at hR hA (ct_on (ct_X4_of g TA a0 p0 (5 + p1)))) (rv_on C hR (q := vw_12) rfl) (lw_V q1916 q1918 qs44 q112 q1919) ⟨rfl, nv_X4_of⟩ ⟨by decide, by decide⟩ rfl (bl rfl) dX4_in_5) 8 rfl (fun x1 => ?_)
  refine s_istore_n C dX4_in_8 rfl (by decide) 9 rfl [(3, .int x1), (0, .ref a0), (1, .int p0), (2, .int p1)] rfl ?_
  refine s_iload_n C dX4_in_9 10 rfl 0 rfl ?_
  refine s_iconst (v := (-1)) C dX4_in_10 (by decide) 11 rfl ?_
  refine s_cut (J := 24) (LJ := (fun (v2 : Int32) => [])) (SJ := (fun (v2 : Int32) => [.int v2])) (fun v2 => ?_) (fun _ _ hK3 => ?_)
  · exact s_iret C rfl rfl dX4_in_24
  · refine s_icmp_ne C dX4_in_11 18 14 (by decide) rfl ?_ ?_
    · refine s_iconst (v := 0) C dX4_in_14 (by decide) 15 rfl ?_
      refine s_goto C dX4_in_15 24 (by decide) ?_
      refine s_r ?_
      refine s_lv [] rfl ?_
      exact hK3 0
    · refine s_aload_n C dX4_in_18 19 rfl 1 rfl ?_
      refine s_getR C hR fd_PatchCordsModel_outs (Or.inl q1816) dX4_in_19 22 rfl (fun x4 => ?_)
      refine s_iload_n C dX4_in_22 23 rfl 0 rfl ?_
      refine s_iald C hR dX4_in_23 24 rfl (fun x5 => ?_)
      refine s_r ?_
      refine s_lv [] rfl ?_
      exact hK3 x5
theorem nv_X4_weighted : yX4_weighted.cls ≠ "java/lang/invoke/MethodHandle" ∧ yX4_weighted.cls ≠ "java/lang/invoke/VarHandle" ∧ (parseMethodDescriptor yX4_weighted.desc).map (fun d => d.parameters.length) = some 1 := by decide +kernel
theorem ct_X4_weighted {l : Launch} (g : sm_G) (TA : Nat → Prop) (a0 : Nat) (p0 : Int32) : sm_CT l g (so_R g TA) (so_A g TA) yX4_weighted cX4_weighted 4 (some .int) 2 45 [.ref a0, .int p0] em_i (f_X4_weighted g a0 p0) := by
  refine sm_of (own := "PatchCordsModel") rfl rfl (bl rfl) (fun Y C hR hA hl hm => ?_)
  subst hl
  refine s_lv (L' := [(0, .ref a0), (1, .int p0)]) [0, 1] rfl ?_
  refine s_top ?_
  unfold f_X4_weighted
  refine s_iconst (v := 0) C dX4_weighted_0 (by decide) 1 rfl ?_
  refine s_istore_n C dX4_weighted_1 rfl (by decide) 2 rfl [(2, .int 0), (0, .ref a0), (1, .int p0)] rfl ?_
  refine s_iconst (v := 0) C dX4_weighted_2 (by decide) 3 rfl ?_
  refine s_istore_n C dX4_weighted_3 rfl (by decide) 4 rfl [(3, .int 0), (2, .int 0), (0, .ref a0), (1, .int p0)] rfl ?_
  refine s_lv [2, 3, 1, 0] rfl ?_
  refine s_loop (fun (s1 : Int32 × Int32) => [(0, .ref a0), (1, .int p0), (2, .int s1.1), (3, .int s1.2)]) (fun (v7 : Int32) => [(2, .int v7)]) 34 (0, 0) rfl (fun v7 => ?_) (fun _ s1 hk2 hx3 => ?_)
  · refine s_iload_n C dX4_weighted_34 35 rfl 0 rfl ?_
    exact s_iret C rfl rfl dX4_weighted_35
  · refine s_iload_n C dX4_weighted_4 5 rfl 3 rfl ?_
    refine s_iconst (v := 4) C dX4_weighted_5 (by decide) 6 rfl ?_
    refine s_icmp_ge C dX4_weighted_6 34 9 (by decide) rfl ?_ ?_
    · refine s_r ?_
      refine s_lv [2] rfl ?_
      exact hx3 s1.1
    · refine s_iload_n C dX4_weighted_9 10 rfl 2 rfl ?_
      refine s_aload_n C dX4_weighted_10 11 rfl 0 rfl ?_
      refine s_iload_n C dX4_weighted_11 12 rfl 1 rfl ?_
      refine s_bipush (v := 9) C dX4_weighted_12 (by decide) 14 rfl ?_
      refine s_iload_n C dX4_weighted_14 15 rfl 3 rfl ?_
      refine s_iadd C dX4_weighted_15 16 rfl ?_
      refine s_call_i (rn_V (As := [.int p0, .int (9 + s1.2)]) C (ct_at hR hA (ct_on (ct_X4_of g TA a0 p0 (9 + s1.2)))) (rv_on C hR (q := vw_12) rfl) (lw_V q1916 q1918 qs44 q112 q1919) ⟨rfl, nv_X4_of⟩ ⟨by decide, by decide⟩ rfl (bl rfl) dX4_weighted_16) 19 rfl (fun x4 => ?_)
      refine s_aload_n C dX4_weighted_19 20 rfl 0 rfl ?_
      refine s_iload_n C dX4_weighted_20 21 rfl 1 rfl ?_
      refine s_iload_n C dX4_weighted_21 22 rfl 3 rfl ?_
      refine s_call_i (rn_V (As := [.int p0, .int s1.2]) C (ct_at hR hA (ct_on (ct_X4_in g TA a0 p0 s1.2))) (rv_on C hR (q := vw_12) rfl) (lw_V q2027 q2029 qs64 q112 q2030) ⟨rfl, nv_X4_in⟩ ⟨by decide, by decide⟩ rfl (bl rfl) dX4_weighted_22) 25 rfl (fun x5 => ?_)
      refine s_imul C dX4_weighted_25 26 rfl ?_
      refine s_iadd C dX4_weighted_26 27 rfl ?_
      refine s_topi (fun x6 => ?_)
      refine s_istore_n C dX4_weighted_27 rfl (by decide) 28 rfl [(2, .int x6), (0, .ref a0), (1, .int p0), (3, .int s1.2)] rfl ?_
      refine s_iinc C dX4_weighted_28 (s1.2 + 1) rfl 3 rfl (by decide) 31 rfl [(3, .int (s1.2 + 1)), (2, .int x6), (0, .ref a0), (1, .int p0)] rfl ?_
      refine s_goto C dX4_weighted_31 4 (by decide) ?_
      refine s_r ?_
      refine s_lv [2, 3, 1, 0] rfl ?_
      exact hk2 (x6, s1.2 + 1)
theorem nv_X4_free : yX4_free.cls ≠ "java/lang/invoke/MethodHandle" ∧ yX4_free.cls ≠ "java/lang/invoke/VarHandle" ∧ (parseMethodDescriptor yX4_free.desc).map (fun d => d.parameters.length) = some 1 := by decide +kernel
theorem ct_X4_free {l : Launch} (g : sm_G) (TA : Nat → Prop) (a0 : Nat) (p0 : Int32) : sm_CT l g (so_R g TA) (so_A g TA) yX4_free cX4_free 3 (some .int) 3 68 [.ref a0, .int p0] em_i (f_X4_free g a0 p0) := by
  refine sm_of (own := "PatchCordsModel") rfl rfl (bl rfl) (fun Y C hR hA hl hm => ?_)
  subst hl
  refine s_lv (L' := [(0, .ref a0), (1, .int p0)]) [0, 1] rfl ?_
  refine s_top ?_
  unfold f_X4_free
  refine s_aload_n C dX4_free_0 1 rfl 0 rfl ?_
  refine s_iload_n C dX4_free_1 2 rfl 1 rfl ?_
  refine s_call_i (rn_V (As := [.int p0]) C (ct_at hR hA (ct_on (ct_X4_kind g TA a0 p0))) (rv_on C hR (q := vw_12) rfl) (lw_V q1912 q1914 qs43 q112 q1915) ⟨rfl, nv_X4_kind⟩ ⟨by decide, by decide⟩ rfl (bl rfl) dX4_free_2) 5 rfl (fun x1 => ?_)
  refine s_istore_n C dX4_free_5 rfl (by decide) 6 rfl [(2, .int x1), (0, .ref a0), (1, .int p0)] rfl ?_
  refine s_iload_n C dX4_free_6 7 rfl 0 rfl ?_
  refine s_cut (J := 131) (LJ := (fun (v2 : Int32) => [])) (SJ := (fun (v2 : Int32) => [.int v2])) (fun v2 => ?_) (fun _ _ hK3 => ?_)
  · exact s_iret C rfl rfl dX4_free_131
  · refine s_if_ne C dX4_free_7 19 10 (by decide) rfl ?_ ?_
    · refine s_aload_n C dX4_free_10 11 rfl 1 rfl ?_
      refine s_iload_n C dX4_free_11 12 rfl 2 rfl ?_
      refine s_call_i (rn_V (As := [.int p0]) C (ct_at hR hA (ct_on (ct_X4_weighted g TA a0 p0))) (rv_on C hR (q := vw_12) rfl) (lw_V q2023 q2025 qs63 q112 q2026) ⟨rfl, nv_X4_weighted⟩ ⟨by decide, by decide⟩ rfl (bl rfl) dX4_free_12) 15 rfl (fun x14 => ?_)
      refine s_ineg C dX4_free_15 16 rfl ?_
      refine s_goto C dX4_free_16 131 (by decide) ?_
      refine s_r ?_
      refine s_lv [] rfl ?_
      exact hK3 (-x14)
    · refine s_iload_n C dX4_free_19 20 rfl 0 rfl ?_
      refine s_iconst (v := 1) C dX4_free_20 (by decide) 21 rfl ?_
      refine s_icmp_ne C dX4_free_21 37 24 (by decide) rfl ?_ ?_
      · refine s_aload_n C dX4_free_24 25 rfl 1 rfl ?_
        refine s_iload_n C dX4_free_25 26 rfl 2 rfl ?_
        refine s_iconst (v := 3) C dX4_free_26 (by decide) 27 rfl ?_
        refine s_call_i (rn_V (As := [.int p0, .int 3]) C (ct_at hR hA (ct_on (ct_X4_of g TA a0 p0 3))) (rv_on C hR (q := vw_12) rfl) (lw_V q1916 q1918 qs44 q112 q1919) ⟨rfl, nv_X4_of⟩ ⟨by decide, by decide⟩ rfl (bl rfl) dX4_free_27) 30 rfl (fun x13 => ?_)
        refine s_sipush (v := 1000) C dX4_free_30 (by decide) 33 rfl ?_
        refine s_idiv C dX4_free_33 (by decide) 34 rfl ?_
        refine s_goto C dX4_free_34 131 (by decide) ?_
        refine s_r ?_
        refine s_lv [] rfl ?_
        exact hK3 (x13 / 1000)
      · refine s_iload_n C dX4_free_37 38 rfl 0 rfl ?_
        refine s_iconst (v := 2) C dX4_free_38 (by decide) 39 rfl ?_
        refine s_icmp_ne C dX4_free_39 62 42 (by decide) rfl ?_ ?_
        · refine s_aload_n C dX4_free_42 43 rfl 1 rfl ?_
          refine s_iload_n C dX4_free_43 44 rfl 2 rfl ?_
          refine s_iconst (v := 0) C dX4_free_44 (by decide) 45 rfl ?_
          refine s_call_i (rn_V (As := [.int p0, .int 0]) C (ct_at hR hA (ct_on (ct_X4_in g TA a0 p0 0))) (rv_on C hR (q := vw_12) rfl) (lw_V q2027 q2029 qs64 q112 q2030) ⟨rfl, nv_X4_in⟩ ⟨by decide, by decide⟩ rfl (bl rfl) dX4_free_45) 48 rfl (fun x11 => ?_)
          refine s_aload_n C dX4_free_48 49 rfl 1 rfl ?_
          refine s_iload_n C dX4_free_49 50 rfl 2 rfl ?_
          refine s_iconst (v := 1) C dX4_free_50 (by decide) 51 rfl ?_
          refine s_call_i (rn_V (As := [.int p0, .int 1]) C (ct_at hR hA (ct_on (ct_X4_of g TA a0 p0 1))) (rv_on C hR (q := vw_12) rfl) (lw_V q1916 q1918 qs44 q112 q1919) ⟨rfl, nv_X4_of⟩ ⟨by decide, by decide⟩ rfl (bl rfl) dX4_free_51) 54 rfl (fun x12 => ?_)
          refine s_imul C dX4_free_54 55 rfl ?_
          refine s_sipush (v := 1000) C dX4_free_55 (by decide) 58 rfl ?_
          refine s_idiv C dX4_free_58 (by decide) 59 rfl ?_
          refine s_goto C dX4_free_59 131 (by decide) ?_
          refine s_r ?_
          refine s_lv [] rfl ?_
          exact hK3 ((x11 * x12) / 1000)
        · refine s_iload_n C dX4_free_62 63 rfl 0 rfl ?_
          refine s_iconst (v := 3) C dX4_free_63 (by decide) 64 rfl ?_
          refine s_icmp_ne C dX4_free_64 87 67 (by decide) rfl ?_ ?_
          · refine s_aload_n C dX4_free_67 68 rfl 1 rfl ?_
            refine s_iload_n C dX4_free_68 69 rfl 2 rfl ?_
            refine s_iconst (v := 0) C dX4_free_69 (by decide) 70 rfl ?_
            refine s_call_i (rn_V (As := [.int p0, .int 0]) C (ct_at hR hA (ct_on (ct_X4_in g TA a0 p0 0))) (rv_on C hR (q := vw_12) rfl) (lw_V q2027 q2029 qs64 q112 q2030) ⟨rfl, nv_X4_in⟩ ⟨by decide, by decide⟩ rfl (bl rfl) dX4_free_70) 73 rfl (fun x9 => ?_)
            refine s_aload_n C dX4_free_73 74 rfl 1 rfl ?_
            refine s_iload_n C dX4_free_74 75 rfl 2 rfl ?_
            refine s_iconst (v := 1) C dX4_free_75 (by decide) 76 rfl ?_
            refine s_call_i (rn_V (As := [.int p0, .int 1]) C (ct_at hR hA (ct_on (ct_X4_in g TA a0 p0 1))) (rv_on C hR (q := vw_12) rfl) (lw_V q2027 q2029 qs64 q112 q2030) ⟨rfl, nv_X4_in⟩ ⟨by decide, by decide⟩ rfl (bl rfl) dX4_free_76) 79 rfl (fun x10 => ?_)
            refine s_imul C dX4_free_79 80 rfl ?_
            refine s_sipush (v := 10000) C dX4_free_80 (by decide) 83 rfl ?_
            refine s_idiv C dX4_free_83 (by decide) 84 rfl ?_
            refine s_goto C dX4_free_84 131 (by decide) ?_
            refine s_r ?_
            refine s_lv [] rfl ?_
            exact hK3 ((x9 * x10) / 10000)
          · refine s_iload_n C dX4_free_87 88 rfl 0 rfl ?_
            refine s_iconst (v := 4) C dX4_free_88 (by decide) 89 rfl ?_
            refine s_icmp_ne C dX4_free_89 125 92 (by decide) rfl ?_ ?_
            · refine s_aload_n C dX4_free_92 93 rfl 1 rfl ?_
              refine s_iload_n C dX4_free_93 94 rfl 2 rfl ?_
              refine s_iconst (v := 0) C dX4_free_94 (by decide) 95 rfl ?_
              refine s_call_i (rn_V (As := [.int p0, .int 0]) C (ct_at hR hA (ct_on (ct_X4_in g TA a0 p0 0))) (rv_on C hR (q := vw_12) rfl) (lw_V q2027 q2029 qs64 q112 q2030) ⟨rfl, nv_X4_in⟩ ⟨by decide, by decide⟩ rfl (bl rfl) dX4_free_95) 98 rfl (fun x5 => ?_)
              refine s_aload_n C dX4_free_98 99 rfl 1 rfl ?_
              refine s_iload_n C dX4_free_99 100 rfl 2 rfl ?_
              refine s_iconst (v := 1) C dX4_free_100 (by decide) 101 rfl ?_
              refine s_call_i (rn_V (As := [.int p0, .int 1]) C (ct_at hR hA (ct_on (ct_X4_in g TA a0 p0 1))) (rv_on C hR (q := vw_12) rfl) (lw_V q2027 q2029 qs64 q112 q2030) ⟨rfl, nv_X4_in⟩ ⟨by decide, by decide⟩ rfl (bl rfl) dX4_free_101) 104 rfl (fun x6 => ?_)
              refine s_icmp_lt C dX4_free_104 116 107 (by decide) rfl ?_ ?_
              · refine s_aload_n C dX4_free_116 117 rfl 1 rfl ?_
                refine s_iload_n C dX4_free_117 118 rfl 2 rfl ?_
                refine s_iconst (v := 3) C dX4_free_118 (by decide) 119 rfl ?_
                refine s_call_i (rn_V (As := [.int p0, .int 3]) C (ct_at hR hA (ct_on (ct_X4_in g TA a0 p0 3))) (rv_on C hR (q := vw_12) rfl) (lw_V q2027 q2029 qs64 q112 q2030) ⟨rfl, nv_X4_in⟩ ⟨by decide, by decide⟩ rfl (bl rfl) dX4_free_119) 122 rfl (fun x7 => ?_)
                refine s_goto C dX4_free_122 131 (by decide) ?_
                refine s_r ?_
                refine s_lv [] rfl ?_
                exact hK3 x7
              · refine s_aload_n C dX4_free_107 108 rfl 1 rfl ?_
                refine s_iload_n C dX4_free_108 109 rfl 2 rfl ?_
                refine s_iconst (v := 2) C dX4_free_109 (by decide) 110 rfl ?_
                refine s_call_i (rn_V (As := [.int p0, .int 2]) C (ct_at hR hA (ct_on (ct_X4_in g TA a0 p0 2))) (rv_on C hR (q := vw_12) rfl) (lw_V q2027 q2029 qs64 q112 q2030) ⟨rfl, nv_X4_in⟩ ⟨by decide, by decide⟩ rfl (bl rfl) dX4_free_110) 113 rfl (fun x8 => ?_)
                refine s_goto C dX4_free_113 131 (by decide) ?_
                refine s_r ?_
                refine s_lv [] rfl ?_
                exact hK3 x8
            · refine s_aload_n C dX4_free_125 126 rfl 1 rfl ?_
              refine s_iload_n C dX4_free_126 127 rfl 2 rfl ?_
              refine s_iconst (v := 1) C dX4_free_127 (by decide) 128 rfl ?_
              refine s_call_i (rn_V (As := [.int p0, .int 1]) C (ct_at hR hA (ct_on (ct_X4_of g TA a0 p0 1))) (rv_on C hR (q := vw_12) rfl) (lw_V q1916 q1918 qs44 q112 q1919) ⟨rfl, nv_X4_of⟩ ⟨by decide, by decide⟩ rfl (bl rfl) dX4_free_128) 131 rfl (fun x4 => ?_)
              refine s_r ?_
              refine s_lv [] rfl ?_
              exact hK3 x4
theorem nv_X4_held : yX4_held.cls ≠ "java/lang/invoke/MethodHandle" ∧ yX4_held.cls ≠ "java/lang/invoke/VarHandle" ∧ (parseMethodDescriptor yX4_held.desc).map (fun d => d.parameters.length) = some 2 := by decide +kernel
theorem ct_X4_held {l : Launch} (g : sm_G) (TA : Nat → Prop) (p0 : Int32) (p1 : Int32) : sm_CT l g (so_R g TA) (so_A g TA) yX4_held cX4_held 2 (some .int) 0 0 [.int p0, .int p1] em_i (f_X4_held g p0 p1) := by
  refine sm_of (own := "PatchCordsModel") rfl rfl (bl rfl) (fun Y C hR hA hl hm => ?_)
  subst hl
  refine s_lv (L' := [(0, .int p0), (1, .int p1)]) [0, 1] rfl ?_
  refine s_top ?_
  unfold f_X4_held
  refine s_iload_n C dX4_held_0 1 rfl 0 rfl ?_
  refine s_iload_n C dX4_held_1 2 rfl 1 rfl ?_
  refine s_cut (J := 21) (LJ := (fun (v1 : Int32) => [])) (SJ := (fun (v1 : Int32) => [.int v1])) (fun v1 => ?_) (fun _ _ hK2 => ?_)
  · exact s_iret C rfl rfl dX4_held_21
  · refine s_icmp_le C dX4_held_2 9 5 (by decide) rfl ?_ ?_
    · refine s_iload_n C dX4_held_9 10 rfl 0 rfl ?_
      refine s_iload_n C dX4_held_10 11 rfl 1 rfl ?_
      refine s_ineg C dX4_held_11 12 rfl ?_
      refine s_icmp_ge C dX4_held_12 20 15 (by decide) rfl ?_ ?_
      · refine s_iload_n C dX4_held_20 21 rfl 0 rfl ?_
        refine s_r ?_
        refine s_lv [] rfl ?_
        exact hK2 p0
      · refine s_iload_n C dX4_held_15 16 rfl 1 rfl ?_
        refine s_ineg C dX4_held_16 17 rfl ?_
        refine s_goto C dX4_held_17 21 (by decide) ?_
        refine s_r ?_
        refine s_lv [] rfl ?_
        exact hK2 (-p1)
    · refine s_iload_n C dX4_held_5 6 rfl 1 rfl ?_
      refine s_goto C dX4_held_6 21 (by decide) ?_
      refine s_r ?_
      refine s_lv [] rfl ?_
      exact hK2 p1
theorem nv_X4_size : yX4_size.cls ≠ "java/lang/invoke/MethodHandle" ∧ yX4_size.cls ≠ "java/lang/invoke/VarHandle" ∧ (parseMethodDescriptor yX4_size.desc).map (fun d => d.parameters.length) = some 1 := by decide +kernel
theorem ct_X4_size {l : Launch} (g : sm_G) (TA : Nat → Prop) (p0 : Int32) : sm_CT l g (so_R g TA) (so_A g TA) yX4_size cX4_size 1 (some .int) 0 0 [.int p0] em_i (f_X4_size g p0) := by
  refine sm_of (own := "PatchCordsModel") rfl rfl (bl rfl) (fun Y C hR hA hl hm => ?_)
  subst hl
  refine s_lv (L' := [(0, .int p0)]) [0] rfl ?_
  refine s_top ?_
  unfold f_X4_size
  refine s_iload_n C dX4_size_0 1 rfl 0 rfl ?_
  refine s_cut (J := 10) (LJ := (fun (v1 : Int32) => [])) (SJ := (fun (v1 : Int32) => [.int v1])) (fun v1 => ?_) (fun _ _ hK2 => ?_)
  · exact s_iret C rfl rfl dX4_size_10
  · refine s_if_ge C dX4_size_1 9 4 (by decide) rfl ?_ ?_
    · refine s_iload_n C dX4_size_9 10 rfl 0 rfl ?_
      refine s_r ?_
      refine s_lv [] rfl ?_
      exact hK2 p0
    · refine s_iload_n C dX4_size_4 5 rfl 0 rfl ?_
      refine s_ineg C dX4_size_5 6 rfl ?_
      refine s_goto C dX4_size_6 10 (by decide) ?_
      refine s_r ?_
      refine s_lv [] rfl ?_
      exact hK2 (-p0)
