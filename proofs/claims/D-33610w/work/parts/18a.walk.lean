/-! THE WALKS -/
theorem nv_J0_init : yJ0_init.cls ≠ "java/lang/invoke/MethodHandle" ∧ yJ0_init.cls ≠ "java/lang/invoke/VarHandle" ∧ (parseMethodDescriptor yJ0_init.desc).map (fun d => d.parameters.length) = some 0 := by decide +kernel
theorem ct_J0_init {l : Launch} (g : sm_G) (TA : Nat → Prop) (a0 : Nat) : sm_CT l g (so_R g TA) (so_A g TA) yJ0_init cJ0_init 1 none 1 12 [.ref a0] em_v (f_J0_init g a0) := by
  refine sm_of (own := "java/util/AbstractCollection") rfl rfl (bl rfl) (fun Y C hR hA hl hm => ?_)
  subst hl
  refine s_lv (L' := [(0, .ref a0)]) [0] rfl ?_
  refine s_top ?_
  unfold f_J0_init
  refine s_aload_n C dJ0_init_0 1 rfl 0 rfl ?_
  refine s_objInit C q166 q147 q148 (by decide) (bl rfl) dJ0_init_1 4 rfl ?_
  exact s_vret C rfl dJ0_init_4
theorem nv_J1_init : yJ1_init.cls ≠ "java/lang/invoke/MethodHandle" ∧ yJ1_init.cls ≠ "java/lang/invoke/VarHandle" ∧ (parseMethodDescriptor yJ1_init.desc).map (fun d => d.parameters.length) = some 0 := by decide +kernel
theorem ct_J1_init {l : Launch} (g : sm_G) (TA : Nat → Prop) (a0 : Nat) : sm_CT l g (so_R g TA) (so_A g TA) yJ1_init cJ1_init 1 none 2 32 [.ref a0] em_v (f_J1_init g a0) := by
  refine sm_of (own := "java/util/AbstractList") rfl rfl (bl rfl) (fun Y C hR hA hl hm => ?_)
  subst hl
  refine s_lv (L' := [(0, .ref a0)]) [0] rfl ?_
  refine s_top ?_
  unfold f_J1_init
  refine s_aload_n C dJ1_init_0 1 rfl 0 rfl ?_
  refine s_call_v (rn_I (As := []) C (ct_at hR hA (ct_J0_init g TA a0)) q163 q164 q103 q165 rfl nv_J0_init ⟨by decide, by decide⟩ rfl (bl rfl) dJ1_init_1) 4 rfl ?_
  refine s_aload_n C dJ1_init_4 5 rfl 0 rfl ?_
  refine s_iconst (v := 0) C dJ1_init_5 (by decide) 6 rfl ?_
  refine s_put C hR hA fd_AbstractList_modCount (Or.inl q171) dJ1_init_6 rfl rfl 9 rfl ?_
  exact s_vret C rfl dJ1_init_9
theorem nv_J2_init : yJ2_init.cls ≠ "java/lang/invoke/MethodHandle" ∧ yJ2_init.cls ≠ "java/lang/invoke/VarHandle" ∧ (parseMethodDescriptor yJ2_init.desc).map (fun d => d.parameters.length) = some 0 := by decide +kernel
theorem ct_J2_init {l : Launch} (g : sm_G) (TA : Nat → Prop) (a0 : Nat) : sm_CT l g (so_R g TA) (so_A g TA) yJ2_init cJ2_init 1 none 3 52 [.ref a0] em_v (f_J2_init g a0) := by
  refine sm_of (own := "java/util/ArrayList") rfl rfl (bl rfl) (fun Y C hR hA hl hm => ?_)
  subst hl
  refine s_lv (L' := [(0, .ref a0)]) [0] rfl ?_
  refine s_top ?_
  unfold f_J2_init
  refine s_aload_n C dJ2_init_0 1 rfl 0 rfl ?_
  refine s_call_v (rn_I (As := []) C (ct_at hR hA (ct_J1_init g TA a0)) q160 q161 q104 q162 rfl nv_J1_init ⟨by decide, by decide⟩ rfl (bl rfl) dJ2_init_1) 4 rfl ?_
  refine s_aload_n C dJ2_init_4 5 rfl 0 rfl ?_
  refine s_gets C C.k.2.2.2.2.2.2.1 q167 dJ2_init_5 8 rfl ?_
  refine s_put C hR hA fd_ArrayList_elementData (Or.inl q169) dJ2_init_8 rfl rfl 11 rfl ?_
  exact s_vret C rfl dJ2_init_11
theorem nv_X2_init : yX2_init.cls ≠ "java/lang/invoke/MethodHandle" ∧ yX2_init.cls ≠ "java/lang/invoke/VarHandle" ∧ (parseMethodDescriptor yX2_init.desc).map (fun d => d.parameters.length) = some 0 := by decide +kernel
theorem ct_X2_init {l : Launch} (g : sm_G) (TA : Nat → Prop) (a0 : Nat) : sm_CT l g (so_R g TA) (so_A g TA) yX2_init cX2_init 1 none 4 72 [.ref a0] em_v (f_X2_init g a0) := by
  refine sm_of (own := "PatchCords$Panel") rfl rfl (bl rfl) (fun Y C hR hA hl hm => ?_)
  subst hl
  refine s_lv (L' := [(0, .ref a0)]) [0] rfl ?_
  refine s_top ?_
  unfold f_X2_init
  refine s_aload_n C dX2_init_0 1 rfl 0 rfl ?_
  refine s_objInit C q154 q147 q148 (by decide) (bl rfl) dX2_init_1 4 rfl ?_
  refine s_aload_n C dX2_init_4 5 rfl 0 rfl ?_
  refine s_new C hR cd_10 rfl df_10 q155 q156 q105 dX2_init_5 8 rfl (fun x1 => ?_)
  refine s_dup C dX2_init_8 rfl 9 rfl ?_
  refine s_call_v (rn_I (As := []) C (ct_at hR hA (ct_J2_init g TA x1)) q157 q158 q105 q159 rfl nv_J2_init ⟨by decide, by decide⟩ rfl (bl rfl) dX2_init_9) 12 rfl ?_
  refine s_putF C hR hA fd_PatchCords_Panel_parts q183 dX2_init_12 hm rfl rfl 15 rfl ?_
  refine s_aload_n C dX2_init_15 16 rfl 0 rfl ?_
  refine s_bipush (v := 16) C dX2_init_16 (by decide) 18 rfl ?_
  refine s_newa C hR 0 .int rfl (fun _ => rfl) (fun _ h => by cases h) (by decide) q237 dX2_init_18 20 rfl (fun x3 => ?_)
  refine s_putF C hR hA fd_PatchCords_Panel_order q184 dX2_init_20 hm rfl rfl 23 rfl ?_
  refine s_aload_n C dX2_init_23 24 rfl 0 rfl ?_
  refine s_bipush (v := 16) C dX2_init_24 (by decide) 26 rfl ?_
  refine s_newa C hR 0 .int rfl (fun _ => rfl) (fun _ h => by cases h) (by decide) q237 dX2_init_26 28 rfl (fun x4 => ?_)
  refine s_putF C hR hA fd_PatchCords_Panel_outputs q185 dX2_init_28 hm rfl rfl 31 rfl ?_
  refine s_aload_n C dX2_init_31 32 rfl 0 rfl ?_
  refine s_iconst (v := 4) C dX2_init_32 (by decide) 33 rfl ?_
  refine s_newa C hR 0 .int rfl (fun _ => rfl) (fun _ h => by cases h) (by decide) q237 dX2_init_33 35 rfl (fun x5 => ?_)
  refine s_putF C hR hA fd_PatchCords_Panel_in q187 dX2_init_35 hm rfl rfl 38 rfl ?_
  refine s_aload_n C dX2_init_38 39 rfl 0 rfl ?_
  refine s_bipush (v := 24) C dX2_init_39 (by decide) 41 rfl ?_
  refine s_newa C hR 0 .int rfl (fun _ => rfl) (fun _ h => by cases h) (by decide) q237 dX2_init_41 43 rfl (fun x6 => ?_)
  refine s_putF C hR hA fd_PatchCords_Panel_records q189 dX2_init_43 hm rfl rfl 46 rfl ?_
  refine s_aload_n C dX2_init_46 47 rfl 0 rfl ?_
  refine s_gets C C.k.2.2.2.2.1 q181 dX2_init_47 50 rfl ?_
  refine s_put C hR hA fd_PatchCords_Panel_way (Or.inl q191) dX2_init_50 rfl rfl 53 rfl ?_
  refine s_aload_n C dX2_init_53 54 rfl 0 rfl ?_
  refine s_iconst (v := (-1)) C dX2_init_54 (by decide) 55 rfl ?_
  refine s_put C hR hA fd_PatchCords_Panel_recorded (Or.inl q199) dX2_init_55 rfl rfl 58 rfl ?_
  refine s_aload_n C dX2_init_58 59 rfl 0 rfl ?_
  refine s_iconst (v := (-1)) C dX2_init_59 (by decide) 60 rfl ?_
  refine s_put C hR hA fd_PatchCords_Panel_beat (Or.inl q206) dX2_init_60 rfl rfl 63 rfl ?_
  exact s_vret C rfl dX2_init_63
theorem nv_J4_init : yJ4_init.cls ≠ "java/lang/invoke/MethodHandle" ∧ yJ4_init.cls ≠ "java/lang/invoke/VarHandle" ∧ (parseMethodDescriptor yJ4_init.desc).map (fun d => d.parameters.length) = some 1 := by decide +kernel
theorem ct_J4_init {l : Launch} (g : sm_G) (TA : Nat → Prop) (a0 : Nat) (p0 : Int32) : sm_CT l g (so_R g TA) (so_A g TA) yJ4_init cJ4_init 2 none 1 12 [.ref a0, .int p0] em_v (f_J4_init g a0 p0) := by
  refine sm_of (own := "java/lang/AbstractStringBuilder") rfl rfl (bl rfl) (fun Y C hR hA hl hm => ?_)
  subst hl
  refine s_lv (L' := [(0, .ref a0), (1, .int p0)]) [0, 1] rfl ?_
  refine s_top ?_
  unfold f_J4_init
  refine s_aload_n C dJ4_init_0 1 rfl 0 rfl ?_
  refine s_objInit C q248 q147 q148 (by decide) (bl rfl) dJ4_init_1 4 rfl ?_
  refine s_gets C C.k.2.2.2.2.2.2.2.1 q249 dJ4_init_4 7 rfl ?_
  refine s_cut (J := 10) (LJ := (fun (v1 : Unit) => [(0, .ref a0), (1, .int p0)])) (SJ := (fun (v1 : Unit) => [])) (fun v1 => ?_) (fun _ _ hK2 => ?_)
  · refine s_aload_n C dJ4_init_10 11 rfl 0 rfl ?_
    refine s_iload_n C dJ4_init_11 12 rfl 1 rfl ?_
    refine s_newa C hR 2 .byte rfl (fun _ => rfl) (fun _ h => by cases h) (by decide) q272 dJ4_init_12 14 rfl (fun x3 => ?_)
    refine s_put C hR hA fd_AbstractStringBuilder_value (Or.inl q258) dJ4_init_14 rfl rfl 17 rfl ?_
    refine s_aload_n C dJ4_init_17 18 rfl 0 rfl ?_
    refine s_iconst (v := 0) C dJ4_init_18 (by decide) 19 rfl ?_
    refine s_put C hR hA fd_AbstractStringBuilder_coder (Or.inl q259) dJ4_init_19 rfl rfl 22 rfl ?_
    refine s_goto C dJ4_init_22 38 (by decide) ?_
    exact s_vret C rfl dJ4_init_38
  · refine s_if_eq C dJ4_init_7 25 10 (by decide) rfl ?_ ?_
    · exact s_none1
    · refine s_r ?_
      refine s_lv [0, 1] rfl ?_
      exact hK2 ()
theorem nv_J5_init : yJ5_init.cls ≠ "java/lang/invoke/MethodHandle" ∧ yJ5_init.cls ≠ "java/lang/invoke/VarHandle" ∧ (parseMethodDescriptor yJ5_init.desc).map (fun d => d.parameters.length) = some 1 := by decide +kernel
theorem ct_J5_init {l : Launch} (g : sm_G) (TA : Nat → Prop) (a0 : Nat) (p0 : Int32) : sm_CT l g (so_R g TA) (so_A g TA) yJ5_init cJ5_init 2 none 2 33 [.ref a0, .int p0] em_v (f_J5_init g a0 p0) := by
  refine sm_of (own := "java/lang/StringBuilder") rfl rfl (bl rfl) (fun Y C hR hA hl hm => ?_)
  subst hl
  refine s_lv (L' := [(0, .ref a0), (1, .int p0)]) [0, 1] rfl ?_
  refine s_top ?_
  unfold f_J5_init
  refine s_aload_n C dJ5_init_0 1 rfl 0 rfl ?_
  refine s_iload_n C dJ5_init_1 2 rfl 1 rfl ?_
  refine s_call_v (rn_I (As := [.int p0]) C (ct_at hR hA (ct_J4_init g TA a0 p0)) q245 q246 q108 q247 rfl nv_J4_init ⟨by decide, by decide⟩ rfl (bl rfl) dJ5_init_2) 5 rfl ?_
  exact s_vret C rfl dJ5_init_5
theorem nv_X1_init : yX1_init.cls ≠ "java/lang/invoke/MethodHandle" ∧ yX1_init.cls ≠ "java/lang/invoke/VarHandle" ∧ (parseMethodDescriptor yX1_init.desc).map (fun d => d.parameters.length) = some 0 := by decide +kernel
theorem ct_X1_init {l : Launch} (g : sm_G) (TA : Nat → Prop) (a0 : Nat) : sm_CT l g (so_R g TA) (so_A g TA) yX1_init cX1_init 1 none 5 92 [.ref a0] em_v (f_X1_init g a0) := by
  refine sm_of (own := "PatchCords") rfl rfl (bl rfl) (fun Y C hR hA hl hm => ?_)
  subst hl
  refine s_lv (L' := [(0, .ref a0)]) [0] rfl ?_
  refine s_top ?_
  unfold f_X1_init
  refine s_aload_n C dX1_init_0 1 rfl 0 rfl ?_
  refine s_objInit C q146 q147 q148 (by decide) (bl rfl) dX1_init_1 4 rfl ?_
  refine s_aload_n C dX1_init_4 5 rfl 0 rfl ?_
  refine s_new C hR cd_1 rfl df_1 q149 q150 q102 dX1_init_5 8 rfl (fun x1 => ?_)
  refine s_dup C dX1_init_8 rfl 9 rfl ?_
  refine s_call_v (rn_IN (As := []) C (ct_at hR hA (ct_X2_init g TA x1)) q151 q152 q102 q153 rfl nv_X2_init ⟨by decide, by decide⟩ rfl (bl rfl) dX1_init_9) 12 rfl ?_
  refine s_put C hR hA fd_PatchCords_panel (Or.inl q273) dX1_init_12 rfl rfl 15 rfl ?_
  refine s_aload_n C dX1_init_15 16 rfl 0 rfl ?_
  refine s_new C hR cd_10 rfl df_10 q238 q156 q105 dX1_init_16 19 rfl (fun x3 => ?_)
  refine s_dup C dX1_init_19 rfl 20 rfl ?_
  refine s_call_v (rn_I (As := []) C (ct_at hR hA (ct_J2_init g TA x3)) q239 q158 q105 q159 rfl nv_J2_init ⟨by decide, by decide⟩ rfl (bl rfl) dX1_init_20) 23 rfl ?_
  refine s_putF C hR hA fd_PatchCords_saved q275 dX1_init_23 hm rfl rfl 26 rfl ?_
  refine s_aload_n C dX1_init_26 27 rfl 0 rfl ?_
  refine s_new C hR cd_11 rfl df_11 q240 q241 q109 dX1_init_27 30 rfl (fun x5 => ?_)
  refine s_dup C dX1_init_30 rfl 31 rfl ?_
  refine s_bipush (v := 60) C dX1_init_31 (by decide) 33 rfl ?_
  refine s_call_v (rn_I (As := [.int 60]) C (ct_at hR hA (ct_J5_init g TA x5 60)) q242 q243 q109 q244 rfl nv_J5_init ⟨by decide, by decide⟩ rfl (bl rfl) dX1_init_33) 36 rfl ?_
  refine s_putF C hR hA fd_PatchCords_text q276 dX1_init_36 hm rfl rfl 39 rfl ?_
  exact s_vret C rfl dX1_init_39
theorem nv_J2_size : yJ2_size.cls ≠ "java/lang/invoke/MethodHandle" ∧ yJ2_size.cls ≠ "java/lang/invoke/VarHandle" ∧ (parseMethodDescriptor yJ2_size.desc).map (fun d => d.parameters.length) = some 0 := by decide +kernel
theorem ct_J2_size {l : Launch} (g : sm_G) (TA : Nat → Prop) (a0 : Nat) : sm_CT l g (so_R g TA) (so_A g TA) yJ2_size cJ2_size 1 (some .int) 0 0 [.ref a0] em_i (f_J2_size g a0) := by
  refine sm_of (own := "java/util/ArrayList") rfl rfl (bl rfl) (fun Y C hR hA hl hm => ?_)
  subst hl
  refine s_lv (L' := [(0, .ref a0)]) [0] rfl ?_
  refine s_top ?_
  unfold f_J2_size
  refine s_aload_n C dJ2_size_0 1 rfl 0 rfl ?_
  refine s_getI C hR fd_ArrayList_size (Or.inl q170) dJ2_size_1 4 rfl (fun x1 => ?_)
  exact s_iret C rfl rfl dJ2_size_4
theorem nv_J14_checkIndex : yJ14_checkIndex.cls ≠ "java/lang/invoke/MethodHandle" ∧ yJ14_checkIndex.cls ≠ "java/lang/invoke/VarHandle" ∧ (parseMethodDescriptor yJ14_checkIndex.desc).map (fun d => d.parameters.length) = some 3 := by decide +kernel
theorem ct_J14_checkIndex {l : Launch} (g : sm_G) (TA : Nat → Prop) (p0 : Int32) (p1 : Int32) (p2 : Option Nat) : sm_CT l g (so_R g TA) (so_A g TA) yJ14_checkIndex cJ14_checkIndex 3 (some .int) 0 0 [.int p0, .int p1, va_rf p2] em_i (f_J14_checkIndex g p0 p1 p2) := by
  refine sm_of (own := "jdk/internal/util/Preconditions") rfl rfl (by cases p2 <;> exact bl rfl) (fun Y C hR hA hl hm => ?_)
  subst hl
  refine s_lv (L' := [(0, .int p0), (1, .int p1)]) [0, 1] rfl ?_
  refine s_top ?_
  unfold f_J14_checkIndex
  refine s_iload_n C dJ14_checkIndex_0 1 rfl 0 rfl ?_
  refine s_cut (J := 4) (LJ := (fun (v1 : Unit) => [(0, .int p0), (1, .int p1)])) (SJ := (fun (v1 : Unit) => [])) (fun v1 => ?_) (fun _ _ hK2 => ?_)
  · refine s_iload_n C dJ14_checkIndex_4 5 rfl 0 rfl ?_
    refine s_iload_n C dJ14_checkIndex_5 6 rfl 1 rfl ?_
    refine s_cut (J := 16) (LJ := (fun (v3 : Unit) => [(0, .int p0)])) (SJ := (fun (v3 : Unit) => [])) (fun v3 => ?_) (fun _ _ hK4 => ?_)
    · refine s_iload_n C dJ14_checkIndex_16 17 rfl 0 rfl ?_
      exact s_iret C rfl rfl dJ14_checkIndex_17
    · refine s_icmp_lt C dJ14_checkIndex_6 16 9 (by decide) rfl ?_ ?_
      · refine s_r ?_
        refine s_lv [0] rfl ?_
        exact hK4 ()
      · exact s_none1
  · refine s_if_lt C dJ14_checkIndex_1 9 4 (by decide) rfl ?_ ?_
    · exact s_none1
    · refine s_r ?_
      refine s_lv [0, 1] rfl ?_
      exact hK2 ()
theorem nv_J13_checkIndex : yJ13_checkIndex.cls ≠ "java/lang/invoke/MethodHandle" ∧ yJ13_checkIndex.cls ≠ "java/lang/invoke/VarHandle" ∧ (parseMethodDescriptor yJ13_checkIndex.desc).map (fun d => d.parameters.length) = some 2 := by decide +kernel
theorem ct_J13_checkIndex {l : Launch} (g : sm_G) (TA : Nat → Prop) (p0 : Int32) (p1 : Int32) : sm_CT l g (so_R g TA) (so_A g TA) yJ13_checkIndex cJ13_checkIndex 2 (some .int) 1 22 [.int p0, .int p1] em_i (f_J13_checkIndex g p0 p1) := by
  refine sm_of (own := "java/util/Objects") rfl rfl (bl rfl) (fun Y C hR hA hl hm => ?_)
  subst hl
  refine s_lv (L' := [(0, .int p0), (1, .int p1)]) [0, 1] rfl ?_
  refine s_top ?_
  unfold f_J13_checkIndex
  refine s_iload_n C dJ13_checkIndex_0 1 rfl 0 rfl ?_
  refine s_iload_n C dJ13_checkIndex_1 2 rfl 1 rfl ?_
  refine s_null C dJ13_checkIndex_2 3 rfl ?_
  refine s_call_i (rn_S (As := [.int p0, .int p1, .null]) C (ct_at hR hA (ct_J14_checkIndex g TA p0 p1 none)) (lw_S q307 q308 q119 q309) nv_J14_checkIndex ⟨by decide, by decide⟩ rfl (bl rfl) dJ13_checkIndex_3) 6 rfl (fun x1 => ?_)
  exact s_iret C rfl rfl dJ13_checkIndex_6
theorem nv_J2_elementData : yJ2_elementData.cls ≠ "java/lang/invoke/MethodHandle" ∧ yJ2_elementData.cls ≠ "java/lang/invoke/VarHandle" ∧ (parseMethodDescriptor yJ2_elementData.desc).map (fun d => d.parameters.length) = some 1 := by decide +kernel
theorem ct_J2_elementData {l : Launch} (g : sm_G) (TA : Nat → Prop) (a0 : Nat) (p0 : Int32) : sm_CT l g (so_R g TA) (so_A g TA) yJ2_elementData cJ2_elementData 2 (some (.object "java/lang/Object")) 0 0 [.ref a0, .int p0] em_q (f_J2_elementData g a0 p0) := by
  refine sm_of (own := "java/util/ArrayList") rfl rfl (bl rfl) (fun Y C hR hA hl hm => ?_)
  subst hl
  refine s_lv (L' := [(0, .ref a0), (1, .int p0)]) [0, 1] rfl ?_
  refine s_top ?_
  unfold f_J2_elementData
  refine s_aload_n C dJ2_elementData_0 1 rfl 0 rfl ?_
  refine s_getR C hR fd_ArrayList_elementData (Or.inl q169) dJ2_elementData_1 4 rfl (fun x1 => ?_)
  refine s_iload_n C dJ2_elementData_4 5 rfl 1 rfl ?_
  refine s_aald4 C hR dJ2_elementData_5 6 rfl (fun x2 => ?_)
  exact s_qret (v := x2) C rfl (Or.inl ⟨_, rfl⟩) dJ2_elementData_6
theorem nv_J2_get : yJ2_get.cls ≠ "java/lang/invoke/MethodHandle" ∧ yJ2_get.cls ≠ "java/lang/invoke/VarHandle" ∧ (parseMethodDescriptor yJ2_get.desc).map (fun d => d.parameters.length) = some 1 := by decide +kernel
theorem ct_J2_get {l : Launch} (g : sm_G) (TA : Nat → Prop) (a0 : Nat) (p0 : Int32) : sm_CT l g (so_R g TA) (so_A g TA) yJ2_get cJ2_get 2 (some (.object "java/lang/Object")) 2 43 [.ref a0, .int p0] em_q (f_J2_get g a0 p0) := by
  refine sm_of (own := "java/util/ArrayList") rfl rfl (bl rfl) (fun Y C hR hA hl hm => ?_)
  subst hl
  refine s_lv (L' := [(0, .ref a0), (1, .int p0)]) [0, 1] rfl ?_
  refine s_top ?_
  unfold f_J2_get
  refine s_iload_n C dJ2_get_0 1 rfl 1 rfl ?_
  refine s_aload_n C dJ2_get_1 2 rfl 0 rfl ?_
  refine s_getI C hR fd_ArrayList_size (Or.inl q170) dJ2_get_2 5 rfl (fun x1 => ?_)
  refine s_call_i (rn_S (As := [.int p0, .int x1]) C (ct_at hR hA (ct_J13_checkIndex g TA p0 x1)) (lw_S q304 q305 q118 q306) nv_J13_checkIndex ⟨by decide, by decide⟩ rfl (bl rfl) dJ2_get_5) 8 rfl (fun x2 => ?_)
  refine s_pop C dJ2_get_8 rfl 9 rfl ?_
  refine s_aload_n C dJ2_get_9 10 rfl 0 rfl ?_
  refine s_iload_n C dJ2_get_10 11 rfl 1 rfl ?_
  refine s_call_q (rn_V (As := [.int p0]) C (ct_at hR hA (ct_on (ct_J2_elementData g TA a0 p0))) (rv_on C hR (q := vw_10) rfl) (lw_V q310 q311 q312 q105 q313) ⟨rfl, nv_J2_elementData⟩ ⟨by decide, by decide⟩ rfl (bl rfl) dJ2_get_11) 14 rfl (fun x3 => ?_)
  exact s_qret (v := x3) C rfl (Or.inl ⟨_, rfl⟩) dJ2_get_14
theorem nv_X5_init : yX5_init.cls ≠ "java/lang/invoke/MethodHandle" ∧ yX5_init.cls ≠ "java/lang/invoke/VarHandle" ∧ (parseMethodDescriptor yX5_init.desc).map (fun d => d.parameters.length) = some 1 := by decide +kernel
theorem ct_X5_init {l : Launch} (g : sm_G) (TA : Nat → Prop) (a0 : Nat) (p0 : Int32) : sm_CT l g (so_R g TA) (so_A g TA) yX5_init cX5_init 3 none 1 12 [.ref a0, .int p0] em_v (f_X5_init g a0 p0) := by
  refine sm_of (own := "PatchCords$Part") rfl rfl (bl rfl) (fun Y C hR hA hl hm => ?_)
  subst hl
  refine s_lv (L' := [(0, .ref a0), (1, .int p0)]) [0, 1] rfl ?_
  refine s_top ?_
  unfold f_X5_init
  refine s_aload_n C dX5_init_0 1 rfl 0 rfl ?_
  refine s_objInit C q339 q147 q148 (by decide) (bl rfl) dX5_init_1 4 rfl ?_
  refine s_aload_n C dX5_init_4 5 rfl 0 rfl ?_
  refine s_iload_n C dX5_init_5 6 rfl 1 rfl ?_
  refine s_newa C hR 0 .int rfl (fun _ => rfl) (fun _ h => by cases h) (by decide) q237 dX5_init_6 8 rfl (fun x1 => ?_)
  refine s_putF C hR hA fd_PatchCords_Part_cords q340 dX5_init_8 hm rfl rfl 11 rfl ?_
  refine s_iconst (v := 0) C dX5_init_11 (by decide) 12 rfl ?_
  refine s_istore_n C dX5_init_12 rfl (by decide) 13 rfl [(2, .int 0), (0, .ref a0), (1, .int p0)] rfl ?_
  refine s_lv [1, 2, 0] rfl ?_
  refine s_loop (fun (s2 : Int32) => [(0, .ref a0), (1, .int p0), (2, .int s2)]) (fun (v6 : Unit) => []) 31 0 rfl (fun v6 => ?_) (fun _ s2 hk3 hx4 => ?_)
  · exact s_vret C rfl dX5_init_31
  · refine s_iload_n C dX5_init_13 14 rfl 2 rfl ?_
    refine s_iload_n C dX5_init_14 15 rfl 1 rfl ?_
    refine s_icmp_ge C dX5_init_15 31 18 (by decide) rfl ?_ ?_
    · refine s_r ?_
      refine s_lv [] rfl ?_
      exact hx4 ()
    · refine s_aload_n C dX5_init_18 19 rfl 0 rfl ?_
      refine s_getR C hR fd_PatchCords_Part_cords (Or.inl q340) dX5_init_19 22 rfl (fun x5 => ?_)
      refine s_iload_n C dX5_init_22 23 rfl 2 rfl ?_
      refine s_iconst (v := (-1)) C dX5_init_23 (by decide) 24 rfl ?_
      refine s_iast C hR hA dX5_init_24 25 rfl ?_
      refine s_iinc C dX5_init_25 (s2 + 1) rfl 2 rfl (by decide) 28 rfl [(2, .int (s2 + 1)), (0, .ref a0), (1, .int p0)] rfl ?_
      refine s_goto C dX5_init_28 13 (by decide) ?_
      refine s_r ?_
      refine s_lv [1, 2, 0] rfl ?_
      exact hk3 (s2 + 1)
theorem nv_X7_init : yX7_init.cls ≠ "java/lang/invoke/MethodHandle" ∧ yX7_init.cls ≠ "java/lang/invoke/VarHandle" ∧ (parseMethodDescriptor yX7_init.desc).map (fun d => d.parameters.length) = some 0 := by decide +kernel
theorem ct_X7_init {l : Launch} (g : sm_G) (TA : Nat → Prop) (a0 : Nat) : sm_CT l g (so_R g TA) (so_A g TA) yX7_init cX7_init 1 none 2 34 [.ref a0] em_v (f_X7_init g a0) := by
  refine sm_of (own := "PatchCords$Weighted") rfl rfl (bl rfl) (fun Y C hR hA hl hm => ?_)
  subst hl
  refine s_lv (L' := [(0, .ref a0)]) [0] rfl ?_
  refine s_top ?_
  unfold f_X7_init
  refine s_aload_n C dX7_init_0 1 rfl 0 rfl ?_
  refine s_iconst (v := 4) C dX7_init_1 (by decide) 2 rfl ?_
  refine s_call_v (rn_I (As := [.int 4]) C (ct_at hR hA (ct_X5_init g TA a0 4)) q362 q337 q120 q338 rfl nv_X5_init ⟨by decide, by decide⟩ rfl (bl rfl) dX7_init_2) 5 rfl ?_
  exact s_vret C rfl dX7_init_5
theorem nv_X12_init : yX12_init.cls ≠ "java/lang/invoke/MethodHandle" ∧ yX12_init.cls ≠ "java/lang/invoke/VarHandle" ∧ (parseMethodDescriptor yX12_init.desc).map (fun d => d.parameters.length) = some 0 := by decide +kernel
theorem ct_X12_init {l : Launch} (g : sm_G) (TA : Nat → Prop) (a0 : Nat) : sm_CT l g (so_R g TA) (so_A g TA) yX12_init cX12_init 1 none 3 54 [.ref a0] em_v (f_X12_init g a0) := by
  refine sm_of (own := "PatchCords$Summer") rfl rfl (bl rfl) (fun Y C hR hA hl hm => ?_)
  subst hl
  refine s_lv (L' := [(0, .ref a0)]) [0] rfl ?_
  refine s_top ?_
  unfold f_X12_init
  refine s_aload_n C dX12_init_0 1 rfl 0 rfl ?_
  refine s_call_v (rn_I (As := []) C (ct_at hR hA (ct_X7_init g TA a0)) q443 q360 q122 q361 rfl nv_X7_init ⟨by decide, by decide⟩ rfl (bl rfl) dX12_init_1) 4 rfl ?_
  exact s_vret C rfl dX12_init_4
theorem nv_X12_bare : yX12_bare.cls ≠ "java/lang/invoke/MethodHandle" ∧ yX12_bare.cls ≠ "java/lang/invoke/VarHandle" ∧ (parseMethodDescriptor yX12_bare.desc).map (fun d => d.parameters.length) = some 0 := by decide +kernel
theorem ct_X12_bare {l : Launch} (g : sm_G) (TA : Nat → Prop) (a0 : Nat) : sm_CT l g (so_R g TA) (so_A g TA) yX12_bare cX12_bare 1 (some (.object "PatchCords$Part")) 4 74 [.ref a0] em_r (f_X12_bare g a0) := by
  refine sm_of (own := "PatchCords$Summer") rfl rfl (bl rfl) (fun Y C hR hA hl hm => ?_)
  subst hl
  refine s_lv (L' := []) [] rfl ?_
  refine s_top ?_
  unfold f_X12_bare
  refine s_new C hR cd_2 rfl df_2 q438 q439 q127 dX12_bare_0 3 rfl (fun x1 => ?_)
  refine s_dup C dX12_bare_3 rfl 4 rfl ?_
  refine s_call_v (rn_I (As := []) C (ct_at hR hA (ct_X12_init g TA x1)) q440 q441 q127 q442 rfl nv_X12_init ⟨by decide, by decide⟩ rfl (bl rfl) dX12_bare_4) 7 rfl ?_
  exact s_aret C rfl (Or.inl ⟨_, rfl⟩) dX12_bare_7
theorem nv_X8_init : yX8_init.cls ≠ "java/lang/invoke/MethodHandle" ∧ yX8_init.cls ≠ "java/lang/invoke/VarHandle" ∧ (parseMethodDescriptor yX8_init.desc).map (fun d => d.parameters.length) = some 0 := by decide +kernel
theorem ct_X8_init {l : Launch} (g : sm_G) (TA : Nat → Prop) (a0 : Nat) : sm_CT l g (so_R g TA) (so_A g TA) yX8_init cX8_init 1 none 3 54 [.ref a0] em_v (f_X8_init g a0) := by
  refine sm_of (own := "PatchCords$Integrator") rfl rfl (bl rfl) (fun Y C hR hA hl hm => ?_)
  subst hl
  refine s_lv (L' := [(0, .ref a0)]) [0] rfl ?_
  refine s_top ?_
  unfold f_X8_init
  refine s_aload_n C dX8_init_0 1 rfl 0 rfl ?_
  refine s_call_v (rn_I (As := []) C (ct_at hR hA (ct_X7_init g TA a0)) q359 q360 q122 q361 rfl nv_X7_init ⟨by decide, by decide⟩ rfl (bl rfl) dX8_init_1) 4 rfl ?_
  refine s_aload_n C dX8_init_4 5 rfl 0 rfl ?_
  refine s_bipush (v := 100) C dX8_init_5 (by decide) 7 rfl ?_
  refine s_put C hR hA fd_PatchCords_Integrator_speed (Or.inl q365) dX8_init_7 rfl rfl 10 rfl ?_
  exact s_vret C rfl dX8_init_10
theorem nv_X8_bare : yX8_bare.cls ≠ "java/lang/invoke/MethodHandle" ∧ yX8_bare.cls ≠ "java/lang/invoke/VarHandle" ∧ (parseMethodDescriptor yX8_bare.desc).map (fun d => d.parameters.length) = some 0 := by decide +kernel
theorem ct_X8_bare {l : Launch} (g : sm_G) (TA : Nat → Prop) (a0 : Nat) : sm_CT l g (so_R g TA) (so_A g TA) yX8_bare cX8_bare 2 (some (.object "PatchCords$Part")) 4 74 [.ref a0] em_r (f_X8_bare g a0) := by
  refine sm_of (own := "PatchCords$Integrator") rfl rfl (bl rfl) (fun Y C hR hA hl hm => ?_)
  subst hl
  refine s_lv (L' := [(0, .ref a0)]) [0] rfl ?_
  refine s_top ?_
  unfold f_X8_bare
  refine s_new C hR cd_3 rfl df_3 q354 q355 q123 dX8_bare_0 3 rfl (fun x1 => ?_)
  refine s_dup C dX8_bare_3 rfl 4 rfl ?_
  refine s_call_v (rn_I (As := []) C (ct_at hR hA (ct_X8_init g TA x1)) q356 q357 q123 q358 rfl nv_X8_init ⟨by decide, by decide⟩ rfl (bl rfl) dX8_bare_4) 7 rfl ?_
  refine s_astore_n C dX8_bare_7 rfl (by decide) 8 rfl [(1, .ref x1), (0, .ref a0)] rfl ?_
  refine s_aload_n C dX8_bare_8 9 rfl 0 rfl ?_
  refine s_aload_n C dX8_bare_9 10 rfl 1 rfl ?_
  refine s_getI C hR fd_PatchCords_Integrator_initial (Or.inl q363) dX8_bare_10 13 rfl (fun x3 => ?_)
  refine s_put C hR hA fd_PatchCords_Integrator_initial (Or.inl q363) dX8_bare_13 rfl rfl 16 rfl ?_
  refine s_aload_n C dX8_bare_16 17 rfl 0 rfl ?_
  refine s_aload_n C dX8_bare_17 18 rfl 1 rfl ?_
  refine s_getI C hR fd_PatchCords_Integrator_speed (Or.inl q365) dX8_bare_18 21 rfl (fun x4 => ?_)
  refine s_put C hR hA fd_PatchCords_Integrator_speed (Or.inl q365) dX8_bare_21 rfl rfl 24 rfl ?_
  refine s_aload_n C dX8_bare_24 25 rfl 0 rfl ?_
  refine s_aload_n C dX8_bare_25 26 rfl 1 rfl ?_
  refine s_getI C hR fd_PatchCords_Integrator_charge (Or.inl q367) dX8_bare_26 29 rfl (fun x5 => ?_)
  refine s_put C hR hA fd_PatchCords_Integrator_charge (Or.inl q367) dX8_bare_29 rfl rfl 32 rfl ?_
  refine s_aload_n C dX8_bare_32 33 rfl 0 rfl ?_
  exact s_aret C rfl (Or.inl ⟨_, rfl⟩) dX8_bare_33
theorem nv_X9_init : yX9_init.cls ≠ "java/lang/invoke/MethodHandle" ∧ yX9_init.cls ≠ "java/lang/invoke/VarHandle" ∧ (parseMethodDescriptor yX9_init.desc).map (fun d => d.parameters.length) = some 0 := by decide +kernel
theorem ct_X9_init {l : Launch} (g : sm_G) (TA : Nat → Prop) (a0 : Nat) : sm_CT l g (so_R g TA) (so_A g TA) yX9_init cX9_init 1 none 2 34 [.ref a0] em_v (f_X9_init g a0) := by
  refine sm_of (own := "PatchCords$Pot") rfl rfl (bl rfl) (fun Y C hR hA hl hm => ?_)
  subst hl
  refine s_lv (L' := [(0, .ref a0)]) [0] rfl ?_
  refine s_top ?_
  unfold f_X9_init
  refine s_aload_n C dX9_init_0 1 rfl 0 rfl ?_
  refine s_iconst (v := 1) C dX9_init_1 (by decide) 2 rfl ?_
  refine s_call_v (rn_I (As := [.int 1]) C (ct_at hR hA (ct_X5_init g TA a0 1)) q398 q337 q120 q338 rfl nv_X5_init ⟨by decide, by decide⟩ rfl (bl rfl) dX9_init_2) 5 rfl ?_
  refine s_aload_n C dX9_init_5 6 rfl 0 rfl ?_
  refine s_sipush (v := 500) C dX9_init_6 (by decide) 9 rfl ?_
  refine s_put C hR hA fd_PatchCords_Pot_factor (Or.inl q399) dX9_init_9 rfl rfl 12 rfl ?_
  exact s_vret C rfl dX9_init_12
theorem nv_X9_bare : yX9_bare.cls ≠ "java/lang/invoke/MethodHandle" ∧ yX9_bare.cls ≠ "java/lang/invoke/VarHandle" ∧ (parseMethodDescriptor yX9_bare.desc).map (fun d => d.parameters.length) = some 0 := by decide +kernel
theorem ct_X9_bare {l : Launch} (g : sm_G) (TA : Nat → Prop) (a0 : Nat) : sm_CT l g (so_R g TA) (so_A g TA) yX9_bare cX9_bare 2 (some (.object "PatchCords$Part")) 3 54 [.ref a0] em_r (f_X9_bare g a0) := by
  refine sm_of (own := "PatchCords$Pot") rfl rfl (bl rfl) (fun Y C hR hA hl hm => ?_)
  subst hl
  refine s_lv (L' := [(0, .ref a0)]) [0] rfl ?_
  refine s_top ?_
  unfold f_X9_bare
  refine s_new C hR cd_4 rfl df_4 q393 q394 q124 dX9_bare_0 3 rfl (fun x1 => ?_)
  refine s_dup C dX9_bare_3 rfl 4 rfl ?_
  refine s_call_v (rn_I (As := []) C (ct_at hR hA (ct_X9_init g TA x1)) q395 q396 q124 q397 rfl nv_X9_init ⟨by decide, by decide⟩ rfl (bl rfl) dX9_bare_4) 7 rfl ?_
  refine s_astore_n C dX9_bare_7 rfl (by decide) 8 rfl [(1, .ref x1), (0, .ref a0)] rfl ?_
  refine s_aload_n C dX9_bare_8 9 rfl 0 rfl ?_
  refine s_aload_n C dX9_bare_9 10 rfl 1 rfl ?_
  refine s_getI C hR fd_PatchCords_Pot_factor (Or.inl q399) dX9_bare_10 13 rfl (fun x3 => ?_)
  refine s_put C hR hA fd_PatchCords_Pot_factor (Or.inl q399) dX9_bare_13 rfl rfl 16 rfl ?_
  refine s_aload_n C dX9_bare_16 17 rfl 0 rfl ?_
  exact s_aret C rfl (Or.inl ⟨_, rfl⟩) dX9_bare_17
theorem nv_X10_init : yX10_init.cls ≠ "java/lang/invoke/MethodHandle" ∧ yX10_init.cls ≠ "java/lang/invoke/VarHandle" ∧ (parseMethodDescriptor yX10_init.desc).map (fun d => d.parameters.length) = some 0 := by decide +kernel
theorem ct_X10_init {l : Launch} (g : sm_G) (TA : Nat → Prop) (a0 : Nat) : sm_CT l g (so_R g TA) (so_A g TA) yX10_init cX10_init 1 none 2 34 [.ref a0] em_v (f_X10_init g a0) := by
  refine sm_of (own := "PatchCords$Product") rfl rfl (bl rfl) (fun Y C hR hA hl hm => ?_)
  subst hl
  refine s_lv (L' := [(0, .ref a0)]) [0] rfl ?_
  refine s_top ?_
  unfold f_X10_init
  refine s_aload_n C dX10_init_0 1 rfl 0 rfl ?_
  refine s_iconst (v := 2) C dX10_init_1 (by decide) 2 rfl ?_
  refine s_call_v (rn_I (As := [.int 2]) C (ct_at hR hA (ct_X5_init g TA a0 2)) q415 q337 q120 q338 rfl nv_X5_init ⟨by decide, by decide⟩ rfl (bl rfl) dX10_init_2) 5 rfl ?_
  exact s_vret C rfl dX10_init_5
theorem nv_X10_bare : yX10_bare.cls ≠ "java/lang/invoke/MethodHandle" ∧ yX10_bare.cls ≠ "java/lang/invoke/VarHandle" ∧ (parseMethodDescriptor yX10_bare.desc).map (fun d => d.parameters.length) = some 0 := by decide +kernel
theorem ct_X10_bare {l : Launch} (g : sm_G) (TA : Nat → Prop) (a0 : Nat) : sm_CT l g (so_R g TA) (so_A g TA) yX10_bare cX10_bare 1 (some (.object "PatchCords$Part")) 3 54 [.ref a0] em_r (f_X10_bare g a0) := by
  refine sm_of (own := "PatchCords$Product") rfl rfl (bl rfl) (fun Y C hR hA hl hm => ?_)
  subst hl
  refine s_lv (L' := []) [] rfl ?_
  refine s_top ?_
  unfold f_X10_bare
  refine s_new C hR cd_5 rfl df_5 q410 q411 q125 dX10_bare_0 3 rfl (fun x1 => ?_)
  refine s_dup C dX10_bare_3 rfl 4 rfl ?_
  refine s_call_v (rn_I (As := []) C (ct_at hR hA (ct_X10_init g TA x1)) q412 q413 q125 q414 rfl nv_X10_init ⟨by decide, by decide⟩ rfl (bl rfl) dX10_bare_4) 7 rfl ?_
  exact s_aret C rfl (Or.inl ⟨_, rfl⟩) dX10_bare_7
theorem nv_X6_init : yX6_init.cls ≠ "java/lang/invoke/MethodHandle" ∧ yX6_init.cls ≠ "java/lang/invoke/VarHandle" ∧ (parseMethodDescriptor yX6_init.desc).map (fun d => d.parameters.length) = some 0 := by decide +kernel
theorem ct_X6_init {l : Launch} (g : sm_G) (TA : Nat → Prop) (a0 : Nat) : sm_CT l g (so_R g TA) (so_A g TA) yX6_init cX6_init 1 none 2 34 [.ref a0] em_v (f_X6_init g a0) := by
  refine sm_of (own := "PatchCords$Choice") rfl rfl (bl rfl) (fun Y C hR hA hl hm => ?_)
  subst hl
  refine s_lv (L' := [(0, .ref a0)]) [0] rfl ?_
  refine s_top ?_
  unfold f_X6_init
  refine s_aload_n C dX6_init_0 1 rfl 0 rfl ?_
  refine s_iconst (v := 4) C dX6_init_1 (by decide) 2 rfl ?_
  refine s_call_v (rn_I (As := [.int 4]) C (ct_at hR hA (ct_X5_init g TA a0 4)) q336 q337 q120 q338 rfl nv_X5_init ⟨by decide, by decide⟩ rfl (bl rfl) dX6_init_2) 5 rfl ?_
  exact s_vret C rfl dX6_init_5
theorem nv_X6_bare : yX6_bare.cls ≠ "java/lang/invoke/MethodHandle" ∧ yX6_bare.cls ≠ "java/lang/invoke/VarHandle" ∧ (parseMethodDescriptor yX6_bare.desc).map (fun d => d.parameters.length) = some 0 := by decide +kernel
theorem ct_X6_bare {l : Launch} (g : sm_G) (TA : Nat → Prop) (a0 : Nat) : sm_CT l g (so_R g TA) (so_A g TA) yX6_bare cX6_bare 1 (some (.object "PatchCords$Part")) 3 54 [.ref a0] em_r (f_X6_bare g a0) := by
  refine sm_of (own := "PatchCords$Choice") rfl rfl (bl rfl) (fun Y C hR hA hl hm => ?_)
  subst hl
  refine s_lv (L' := []) [] rfl ?_
  refine s_top ?_
  unfold f_X6_bare
  refine s_new C hR cd_6 rfl df_6 q331 q332 q121 dX6_bare_0 3 rfl (fun x1 => ?_)
  refine s_dup C dX6_bare_3 rfl 4 rfl ?_
  refine s_call_v (rn_I (As := []) C (ct_at hR hA (ct_X6_init g TA x1)) q333 q334 q121 q335 rfl nv_X6_init ⟨by decide, by decide⟩ rfl (bl rfl) dX6_bare_4) 7 rfl ?_
  exact s_aret C rfl (Or.inl ⟨_, rfl⟩) dX6_bare_7
theorem nv_X11_init : yX11_init.cls ≠ "java/lang/invoke/MethodHandle" ∧ yX11_init.cls ≠ "java/lang/invoke/VarHandle" ∧ (parseMethodDescriptor yX11_init.desc).map (fun d => d.parameters.length) = some 0 := by decide +kernel
theorem ct_X11_init {l : Launch} (g : sm_G) (TA : Nat → Prop) (a0 : Nat) : sm_CT l g (so_R g TA) (so_A g TA) yX11_init cX11_init 1 none 2 34 [.ref a0] em_v (f_X11_init g a0) := by
  refine sm_of (own := "PatchCords$Steady") rfl rfl (bl rfl) (fun Y C hR hA hl hm => ?_)
  subst hl
  refine s_lv (L' := [(0, .ref a0)]) [0] rfl ?_
  refine s_top ?_
  unfold f_X11_init
  refine s_aload_n C dX11_init_0 1 rfl 0 rfl ?_
  refine s_iconst (v := 0) C dX11_init_1 (by decide) 2 rfl ?_
  refine s_call_v (rn_I (As := [.int 0]) C (ct_at hR hA (ct_X5_init g TA a0 0)) q427 q337 q120 q338 rfl nv_X5_init ⟨by decide, by decide⟩ rfl (bl rfl) dX11_init_2) 5 rfl ?_
  refine s_aload_n C dX11_init_5 6 rfl 0 rfl ?_
  refine s_sipush (v := 10000) C dX11_init_6 (by decide) 9 rfl ?_
  refine s_put C hR hA fd_PatchCords_Steady_voltage (Or.inl q428) dX11_init_9 rfl rfl 12 rfl ?_
  exact s_vret C rfl dX11_init_12
theorem nv_X11_bare : yX11_bare.cls ≠ "java/lang/invoke/MethodHandle" ∧ yX11_bare.cls ≠ "java/lang/invoke/VarHandle" ∧ (parseMethodDescriptor yX11_bare.desc).map (fun d => d.parameters.length) = some 0 := by decide +kernel
theorem ct_X11_bare {l : Launch} (g : sm_G) (TA : Nat → Prop) (a0 : Nat) : sm_CT l g (so_R g TA) (so_A g TA) yX11_bare cX11_bare 2 (some (.object "PatchCords$Part")) 3 54 [.ref a0] em_r (f_X11_bare g a0) := by
  refine sm_of (own := "PatchCords$Steady") rfl rfl (bl rfl) (fun Y C hR hA hl hm => ?_)
  subst hl
  refine s_lv (L' := [(0, .ref a0)]) [0] rfl ?_
  refine s_top ?_
  unfold f_X11_bare
  refine s_new C hR cd_7 rfl df_7 q422 q423 q126 dX11_bare_0 3 rfl (fun x1 => ?_)
  refine s_dup C dX11_bare_3 rfl 4 rfl ?_
  refine s_call_v (rn_I (As := []) C (ct_at hR hA (ct_X11_init g TA x1)) q424 q425 q126 q426 rfl nv_X11_init ⟨by decide, by decide⟩ rfl (bl rfl) dX11_bare_4) 7 rfl ?_
  refine s_astore_n C dX11_bare_7 rfl (by decide) 8 rfl [(1, .ref x1), (0, .ref a0)] rfl ?_
  refine s_aload_n C dX11_bare_8 9 rfl 0 rfl ?_
  refine s_aload_n C dX11_bare_9 10 rfl 1 rfl ?_
  refine s_getI C hR fd_PatchCords_Steady_voltage (Or.inl q428) dX11_bare_10 13 rfl (fun x3 => ?_)
  refine s_put C hR hA fd_PatchCords_Steady_voltage (Or.inl q428) dX11_bare_13 rfl rfl 16 rfl ?_
  refine s_aload_n C dX11_bare_16 17 rfl 0 rfl ?_
  exact s_aret C rfl (Or.inl ⟨_, rfl⟩) dX11_bare_17
theorem nv_X5_copy : yX5_copy.cls ≠ "java/lang/invoke/MethodHandle" ∧ yX5_copy.cls ≠ "java/lang/invoke/VarHandle" ∧ (parseMethodDescriptor yX5_copy.desc).map (fun d => d.parameters.length) = some 0 := by decide +kernel
theorem ct_X5_copy {l : Launch} (g : sm_G) (TA : Nat → Prop) (a0 : Nat) : sm_CT l g (so_R g TA) (so_A g TA) yX5_copy cX5_copy 3 (some (.object "PatchCords$Part")) 5 95 [.ref a0] em_r (f_X5_copy g a0) := by
  refine sm_of (own := "PatchCords$Part") rfl rfl (bl rfl) (fun Y C hR hA hl hm => ?_)
  subst hl
  refine s_lv (L' := [(0, .ref a0)]) [0] rfl ?_
  refine s_top ?_
  unfold f_X5_copy
  refine s_aload_n C dX5_copy_0 1 rfl 0 rfl ?_
  refine s_call_r (rn_D (by
      intro ci hci
      simp only [List.mem_cons, List.not_mem_nil, or_false] at hci
      rcases hci with rfl | rfl | rfl | rfl | rfl | rfl
      · exact (rn_U (As := []) C (ct_at hR hA (ct_on (ct_X12_bare g TA a0))) (rv_on C hR (q := vw_2) rfl) q325 q327 (va_Decl.abs (C.k.2.1 _ q326 rfl)) (C.w _ q435) q436 q127 q437 ⟨by decide +kernel, by decide +kernel, (show (parseMethodDescriptor "()LPatchCords$Part;").map (fun d => d.parameters.length) = some 0 by decide +kernel)⟩ ⟨by decide, by decide⟩ rfl (bl rfl) dX5_copy_1)
      · exact (rn_U (As := []) C (ct_at hR hA (ct_on (ct_X8_bare g TA a0))) (rv_on C hR (q := vw_3) rfl) q325 q327 (va_Decl.abs (C.k.2.1 _ q326 rfl)) (C.w _ q351) q352 q123 q353 ⟨by decide +kernel, by decide +kernel, (show (parseMethodDescriptor "()LPatchCords$Part;").map (fun d => d.parameters.length) = some 0 by decide +kernel)⟩ ⟨by decide, by decide⟩ rfl (bl rfl) dX5_copy_1)
      · exact (rn_U (As := []) C (ct_at hR hA (ct_on (ct_X9_bare g TA a0))) (rv_on C hR (q := vw_4) rfl) q325 q327 (va_Decl.abs (C.k.2.1 _ q326 rfl)) (C.w _ q390) q391 q124 q392 ⟨by decide +kernel, by decide +kernel, (show (parseMethodDescriptor "()LPatchCords$Part;").map (fun d => d.parameters.length) = some 0 by decide +kernel)⟩ ⟨by decide, by decide⟩ rfl (bl rfl) dX5_copy_1)
      · exact (rn_U (As := []) C (ct_at hR hA (ct_on (ct_X10_bare g TA a0))) (rv_on C hR (q := vw_5) rfl) q325 q327 (va_Decl.abs (C.k.2.1 _ q326 rfl)) (C.w _ q407) q408 q125 q409 ⟨by decide +kernel, by decide +kernel, (show (parseMethodDescriptor "()LPatchCords$Part;").map (fun d => d.parameters.length) = some 0 by decide +kernel)⟩ ⟨by decide, by decide⟩ rfl (bl rfl) dX5_copy_1)
      · exact (rn_U (As := []) C (ct_at hR hA (ct_on (ct_X6_bare g TA a0))) (rv_on C hR (q := vw_6) rfl) q325 q327 (va_Decl.abs (C.k.2.1 _ q326 rfl)) (C.w _ q328) q329 q121 q330 ⟨by decide +kernel, by decide +kernel, (show (parseMethodDescriptor "()LPatchCords$Part;").map (fun d => d.parameters.length) = some 0 by decide +kernel)⟩ ⟨by decide, by decide⟩ rfl (bl rfl) dX5_copy_1)
      · exact (rn_U (As := []) C (ct_at hR hA (ct_on (ct_X11_bare g TA a0))) (rv_on C hR (q := vw_7) rfl) q325 q327 (va_Decl.abs (C.k.2.1 _ q326 rfl)) (C.w _ q419) q420 q126 q421 ⟨by decide +kernel, by decide +kernel, (show (parseMethodDescriptor "()LPatchCords$Part;").map (fun d => d.parameters.length) = some 0 by decide +kernel)⟩ ⟨by decide, by decide⟩ rfl (bl rfl) dX5_copy_1))) 4 rfl (fun x1 => ?_)
  refine s_astore_n C dX5_copy_4 rfl (by decide) 5 rfl [(1, .ref x1), (0, .ref a0)] rfl ?_
  refine s_iconst (v := 0) C dX5_copy_5 (by decide) 6 rfl ?_
  refine s_istore_n C dX5_copy_6 rfl (by decide) 7 rfl [(2, .int 0), (1, .ref x1), (0, .ref a0)] rfl ?_
  refine s_lv [2, 1, 0] rfl ?_
  refine s_loop (fun (s2 : Int32) => [(0, .ref a0), (1, .ref x1), (2, .int s2)]) (fun (v10 : Unit) => [(0, .ref a0), (1, .ref x1)]) 34 0 rfl (fun v10 => ?_) (fun _ s2 hk3 hx4 => ?_)
  · refine s_aload_n C dX5_copy_34 35 rfl 1 rfl ?_
    refine s_aload_n C dX5_copy_35 36 rfl 0 rfl ?_
    refine s_getI C hR fd_PatchCords_Part_peak (Or.inl q343) dX5_copy_36 39 rfl (fun x11 => ?_)
    refine s_put C hR hA fd_PatchCords_Part_peak (Or.inl q343) dX5_copy_39 rfl rfl 42 rfl ?_
    refine s_aload_n C dX5_copy_42 43 rfl 1 rfl ?_
    exact s_aret C rfl (Or.inl ⟨_, rfl⟩) dX5_copy_43
  · refine s_iload_n C dX5_copy_7 8 rfl 2 rfl ?_
    refine s_aload_n C dX5_copy_8 9 rfl 0 rfl ?_
    refine s_getR C hR fd_PatchCords_Part_cords (Or.inl q340) dX5_copy_9 12 rfl (fun x5 => ?_)
    refine s_alen C hR dX5_copy_12 13 rfl (fun x6 => ?_)
    refine s_icmp_ge C dX5_copy_13 34 16 (by decide) rfl ?_ ?_
    · refine s_r ?_
      refine s_lv [0, 1] rfl ?_
      exact hx4 ()
    · refine s_aload_n C dX5_copy_16 17 rfl 1 rfl ?_
      refine s_getR C hR fd_PatchCords_Part_cords (Or.inl q340) dX5_copy_17 20 rfl (fun x7 => ?_)
      refine s_iload_n C dX5_copy_20 21 rfl 2 rfl ?_
      refine s_aload_n C dX5_copy_21 22 rfl 0 rfl ?_
      refine s_getR C hR fd_PatchCords_Part_cords (Or.inl q340) dX5_copy_22 25 rfl (fun x8 => ?_)
      refine s_iload_n C dX5_copy_25 26 rfl 2 rfl ?_
      refine s_iald C hR dX5_copy_26 27 rfl (fun x9 => ?_)
      refine s_iast C hR hA dX5_copy_27 28 rfl ?_
      refine s_iinc C dX5_copy_28 (s2 + 1) rfl 2 rfl (by decide) 31 rfl [(2, .int (s2 + 1)), (0, .ref a0), (1, .ref x1)] rfl ?_
      refine s_goto C dX5_copy_31 7 (by decide) ?_
      refine s_r ?_
      refine s_lv [1, 2, 0] rfl ?_
      exact hk3 (s2 + 1)
theorem nv_X7_copy : yX7_copy.cls ≠ "java/lang/invoke/MethodHandle" ∧ yX7_copy.cls ≠ "java/lang/invoke/VarHandle" ∧ (parseMethodDescriptor yX7_copy.desc).map (fun d => d.parameters.length) = some 0 := by decide +kernel
theorem ct_X7_copy {l : Launch} (g : sm_G) (TA : Nat → Prop) (a0 : Nat) : sm_CT l g (so_R g TA) (so_A g TA) yX7_copy cX7_copy 2 (some (.object "PatchCords$Part")) 6 117 [.ref a0] em_r (f_X7_copy g a0) := by
  refine sm_of (own := "PatchCords$Weighted") rfl rfl (bl rfl) (fun Y C hR hA hl hm => ?_)
  subst hl
  refine s_lv (L' := [(0, .ref a0)]) [0] rfl ?_
  refine s_top ?_
  unfold f_X7_copy
  refine s_aload_n C dX7_copy_0 1 rfl 0 rfl ?_
  refine s_call_r (rn_D (by
      intro ci hci
      simp only [List.mem_cons, List.not_mem_nil, or_false] at hci
      rcases hci with rfl | rfl
      · exact (rn_SU (As := []) C ⟨_, (C.k.1.1 2 vw_2 rfl).2⟩ (ct_at hR hA (ct_on (ct_X5_copy g TA a0))) (rv_on C hR (q := vw_2) rfl) (lw_SU q322 q317 q323 q316 q120 q324) ⟨by decide +kernel, (show (parseMethodDescriptor "()LPatchCords$Part;").map (fun d => d.parameters.length) = some 0 by decide +kernel)⟩ ⟨by decide, by decide⟩ rfl (bl rfl) dX7_copy_1)
      · exact (rn_SU (As := []) C ⟨_, (C.k.1.1 3 vw_3 rfl).2⟩ (ct_at hR hA (ct_on (ct_X5_copy g TA a0))) (rv_on C hR (q := vw_3) rfl) (lw_SU q322 q317 q323 q316 q120 q324) ⟨by decide +kernel, (show (parseMethodDescriptor "()LPatchCords$Part;").map (fun d => d.parameters.length) = some 0 by decide +kernel)⟩ ⟨by decide, by decide⟩ rfl (bl rfl) dX7_copy_1))) 4 rfl (fun x1 => ?_)
  refine s_cast C hR q448 ca_PatchCords_Weighted dX7_copy_4 (some x1) 7 rfl (fun x2 _ => ?_)
  refine s_astore_n C dX7_copy_7 rfl (by decide) 8 rfl [(1, .ref x2), (0, .ref a0)] rfl ?_
  refine s_aload_n C dX7_copy_8 9 rfl 0 rfl ?_
  refine s_aload_n C dX7_copy_9 10 rfl 1 rfl ?_
  refine s_getI C hR fd_PatchCords_Weighted_heavy (Or.inl q374) dX7_copy_10 13 rfl (fun x3 => ?_)
  refine s_put C hR hA fd_PatchCords_Weighted_heavy (Or.inl q374) dX7_copy_13 rfl rfl 16 rfl ?_
  refine s_aload_n C dX7_copy_16 17 rfl 0 rfl ?_
  exact s_aret C rfl (Or.inl ⟨_, rfl⟩) dX7_copy_17
theorem nv_J15_newLength : yJ15_newLength.cls ≠ "java/lang/invoke/MethodHandle" ∧ yJ15_newLength.cls ≠ "java/lang/invoke/VarHandle" ∧ (parseMethodDescriptor yJ15_newLength.desc).map (fun d => d.parameters.length) = some 3 := by decide +kernel
theorem ct_J15_newLength {l : Launch} (g : sm_G) (TA : Nat → Prop) (p0 : Int32) (p1 : Int32) (p2 : Int32) : sm_CT l g (so_R g TA) (so_A g TA) yJ15_newLength cJ15_newLength 4 (some .int) 1 14 [.int p0, .int p1, .int p2] em_i (f_J15_newLength g p0 p1 p2) := by
  refine sm_of (own := "jdk/internal/util/ArraysSupport") rfl rfl (bl rfl) (fun Y C hR hA hl hm => ?_)
  subst hl
  refine s_lv (L' := [(0, .int p0), (1, .int p1), (2, .int p2)]) [0, 1, 2] rfl ?_
  refine s_top ?_
  unfold f_J15_newLength
  refine s_iload_n C dJ15_newLength_0 1 rfl 0 rfl ?_
  refine s_iload_n C dJ15_newLength_1 2 rfl 1 rfl ?_
  refine s_iload_n C dJ15_newLength_2 3 rfl 2 rfl ?_
  refine s_max C q472 q473 q129 q474 (by decide) (bl rfl) dJ15_newLength_3 6 rfl ?_
  refine s_iadd C dJ15_newLength_6 7 rfl ?_
  refine s_topi (fun x1 => ?_)
  refine s_istore_n C dJ15_newLength_7 rfl (by decide) 8 rfl [(3, .int x1), (0, .int p0), (1, .int p1), (2, .int p2)] rfl ?_
  refine s_iconst (v := 0) C dJ15_newLength_8 (by decide) 9 rfl ?_
  refine s_iload_n C dJ15_newLength_9 10 rfl 0 rfl ?_
  refine s_cut (J := 13) (LJ := (fun (v2 : Unit) => [(3, .int x1)])) (SJ := (fun (v2 : Unit) => [])) (fun v2 => ?_) (fun _ _ hK3 => ?_)
  · refine s_iload_n C dJ15_newLength_13 14 rfl 0 rfl ?_
    refine s_ldc (v := 2147483639) C q475 dJ15_newLength_14 16 rfl ?_
    refine s_cut (J := 19) (LJ := (fun (v4 : Unit) => [(3, .int x1)])) (SJ := (fun (v4 : Unit) => [])) (fun v4 => ?_) (fun _ _ hK5 => ?_)
    · refine s_iload_n C dJ15_newLength_19 20 rfl 0 rfl ?_
      exact s_iret C rfl rfl dJ15_newLength_20
    · refine s_icmp_gt C dJ15_newLength_16 21 19 (by decide) rfl ?_ ?_
      · exact s_none1
      · refine s_r ?_
        refine s_lv [0] rfl ?_
        exact hK5 ()
  · refine s_icmp_ge C dJ15_newLength_10 21 13 (by decide) rfl ?_ ?_
    · exact s_none1
    · refine s_r ?_
      refine s_lv [0] rfl ?_
      exact hK3 ()
theorem nv_J17_copyOf_2 : yJ17_copyOf_2.cls ≠ "java/lang/invoke/MethodHandle" ∧ yJ17_copyOf_2.cls ≠ "java/lang/invoke/VarHandle" ∧ (parseMethodDescriptor yJ17_copyOf_2.desc).map (fun d => d.parameters.length) = some 3 := by decide +kernel
theorem ct_J17_copyOf_2 {l : Launch} (g : sm_G) (TA : Nat → Prop) (p0 : Nat) (p1 : Int32) (p2 : Nat) : sm_CT l g (so_R g TA) (so_A g TA) yJ17_copyOf_2 cJ17_copyOf_2 4 (some (.array (.object "java/lang/Object"))) 1 28 [.ref p0, .int p1, .ref p2] em_r (f_J17_copyOf_2 g p0 p1 p2) := by
  refine sm_of (own := "java/util/Arrays") rfl rfl (bl rfl) (fun Y C hR hA hl hm => ?_)
  subst hl
  refine s_lv (L' := [(0, .ref p0), (1, .int p1), (2, .ref p2)]) [0, 1, 2] rfl ?_
  refine s_top ?_
  unfold f_J17_copyOf_2
  refine s_aload_n C dJ17_copyOf_2_0 1 rfl 2 rfl ?_
  refine s_ldcM C q510 dJ17_copyOf_2_1 3 rfl ?_
  refine s_cut (J := 6) (LJ := (fun (v1 : Unit) => [(0, .ref p0), (1, .int p1)])) (SJ := (fun (v1 : Unit) => [])) (fun v1 => ?_) (fun _ _ hK2 => ?_)
  · refine s_iload_n C dJ17_copyOf_2_6 7 rfl 1 rfl ?_
    refine s_newq C hR q512 dJ17_copyOf_2_7 10 rfl (fun x3 => ?_)
    refine s_goto C dJ17_copyOf_2_10 24 (by decide) ?_
    refine s_astore_n C dJ17_copyOf_2_24 rfl (by decide) 25 rfl [(3, .ref x3), (0, .ref p0), (1, .int p1)] rfl ?_
    refine s_aload_n C dJ17_copyOf_2_25 26 rfl 1 rfl ?_
    refine s_iconst (v := 0) C dJ17_copyOf_2_26 (by decide) 27 rfl ?_
    refine s_aload_n C dJ17_copyOf_2_27 28 rfl 0 rfl ?_
    refine s_iconst (v := 0) C dJ17_copyOf_2_28 (by decide) 29 rfl ?_
    refine s_aload_n C dJ17_copyOf_2_29 30 rfl 1 rfl ?_
    refine s_alen C hR dJ17_copyOf_2_30 31 rfl (fun x4 => ?_)
    refine s_iload_n C dJ17_copyOf_2_31 32 rfl 2 rfl ?_
    refine s_min C q513 q514 q129 q515 (by decide) (bl rfl) dJ17_copyOf_2_32 35 rfl ?_
    refine s_acq C hR hA q516 q518 q517 q131 (by decide) (bl rfl) dJ17_copyOf_2_35 38 rfl ?_
    refine s_aload_n C dJ17_copyOf_2_38 39 rfl 0 rfl ?_
    exact s_aret C rfl (Or.inr ⟨_, rfl⟩) dJ17_copyOf_2_39
  · refine s_acmpr_ne C dJ17_copyOf_2_3 13 6 (by decide) rfl ?_ ?_
    · refine s_r ?_
      refine s_lv [0, 1] rfl ?_
      exact hK2 ()
    · exact s_none1
theorem nv_J17_copyOf : yJ17_copyOf.cls ≠ "java/lang/invoke/MethodHandle" ∧ yJ17_copyOf.cls ≠ "java/lang/invoke/VarHandle" ∧ (parseMethodDescriptor yJ17_copyOf.desc).map (fun d => d.parameters.length) = some 2 := by decide +kernel
theorem ct_J17_copyOf {l : Launch} (g : sm_G) (TA : Nat → Prop) (p0 : Nat) (p1 : Int32) : sm_CT l g (so_R g TA) (so_A g TA) yJ17_copyOf cJ17_copyOf 2 (some (.array (.object "java/lang/Object"))) 2 51 [.ref p0, .int p1] em_r (f_J17_copyOf g p0 p1) := by
  refine sm_of (own := "java/util/Arrays") rfl rfl (bl rfl) (fun Y C hR hA hl hm => ?_)
  subst hl
  refine s_lv (L' := [(0, .ref p0), (1, .int p1)]) [0, 1] rfl ?_
  refine s_top ?_
  unfold f_J17_copyOf
  refine s_aload_n C dJ17_copyOf_0 1 rfl 0 rfl ?_
  refine s_iload_n C dJ17_copyOf_1 2 rfl 1 rfl ?_
  refine s_aload_n C dJ17_copyOf_2 3 rfl 0 rfl ?_
  refine s_getC C hR q482 q2426 q2425 q483 q506 (by decide) (bl rfl) dJ17_copyOf_3 6 rfl ?_
  refine s_call_r (rn_S (As := [.ref p0, .int p1, .ref (g.2.2.2.2 4)]) C (ct_at hR hA (ct_J17_copyOf_2 g TA p0 p1 (g.2.2.2.2 4))) (lw_S q507 q508 q130 q509) nv_J17_copyOf_2 ⟨by decide, by decide⟩ rfl (bl rfl) dJ17_copyOf_6) 9 rfl (fun x1 => ?_)
  exact s_aret C rfl (Or.inr ⟨_, rfl⟩) dJ17_copyOf_9
theorem nv_J2_grow_2 : yJ2_grow_2.cls ≠ "java/lang/invoke/MethodHandle" ∧ yJ2_grow_2.cls ≠ "java/lang/invoke/VarHandle" ∧ (parseMethodDescriptor yJ2_grow_2.desc).map (fun d => d.parameters.length) = some 1 := by decide +kernel
theorem ct_J2_grow_2 {l : Launch} (g : sm_G) (TA : Nat → Prop) (a0 : Nat) (p0 : Int32) : sm_CT l g (so_R g TA) (so_A g TA) yJ2_grow_2 cJ2_grow_2 4 (some (.array (.object "java/lang/Object"))) 3 72 [.ref a0, .int p0] em_r (f_J2_grow_2 g a0 p0) := by
  refine sm_of (own := "java/util/ArrayList") rfl rfl (bl rfl) (fun Y C hR hA hl hm => ?_)
  subst hl
  refine s_lv (L' := [(0, .ref a0), (1, .int p0)]) [0, 1] rfl ?_
  refine s_top ?_
  unfold f_J2_grow_2
  refine s_aload_n C dJ2_grow_2_0 1 rfl 0 rfl ?_
  refine s_getR C hR fd_ArrayList_elementData (Or.inl q169) dJ2_grow_2_1 4 rfl (fun x1 => ?_)
  refine s_alen C hR dJ2_grow_2_4 5 rfl (fun x2 => ?_)
  refine s_istore_n C dJ2_grow_2_5 rfl (by decide) 6 rfl [(2, .int x2), (0, .ref a0), (1, .int p0)] rfl ?_
  refine s_iload_n C dJ2_grow_2_6 7 rfl 0 rfl ?_
  refine s_if_gt C dJ2_grow_2_7 20 10 (by decide) rfl ?_ ?_
  · refine s_iload_n C dJ2_grow_2_20 21 rfl 0 rfl ?_
    refine s_iload_n C dJ2_grow_2_21 22 rfl 2 rfl ?_
    refine s_iload_n C dJ2_grow_2_22 23 rfl 0 rfl ?_
    refine s_isub C dJ2_grow_2_23 24 rfl ?_
    refine s_iload_n C dJ2_grow_2_24 25 rfl 0 rfl ?_
    refine s_iconst (v := 1) C dJ2_grow_2_25 (by decide) 26 rfl ?_
    refine s_ishr C dJ2_grow_2_26 27 rfl ?_
    refine s_call_i (rn_S (As := [.int x2, .int (p0 - x2), .int (x2 >>> (1 &&& 31))]) C (ct_at hR hA (ct_J15_newLength g TA x2 (p0 - x2) (x2 >>> (1 &&& 31)))) (lw_S q469 q470 q128 q471) nv_J15_newLength ⟨by decide, by decide⟩ rfl (bl rfl) dJ2_grow_2_27) 30 rfl (fun x3 => ?_)
    refine s_istore_n C dJ2_grow_2_30 rfl (by decide) 31 rfl [(3, .int x3), (2, .int x2), (0, .ref a0), (1, .int p0)] rfl ?_
    refine s_aload_n C dJ2_grow_2_31 32 rfl 2 rfl ?_
    refine s_aload_n C dJ2_grow_2_32 33 rfl 2 rfl ?_
    refine s_getR C hR fd_ArrayList_elementData (Or.inl q169) dJ2_grow_2_33 36 rfl (fun x4 => ?_)
    refine s_iload_n C dJ2_grow_2_36 37 rfl 0 rfl ?_
    refine s_call_r (rn_S (As := [.ref x4, .int x3]) C (ct_at hR hA (ct_J17_copyOf g TA x4 x3)) (lw_S q479 q480 q130 q481) nv_J17_copyOf ⟨by decide, by decide⟩ rfl (bl rfl) dJ2_grow_2_37) 40 rfl (fun x5 => ?_)
    refine s_dup_x1 C dJ2_grow_2_40 rfl rfl 41 rfl ?_
    refine s_put C hR hA fd_ArrayList_elementData (Or.inl q169) dJ2_grow_2_41 rfl rfl 44 rfl ?_
    exact s_aret C rfl (Or.inr ⟨_, rfl⟩) dJ2_grow_2_44
  · refine s_aload_n C dJ2_grow_2_10 11 rfl 1 rfl ?_
    refine s_getR C hR fd_ArrayList_elementData (Or.inl q169) dJ2_grow_2_11 14 rfl (fun x6 => ?_)
    refine s_gets C C.k.2.2.2.2.2.2.1 q167 dJ2_grow_2_14 17 rfl ?_
    refine s_acmpr_eq C dJ2_grow_2_17 45 20 (by decide) rfl ?_ ?_
    · refine s_aload_n C dJ2_grow_2_45 46 rfl 1 rfl ?_
      refine s_bipush (v := 10) C dJ2_grow_2_46 (by decide) 48 rfl ?_
      refine s_iload_n C dJ2_grow_2_48 49 rfl 2 rfl ?_
      refine s_max C q519 q473 q129 q474 (by decide) (bl rfl) dJ2_grow_2_49 52 rfl ?_
      refine s_newq C hR q520 dJ2_grow_2_52 55 rfl (fun x7 => ?_)
      refine s_dup_x1 C dJ2_grow_2_55 rfl rfl 56 rfl ?_
      refine s_put C hR hA fd_ArrayList_elementData (Or.inl q169) dJ2_grow_2_56 rfl rfl 59 rfl ?_
      exact s_aret C rfl (Or.inr ⟨_, rfl⟩) dJ2_grow_2_59
    · refine s_iload_n C dJ2_grow_2_20 21 rfl 0 rfl ?_
      refine s_iload_n C dJ2_grow_2_21 22 rfl 2 rfl ?_
      refine s_iload_n C dJ2_grow_2_22 23 rfl 0 rfl ?_
      refine s_isub C dJ2_grow_2_23 24 rfl ?_
      refine s_iload_n C dJ2_grow_2_24 25 rfl 0 rfl ?_
      refine s_iconst (v := 1) C dJ2_grow_2_25 (by decide) 26 rfl ?_
      refine s_ishr C dJ2_grow_2_26 27 rfl ?_
      refine s_call_i (rn_S (As := [.int x2, .int (p0 - x2), .int (x2 >>> (1 &&& 31))]) C (ct_at hR hA (ct_J15_newLength g TA x2 (p0 - x2) (x2 >>> (1 &&& 31)))) (lw_S q469 q470 q128 q471) nv_J15_newLength ⟨by decide, by decide⟩ rfl (bl rfl) dJ2_grow_2_27) 30 rfl (fun x8 => ?_)
      refine s_istore_n C dJ2_grow_2_30 rfl (by decide) 31 rfl [(3, .int x8), (2, .int x2), (0, .ref a0), (1, .int p0)] rfl ?_
      refine s_aload_n C dJ2_grow_2_31 32 rfl 2 rfl ?_
      refine s_aload_n C dJ2_grow_2_32 33 rfl 2 rfl ?_
      refine s_getR C hR fd_ArrayList_elementData (Or.inl q169) dJ2_grow_2_33 36 rfl (fun x9 => ?_)
      refine s_iload_n C dJ2_grow_2_36 37 rfl 0 rfl ?_
      refine s_call_r (rn_S (As := [.ref x9, .int x8]) C (ct_at hR hA (ct_J17_copyOf g TA x9 x8)) (lw_S q479 q480 q130 q481) nv_J17_copyOf ⟨by decide, by decide⟩ rfl (bl rfl) dJ2_grow_2_37) 40 rfl (fun x10 => ?_)
      refine s_dup_x1 C dJ2_grow_2_40 rfl rfl 41 rfl ?_
      refine s_put C hR hA fd_ArrayList_elementData (Or.inl q169) dJ2_grow_2_41 rfl rfl 44 rfl ?_
      exact s_aret C rfl (Or.inr ⟨_, rfl⟩) dJ2_grow_2_44
theorem nv_J2_grow : yJ2_grow.cls ≠ "java/lang/invoke/MethodHandle" ∧ yJ2_grow.cls ≠ "java/lang/invoke/VarHandle" ∧ (parseMethodDescriptor yJ2_grow.desc).map (fun d => d.parameters.length) = some 0 := by decide +kernel
theorem ct_J2_grow {l : Launch} (g : sm_G) (TA : Nat → Prop) (a0 : Nat) : sm_CT l g (so_R g TA) (so_A g TA) yJ2_grow cJ2_grow 1 (some (.array (.object "java/lang/Object"))) 4 95 [.ref a0] em_r (f_J2_grow g a0) := by
  refine sm_of (own := "java/util/ArrayList") rfl rfl (bl rfl) (fun Y C hR hA hl hm => ?_)
  subst hl
  refine s_lv (L' := [(0, .ref a0)]) [0] rfl ?_
  refine s_top ?_
  unfold f_J2_grow
  refine s_aload_n C dJ2_grow_0 1 rfl 0 rfl ?_
  refine s_aload_n C dJ2_grow_1 2 rfl 0 rfl ?_
  refine s_getI C hR fd_ArrayList_size (Or.inl q170) dJ2_grow_2 5 rfl (fun x1 => ?_)
  refine s_iconst (v := 1) C dJ2_grow_5 (by decide) 6 rfl ?_
  refine s_iadd C dJ2_grow_6 7 rfl ?_
  refine s_call_r (rn_V (As := [.int (x1 + 1)]) C (ct_at hR hA (ct_on (ct_J2_grow_2 g TA a0 (x1 + 1)))) (rv_on C hR (q := vw_10) rfl) (lw_V q465 q467 qs2 q105 q468) ⟨rfl, nv_J2_grow_2⟩ ⟨by decide, by decide⟩ rfl (bl rfl) dJ2_grow_7) 10 rfl (fun x2 => ?_)
  exact s_aret C rfl (Or.inr ⟨_, rfl⟩) dJ2_grow_10
theorem nv_J2_add_2 : yJ2_add_2.cls ≠ "java/lang/invoke/MethodHandle" ∧ yJ2_add_2.cls ≠ "java/lang/invoke/VarHandle" ∧ (parseMethodDescriptor yJ2_add_2.desc).map (fun d => d.parameters.length) = some 3 := by decide +kernel
theorem ct_J2_add_2 {l : Launch} (g : sm_G) (TA : Nat → Prop) (a0 : Nat) (p0 : Nat) (p1 : Nat) (p2 : Int32) : sm_CT l g (so_R g TA) (so_A g TA) yJ2_add_2 cJ2_add_2 4 none 5 115 [.ref a0, .ref p0, .ref p1, .int p2] em_v (f_J2_add_2 g a0 p0 p1 p2) := by
  refine sm_of (own := "java/util/ArrayList") rfl rfl (bl rfl) (fun Y C hR hA hl hm => ?_)
  subst hl
  refine s_lv (L' := [(0, .ref a0), (1, .ref p0), (2, .ref p1), (3, .int p2)]) [0, 1, 2, 3] rfl ?_
  refine s_top ?_
  unfold f_J2_add_2
  refine s_iload_n C dJ2_add_2_0 1 rfl 3 rfl ?_
  refine s_aload_n C dJ2_add_2_1 2 rfl 2 rfl ?_
  refine s_alen C hR dJ2_add_2_2 3 rfl (fun x1 => ?_)
  refine s_cut (J := 11) (LJ := (fun (v2 : Nat) => [(0, .ref a0), (1, .ref p0), (2, .ref v2), (3, .int p2)])) (SJ := (fun (v2 : Nat) => [])) (fun v2 => ?_) (fun _ _ hK3 => ?_)
  · refine s_aload_n C dJ2_add_2_11 12 rfl 2 rfl ?_
    refine s_iload_n C dJ2_add_2_12 13 rfl 3 rfl ?_
    refine s_aload_n C dJ2_add_2_13 14 rfl 1 rfl ?_
    refine s_aast (x := some p0) C hR hA dJ2_add_2_14 15 rfl ?_
    refine s_aload_n C dJ2_add_2_15 16 rfl 0 rfl ?_
    refine s_iload_n C dJ2_add_2_16 17 rfl 3 rfl ?_
    refine s_iconst (v := 1) C dJ2_add_2_17 (by decide) 18 rfl ?_
    refine s_iadd C dJ2_add_2_18 19 rfl ?_
    refine s_put C hR hA fd_ArrayList_size (Or.inl q170) dJ2_add_2_19 rfl rfl 22 rfl ?_
    exact s_vret C rfl dJ2_add_2_22
  · refine s_icmp_ne C dJ2_add_2_3 11 6 (by decide) rfl ?_ ?_
    · refine s_aload_n C dJ2_add_2_6 7 rfl 0 rfl ?_
      refine s_call_r (rn_V (As := []) C (ct_at hR hA (ct_on (ct_J2_grow g TA a0))) (rv_on C hR (q := vw_10) rfl) (lw_V q461 q463 qs1 q105 q464) ⟨rfl, nv_J2_grow⟩ ⟨by decide, by decide⟩ rfl (bl rfl) dJ2_add_2_7) 10 rfl (fun x4 => ?_)
      refine s_astore_n C dJ2_add_2_10 rfl (by decide) 11 rfl [(2, .ref x4), (0, .ref a0), (1, .ref p0), (3, .int p2)] rfl ?_
      refine s_r ?_
      refine s_lv [1, 2, 0, 3] rfl ?_
      exact hK3 x4
    · refine s_r ?_
      refine s_lv [0, 1, 2, 3] rfl ?_
      exact hK3 p1
theorem nv_J2_add : yJ2_add.cls ≠ "java/lang/invoke/MethodHandle" ∧ yJ2_add.cls ≠ "java/lang/invoke/VarHandle" ∧ (parseMethodDescriptor yJ2_add.desc).map (fun d => d.parameters.length) = some 1 := by decide +kernel
theorem ct_J2_add {l : Launch} (g : sm_G) (TA : Nat → Prop) (a0 : Nat) (p0 : Nat) : sm_CT l g (so_R g TA) (so_A g TA) yJ2_add cJ2_add 2 (some .boolean) 6 138 [.ref a0, .ref p0] em_i (f_J2_add g a0 p0) := by
  refine sm_of (own := "java/util/ArrayList") rfl rfl (bl rfl) (fun Y C hR hA hl hm => ?_)
  subst hl
  refine s_lv (L' := [(0, .ref a0), (1, .ref p0)]) [0, 1] rfl ?_
  refine s_top ?_
  unfold f_J2_add
  refine s_aload_n C dJ2_add_0 1 rfl 0 rfl ?_
  refine s_dup C dJ2_add_1 rfl 2 rfl ?_
  refine s_getI C hR fd_AbstractList_modCount (Or.inr (Or.inr ⟨_, q172, q173⟩)) dJ2_add_2 5 rfl (fun x1 => ?_)
  refine s_iconst (v := 1) C dJ2_add_5 (by decide) 6 rfl ?_
  refine s_iadd C dJ2_add_6 7 rfl ?_
  refine s_put C hR hA fd_AbstractList_modCount (Or.inr (Or.inr ⟨_, q172, q173⟩)) dJ2_add_7 rfl rfl 10 rfl ?_
  refine s_aload_n C dJ2_add_10 11 rfl 0 rfl ?_
  refine s_aload_n C dJ2_add_11 12 rfl 1 rfl ?_
  refine s_aload_n C dJ2_add_12 13 rfl 0 rfl ?_
  refine s_getR C hR fd_ArrayList_elementData (Or.inl q169) dJ2_add_13 16 rfl (fun x2 => ?_)
  refine s_aload_n C dJ2_add_16 17 rfl 0 rfl ?_
  refine s_getI C hR fd_ArrayList_size (Or.inl q170) dJ2_add_17 20 rfl (fun x3 => ?_)
  refine s_call_v (rn_V (As := [.ref p0, .ref x2, .int x3]) C (ct_at hR hA (ct_on (ct_J2_add_2 g TA a0 p0 x2 x3))) (rv_on C hR (q := vw_10) rfl) (lw_V q457 q459 qs0 q105 q460) ⟨rfl, nv_J2_add_2⟩ ⟨by decide, by decide⟩ rfl (bl rfl) dJ2_add_20) 23 rfl ?_
  refine s_iconst (v := 1) C dJ2_add_23 (by decide) 24 rfl ?_
  exact s_iret C rfl rfl dJ2_add_24
theorem nv_X2_copy : yX2_copy.cls ≠ "java/lang/invoke/MethodHandle" ∧ yX2_copy.cls ≠ "java/lang/invoke/VarHandle" ∧ (parseMethodDescriptor yX2_copy.desc).map (fun d => d.parameters.length) = some 0 := by decide +kernel
theorem ct_X2_copy {l : Launch} (g : sm_G) (TA : Nat → Prop) (a0 : Nat) : sm_CT l g (so_R g TA) (so_A g TA) yX2_copy cX2_copy 4 (some (.object "PatchCords$Panel")) 7 159 [.ref a0] em_r (f_X2_copy g a0) := by
  refine sm_of (own := "PatchCords$Panel") rfl rfl (bl rfl) (fun Y C hR hA hl hm => ?_)
  subst hl
  refine s_lv (L' := [(0, .ref a0)]) [0] rfl ?_
  refine s_top ?_
  unfold f_X2_copy
  refine s_new C hR cd_1 rfl df_1 q294 q150 q102 dX2_copy_0 3 rfl (fun x1 => ?_)
  refine s_dup C dX2_copy_3 rfl 4 rfl ?_
  refine s_call_v (rn_I (As := []) C (ct_at hR hA (ct_X2_init g TA x1)) q295 q152 q102 q153 rfl nv_X2_init ⟨by decide, by decide⟩ rfl (bl rfl) dX2_copy_4) 7 rfl ?_
  refine s_astore_n C dX2_copy_7 rfl (by decide) 8 rfl [(1, .ref x1), (0, .ref a0)] rfl ?_
  refine s_aload_n C dX2_copy_8 9 rfl 1 rfl ?_
  refine s_getR C hR fd_PatchCords_Panel_parts (Or.inl q183) dX2_copy_9 12 rfl (fun x3 => ?_)
  refine s_call_i (rn_V (As := []) C (ct_at hR hA (ct_on (ct_J2_size g TA x3))) (rv_on C hR (q := vw_10) rfl) (lw_V q296 q297 q298 q105 q299) ⟨rfl, nv_J2_size⟩ ⟨by decide, by decide⟩ rfl (bl rfl) dX2_copy_12) 15 rfl (fun x4 => ?_)
  refine s_istore_n C dX2_copy_15 rfl (by decide) 16 rfl [(2, .int x4), (1, .ref x1), (0, .ref a0)] rfl ?_
  refine s_iconst (v := 0) C dX2_copy_16 (by decide) 17 rfl ?_
  refine s_istore_n C dX2_copy_17 rfl (by decide) 18 rfl [(3, .int 0), (2, .int x4), (1, .ref x1), (0, .ref a0)] rfl ?_
  refine s_lv [3, 2, 1, 0] rfl ?_
  refine s_loop (fun (s5 : Int32) => [(0, .ref a0), (1, .ref x1), (2, .int x4), (3, .int s5)]) (fun (v17 : Unit) => [(0, .ref a0), (1, .ref x1)]) 63 0 rfl (fun v17 => ?_) (fun _ s5 hk6 hx7 => ?_)
  · refine s_iconst (v := 0) C dX2_copy_63 (by decide) 64 rfl ?_
    refine s_istore_n C dX2_copy_64 rfl (by decide) 65 rfl [(3, .int 0), (0, .ref a0), (1, .ref x1)] rfl ?_
    refine s_lv [1, 2, 0] rfl ?_
    refine s_loop (fun (s18 : Int32) => [(0, .ref a0), (1, .ref x1), (3, .int s18)]) (fun (v25 : Unit) => [(0, .ref a0), (1, .ref x1)]) 91 0 rfl (fun v25 => ?_) (fun _ s18 hk19 hx20 => ?_)
    · refine s_aload_n C dX2_copy_91 92 rfl 1 rfl ?_
      refine s_aload_n C dX2_copy_92 93 rfl 0 rfl ?_
      refine s_getR C hR fd_PatchCords_Panel_way (Or.inl q191) dX2_copy_93 96 rfl (fun x26 => ?_)
      refine s_put C hR hA fd_PatchCords_Panel_way (Or.inl q191) dX2_copy_96 rfl rfl 99 rfl ?_
      refine s_aload_n C dX2_copy_99 100 rfl 1 rfl ?_
      refine s_aload_n C dX2_copy_100 101 rfl 0 rfl ?_
      refine s_getI C hR fd_PatchCords_Panel_guarded (Or.inl q193) dX2_copy_101 104 rfl (fun x27 => ?_)
      refine s_zb (fun h29 => ?_)
      refine s_put C hR hA fd_PatchCords_Panel_guarded (Or.inl q193) dX2_copy_104 (s_zn h29) (s_zf h29) 107 rfl ?_
      refine s_aload_n C dX2_copy_107 108 rfl 1 rfl ?_
      refine s_aload_n C dX2_copy_108 109 rfl 0 rfl ?_
      refine s_getI C hR fd_PatchCords_Panel_mode (Or.inl q195) dX2_copy_109 112 rfl (fun x30 => ?_)
      refine s_put C hR hA fd_PatchCords_Panel_mode (Or.inl q195) dX2_copy_112 rfl rfl 115 rfl ?_
      refine s_aload_n C dX2_copy_115 116 rfl 1 rfl ?_
      refine s_aload_n C dX2_copy_116 117 rfl 0 rfl ?_
      refine s_getI C hR fd_PatchCords_Panel_steps (Or.inl q197) dX2_copy_117 120 rfl (fun x31 => ?_)
      refine s_put C hR hA fd_PatchCords_Panel_steps (Or.inl q197) dX2_copy_120 rfl rfl 123 rfl ?_
      refine s_aload_n C dX2_copy_123 124 rfl 1 rfl ?_
      refine s_aload_n C dX2_copy_124 125 rfl 0 rfl ?_
      refine s_getI C hR fd_PatchCords_Panel_recorded (Or.inl q199) dX2_copy_125 128 rfl (fun x32 => ?_)
      refine s_put C hR hA fd_PatchCords_Panel_recorded (Or.inl q199) dX2_copy_128 rfl rfl 131 rfl ?_
      refine s_aload_n C dX2_copy_131 132 rfl 1 rfl ?_
      refine s_aload_n C dX2_copy_132 133 rfl 0 rfl ?_
      refine s_getI C hR fd_PatchCords_Panel_recordCount (Or.inl q201) dX2_copy_133 136 rfl (fun x33 => ?_)
      refine s_put C hR hA fd_PatchCords_Panel_recordCount (Or.inl q201) dX2_copy_136 rfl rfl 139 rfl ?_
      refine s_aload_n C dX2_copy_139 140 rfl 1 rfl ?_
      refine s_aload_n C dX2_copy_140 141 rfl 0 rfl ?_
      refine s_getI C hR fd_PatchCords_Panel_crossings (Or.inl q203) dX2_copy_141 144 rfl (fun x34 => ?_)
      refine s_put C hR hA fd_PatchCords_Panel_crossings (Or.inl q203) dX2_copy_144 rfl rfl 147 rfl ?_
      refine s_aload_n C dX2_copy_147 148 rfl 1 rfl ?_
      refine s_aload_n C dX2_copy_148 149 rfl 0 rfl ?_
      refine s_getI C hR fd_PatchCords_Panel_latestCrossing (Or.inl q205) dX2_copy_149 152 rfl (fun x35 => ?_)
      refine s_put C hR hA fd_PatchCords_Panel_latestCrossing (Or.inl q205) dX2_copy_152 rfl rfl 155 rfl ?_
      refine s_aload_n C dX2_copy_155 156 rfl 1 rfl ?_
      refine s_aload_n C dX2_copy_156 157 rfl 0 rfl ?_
      refine s_getI C hR fd_PatchCords_Panel_beat (Or.inl q206) dX2_copy_157 160 rfl (fun x36 => ?_)
      refine s_put C hR hA fd_PatchCords_Panel_beat (Or.inl q206) dX2_copy_160 rfl rfl 163 rfl ?_
      refine s_aload_n C dX2_copy_163 164 rfl 1 rfl ?_
      exact s_aret C rfl (Or.inl ⟨_, rfl⟩) dX2_copy_164
    · refine s_iload_n C dX2_copy_65 66 rfl 2 rfl ?_
      refine s_aload_n C dX2_copy_66 67 rfl 0 rfl ?_
      refine s_getI C hR fd_PatchCords_Panel_recordCount (Or.inl q201) dX2_copy_67 70 rfl (fun x21 => ?_)
      refine s_icmp_ge C dX2_copy_70 91 73 (by decide) rfl ?_ ?_
      · refine s_r ?_
        refine s_lv [0, 1] rfl ?_
        exact hx20 ()
      · refine s_aload_n C dX2_copy_73 74 rfl 1 rfl ?_
        refine s_getR C hR fd_PatchCords_Panel_records (Or.inl q189) dX2_copy_74 77 rfl (fun x22 => ?_)
        refine s_iload_n C dX2_copy_77 78 rfl 2 rfl ?_
        refine s_aload_n C dX2_copy_78 79 rfl 0 rfl ?_
        refine s_getR C hR fd_PatchCords_Panel_records (Or.inl q189) dX2_copy_79 82 rfl (fun x23 => ?_)
        refine s_iload_n C dX2_copy_82 83 rfl 2 rfl ?_
        refine s_iald C hR dX2_copy_83 84 rfl (fun x24 => ?_)
        refine s_iast C hR hA dX2_copy_84 85 rfl ?_
        refine s_iinc C dX2_copy_85 (s18 + 1) rfl 2 rfl (by decide) 88 rfl [(3, .int (s18 + 1)), (0, .ref a0), (1, .ref x1)] rfl ?_
        refine s_goto C dX2_copy_88 65 (by decide) ?_
        refine s_r ?_
        refine s_lv [1, 2, 0] rfl ?_
        exact hk19 (s18 + 1)
  · refine s_iload_n C dX2_copy_18 19 rfl 3 rfl ?_
    refine s_iload_n C dX2_copy_19 20 rfl 2 rfl ?_
    refine s_icmp_ge C dX2_copy_20 63 23 (by decide) rfl ?_ ?_
    · refine s_r ?_
      refine s_lv [0, 1] rfl ?_
      exact hx7 ()
    · refine s_aload_n C dX2_copy_23 24 rfl 1 rfl ?_
      refine s_getR C hR fd_PatchCords_Panel_parts (Or.inl q183) dX2_copy_24 27 rfl (fun x8 => ?_)
      refine s_aload_n C dX2_copy_27 28 rfl 0 rfl ?_
      refine s_getR C hR fd_PatchCords_Panel_parts (Or.inl q183) dX2_copy_28 31 rfl (fun x9 => ?_)
      refine s_iload_n C dX2_copy_31 32 rfl 3 rfl ?_
      refine s_call_q (rn_V (As := [.int s5]) C (ct_at hR hA (ct_on (ct_J2_get g TA x9 s5))) (rv_on C hR (q := vw_10) rfl) (lw_V q300 q301 q302 q105 q303) ⟨rfl, nv_J2_get⟩ ⟨by decide, by decide⟩ rfl (bl rfl) dX2_copy_32) 35 rfl (fun x10 => ?_)
      refine s_cast C hR q314 ca_PatchCords_Part dX2_copy_35 x10 38 rfl (fun x11 _ => ?_)
      refine s_call_r (rn_D (by
          intro ci hci
          simp only [List.mem_cons, List.not_mem_nil, or_false] at hci
          rcases hci with rfl | rfl | rfl | rfl | rfl | rfl
          · exact (rn_U (As := []) C (ct_at hR hA (ct_on (ct_X7_copy g TA x11))) (rv_on C hR (q := vw_2) rfl) q315 q317 (va_Decl.of (C.w _ q316) (C.w _ q324)) (C.w _ q452) q320 q122 q321 ⟨by decide +kernel, by decide +kernel, (show (parseMethodDescriptor "()LPatchCords$Part;").map (fun d => d.parameters.length) = some 0 by decide +kernel)⟩ ⟨by decide, by decide⟩ rfl (bl rfl) dX2_copy_38)
          · exact (rn_U (As := []) C (ct_at hR hA (ct_on (ct_X7_copy g TA x11))) (rv_on C hR (q := vw_3) rfl) q315 q317 (va_Decl.of (C.w _ q316) (C.w _ q324)) (C.w _ q319) q320 q122 q321 ⟨by decide +kernel, by decide +kernel, (show (parseMethodDescriptor "()LPatchCords$Part;").map (fun d => d.parameters.length) = some 0 by decide +kernel)⟩ ⟨by decide, by decide⟩ rfl (bl rfl) dX2_copy_38)
          · exact (rn_U (As := []) C (ct_at hR hA (ct_on (ct_X5_copy g TA x11))) (rv_on C hR (q := vw_4) rfl) q315 q317 (va_Decl.of (C.w _ q316) (C.w _ q324)) (C.w _ q449) q316 q120 q324 ⟨by decide +kernel, by decide +kernel, (show (parseMethodDescriptor "()LPatchCords$Part;").map (fun d => d.parameters.length) = some 0 by decide +kernel)⟩ ⟨by decide, by decide⟩ rfl (bl rfl) dX2_copy_38)
          · exact (rn_U (As := []) C (ct_at hR hA (ct_on (ct_X5_copy g TA x11))) (rv_on C hR (q := vw_5) rfl) q315 q317 (va_Decl.of (C.w _ q316) (C.w _ q324)) (C.w _ q450) q316 q120 q324 ⟨by decide +kernel, by decide +kernel, (show (parseMethodDescriptor "()LPatchCords$Part;").map (fun d => d.parameters.length) = some 0 by decide +kernel)⟩ ⟨by decide, by decide⟩ rfl (bl rfl) dX2_copy_38)
          · exact (rn_U (As := []) C (ct_at hR hA (ct_on (ct_X5_copy g TA x11))) (rv_on C hR (q := vw_6) rfl) q315 q317 (va_Decl.of (C.w _ q316) (C.w _ q324)) (C.w _ q318) q316 q120 q324 ⟨by decide +kernel, by decide +kernel, (show (parseMethodDescriptor "()LPatchCords$Part;").map (fun d => d.parameters.length) = some 0 by decide +kernel)⟩ ⟨by decide, by decide⟩ rfl (bl rfl) dX2_copy_38)
          · exact (rn_U (As := []) C (ct_at hR hA (ct_on (ct_X5_copy g TA x11))) (rv_on C hR (q := vw_7) rfl) q315 q317 (va_Decl.of (C.w _ q316) (C.w _ q324)) (C.w _ q451) q316 q120 q324 ⟨by decide +kernel, by decide +kernel, (show (parseMethodDescriptor "()LPatchCords$Part;").map (fun d => d.parameters.length) = some 0 by decide +kernel)⟩ ⟨by decide, by decide⟩ rfl (bl rfl) dX2_copy_38))) 41 rfl (fun x12 => ?_)
      refine s_call_i (rn_V (As := [.ref x12]) C (ct_at hR hA (ct_on (ct_J2_add g TA x8 x12))) (rv_on C hR (q := vw_10) rfl) (lw_V q453 q454 q455 q105 q456) ⟨rfl, nv_J2_add⟩ ⟨by decide, by decide⟩ rfl (bl rfl) dX2_copy_41) 44 rfl (fun x13 => ?_)
      refine s_pop C dX2_copy_44 rfl 45 rfl ?_
      refine s_aload_n C dX2_copy_45 46 rfl 1 rfl ?_
      refine s_getR C hR fd_PatchCords_Panel_order (Or.inl q184) dX2_copy_46 49 rfl (fun x14 => ?_)
      refine s_iload_n C dX2_copy_49 50 rfl 3 rfl ?_
      refine s_aload_n C dX2_copy_50 51 rfl 0 rfl ?_
      refine s_getR C hR fd_PatchCords_Panel_order (Or.inl q184) dX2_copy_51 54 rfl (fun x15 => ?_)
      refine s_iload_n C dX2_copy_54 55 rfl 3 rfl ?_
      refine s_iald C hR dX2_copy_55 56 rfl (fun x16 => ?_)
      refine s_iast C hR hA dX2_copy_56 57 rfl ?_
      refine s_iinc C dX2_copy_57 (s5 + 1) rfl 3 rfl (by decide) 60 rfl [(3, .int (s5 + 1)), (0, .ref a0), (1, .ref x1), (2, .int x4)] rfl ?_
      refine s_goto C dX2_copy_60 18 (by decide) ?_
      refine s_r ?_
      refine s_lv [1, 2, 3, 0] rfl ?_
      exact hk6 (s5 + 1)
theorem nv_X2_size : yX2_size.cls ≠ "java/lang/invoke/MethodHandle" ∧ yX2_size.cls ≠ "java/lang/invoke/VarHandle" ∧ (parseMethodDescriptor yX2_size.desc).map (fun d => d.parameters.length) = some 0 := by decide +kernel
theorem ct_X2_size {l : Launch} (g : sm_G) (TA : Nat → Prop) (a0 : Nat) : sm_CT l g (so_R g TA) (so_A g TA) yX2_size cX2_size 1 (some .int) 1 20 [.ref a0] em_i (f_X2_size g a0) := by
  refine sm_of (own := "PatchCords$Panel") rfl rfl (bl rfl) (fun Y C hR hA hl hm => ?_)
  subst hl
  refine s_lv (L' := [(0, .ref a0)]) [0] rfl ?_
  refine s_top ?_
  unfold f_X2_size
  refine s_aload_n C dX2_size_0 1 rfl 0 rfl ?_
  refine s_getR C hR fd_PatchCords_Panel_parts (Or.inl q183) dX2_size_1 4 rfl (fun x1 => ?_)
  refine s_call_i (rn_V (As := []) C (ct_at hR hA (ct_on (ct_J2_size g TA x1))) (rv_on C hR (q := vw_10) rfl) (lw_V q296 q297 q298 q105 q299) ⟨rfl, nv_J2_size⟩ ⟨by decide, by decide⟩ rfl (bl rfl) dX2_size_4) 7 rfl (fun x2 => ?_)
  exact s_iret C rfl rfl dX2_size_7
theorem nv_X1_modules : yX1_modules.cls ≠ "java/lang/invoke/MethodHandle" ∧ yX1_modules.cls ≠ "java/lang/invoke/VarHandle" ∧ (parseMethodDescriptor yX1_modules.desc).map (fun d => d.parameters.length) = some 0 := by decide +kernel
theorem ct_X1_modules {l : Launch} (g : sm_G) (TA : Nat → Prop) (a0 : Nat) : sm_CT l g (so_R g TA) (so_A g TA) yX1_modules cX1_modules 1 (some .int) 2 40 [.ref a0] em_i (f_X1_modules g a0) := by
  refine sm_of (own := "PatchCords") rfl rfl (bl rfl) (fun Y C hR hA hl hm => ?_)
  subst hl
  refine s_lv (L' := [(0, .ref a0)]) [0] rfl ?_
  refine s_top ?_
  unfold f_X1_modules
  refine s_aload_n C dX1_modules_0 1 rfl 0 rfl ?_
  refine s_getR C hR fd_PatchCords_panel (Or.inl q273) dX1_modules_1 4 rfl (fun x1 => ?_)
  refine s_call_i (rn_V (As := []) C (ct_at hR hA (ct_on (ct_X2_size g TA x1))) (rv_on C hR (q := vw_1) rfl) (lw_V q525 q526 q527 q102 q528) ⟨rfl, nv_X2_size⟩ ⟨by decide, by decide⟩ rfl (bl rfl) dX1_modules_4) 7 rfl (fun x2 => ?_)
  exact s_iret C rfl rfl dX1_modules_7
theorem nv_X1_keep : yX1_keep.cls ≠ "java/lang/invoke/MethodHandle" ∧ yX1_keep.cls ≠ "java/lang/invoke/VarHandle" ∧ (parseMethodDescriptor yX1_keep.desc).map (fun d => d.parameters.length) = some 0 := by decide +kernel
theorem ct_X1_keep {l : Launch} (g : sm_G) (TA : Nat → Prop) (a0 : Nat) : sm_CT l g (so_R g TA) (so_A g TA) yX1_keep cX1_keep 1 (some .int) 8 182 [.ref a0] em_i (f_X1_keep g a0) := by
  refine sm_of (own := "PatchCords") rfl rfl (bl rfl) (fun Y C hR hA hl hm => ?_)
  subst hl
  refine s_lv (L' := [(0, .ref a0)]) [0] rfl ?_
  refine s_top ?_
  unfold f_X1_keep
  refine s_aload_n C dX1_keep_0 1 rfl 0 rfl ?_
  refine s_aload_n C dX1_keep_1 2 rfl 0 rfl ?_
  refine s_getR C hR fd_PatchCords_panel (Or.inl q273) dX1_keep_2 5 rfl (fun x1 => ?_)
  refine s_call_r (rn_V (As := []) C (ct_at hR hA (ct_on (ct_X2_copy g TA x1))) (rv_on C hR (q := vw_1) rfl) (lw_V q290 q291 q292 q102 q293) ⟨rfl, nv_X2_copy⟩ ⟨by decide, by decide⟩ rfl (bl rfl) dX1_keep_5) 8 rfl (fun x2 => ?_)
  refine s_put C hR hA fd_PatchCords_kept (Or.inl q274) dX1_keep_8 rfl rfl 11 rfl ?_
  refine s_aload_n C dX1_keep_11 12 rfl 0 rfl ?_
  refine s_call_i (rn_V (As := []) C (ct_at hR hA (ct_on (ct_X1_modules g TA a0))) (rv_on C hR (q := vw_0) rfl) (lw_V q521 q522 q523 q101 q524) ⟨rfl, nv_X1_modules⟩ ⟨by decide, by decide⟩ rfl (bl rfl) dX1_keep_12) 15 rfl (fun x3 => ?_)
  exact s_iret C rfl rfl dX1_keep_15
theorem nv_J2_fastRemove : yJ2_fastRemove.cls ≠ "java/lang/invoke/MethodHandle" ∧ yJ2_fastRemove.cls ≠ "java/lang/invoke/VarHandle" ∧ (parseMethodDescriptor yJ2_fastRemove.desc).map (fun d => d.parameters.length) = some 2 := by decide +kernel
theorem ct_J2_fastRemove {l : Launch} (g : sm_G) (TA : Nat → Prop) (a0 : Nat) (p0 : Nat) (p1 : Int32) : sm_CT l g (so_R g TA) (so_A g TA) yJ2_fastRemove cJ2_fastRemove 4 none 1 28 [.ref a0, .ref p0, .int p1] em_v (f_J2_fastRemove g a0 p0 p1) := by
  refine sm_of (own := "java/util/ArrayList") rfl rfl (bl rfl) (fun Y C hR hA hl hm => ?_)
  subst hl
  refine s_lv (L' := [(0, .ref a0), (1, .ref p0), (2, .int p1)]) [0, 1, 2] rfl ?_
  refine s_top ?_
  unfold f_J2_fastRemove
  refine s_aload_n C dJ2_fastRemove_0 1 rfl 0 rfl ?_
  refine s_dup C dJ2_fastRemove_1 rfl 2 rfl ?_
  refine s_getI C hR fd_AbstractList_modCount (Or.inr (Or.inr ⟨_, q172, q173⟩)) dJ2_fastRemove_2 5 rfl (fun x1 => ?_)
  refine s_iconst (v := 1) C dJ2_fastRemove_5 (by decide) 6 rfl ?_
  refine s_iadd C dJ2_fastRemove_6 7 rfl ?_
  refine s_put C hR hA fd_AbstractList_modCount (Or.inr (Or.inr ⟨_, q172, q173⟩)) dJ2_fastRemove_7 rfl rfl 10 rfl ?_
  refine s_aload_n C dJ2_fastRemove_10 11 rfl 0 rfl ?_
  refine s_getI C hR fd_ArrayList_size (Or.inl q170) dJ2_fastRemove_11 14 rfl (fun x2 => ?_)
  refine s_iconst (v := 1) C dJ2_fastRemove_14 (by decide) 15 rfl ?_
  refine s_isub C dJ2_fastRemove_15 16 rfl ?_
  refine s_topi (fun x3 => ?_)
  refine s_dup C dJ2_fastRemove_16 rfl 17 rfl ?_
  refine s_istore_n C dJ2_fastRemove_17 rfl (by decide) 18 rfl [(3, .int x3), (0, .ref a0), (1, .ref p0), (2, .int p1)] rfl ?_
  refine s_iload_n C dJ2_fastRemove_18 19 rfl 3 rfl ?_
  refine s_cut (J := 34) (LJ := (fun (v4 : Unit) => [(0, .ref a0), (1, .ref p0), (3, .int x3)])) (SJ := (fun (v4 : Unit) => [])) (fun v4 => ?_) (fun _ _ hK5 => ?_)
  · refine s_aload_n C dJ2_fastRemove_34 35 rfl 1 rfl ?_
    refine s_aload_n C dJ2_fastRemove_35 36 rfl 0 rfl ?_
    refine s_iload_n C dJ2_fastRemove_36 37 rfl 2 rfl ?_
    refine s_dup_x1 C dJ2_fastRemove_37 rfl rfl 38 rfl ?_
    refine s_put C hR hA fd_ArrayList_size (Or.inl q170) dJ2_fastRemove_38 rfl rfl 41 rfl ?_
    refine s_null C dJ2_fastRemove_41 42 rfl ?_
    refine s_aast (x := none) C hR hA dJ2_fastRemove_42 43 rfl ?_
    exact s_vret C rfl dJ2_fastRemove_43
  · refine s_icmp_le C dJ2_fastRemove_19 34 22 (by decide) rfl ?_ ?_
    · refine s_r ?_
      refine s_lv [1, 2, 0] rfl ?_
      exact hK5 ()
    · refine s_aload_n C dJ2_fastRemove_22 23 rfl 2 rfl ?_
      refine s_iload_n C dJ2_fastRemove_23 24 rfl 3 rfl ?_
      refine s_iconst (v := 1) C dJ2_fastRemove_24 (by decide) 25 rfl ?_
      refine s_iadd C dJ2_fastRemove_25 26 rfl ?_
      refine s_aload_n C dJ2_fastRemove_26 27 rfl 2 rfl ?_
      refine s_iload_n C dJ2_fastRemove_27 28 rfl 3 rfl ?_
      refine s_iload_n C dJ2_fastRemove_28 29 rfl 0 rfl ?_
      refine s_iload_n C dJ2_fastRemove_29 30 rfl 3 rfl ?_
      refine s_isub C dJ2_fastRemove_30 31 rfl ?_
      refine s_acq C hR hA q550 q518 q517 q131 (by decide) (bl rfl) dJ2_fastRemove_31 34 rfl ?_
      refine s_r ?_
      refine s_lv [1, 2, 0] rfl ?_
      exact hK5 ()
