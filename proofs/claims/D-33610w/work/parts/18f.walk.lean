/-! THE WALKS -/
theorem nv_X1_goBack : yX1_goBack.cls ≠ "java/lang/invoke/MethodHandle" ∧ yX1_goBack.cls ≠ "java/lang/invoke/VarHandle" ∧ (parseMethodDescriptor yX1_goBack.desc).map (fun d => d.parameters.length) = some 0 := by decide +kernel
theorem ct_X1_goBack {l : Launch} (htr : l.stackTraces = false) (g : sm_G) (TA : Nat → Prop) (a0 : Nat) : sm_CX l g (so_R g TA) (so_A g TA) yX1_goBack cX1_goBack 1 (some .int) 8 182 [.ref a0] (em_x em_i) (f_X1_goBack g a0) := by
  refine sm_ofX htr (own := "PatchCords") rfl rfl (bl rfl) (fun Y C hR hA hl hm => ?_)
  subst hl
  refine s_lv (L' := [(0, .ref a0)]) [0] rfl ?_
  refine s_top ?_
  unfold f_X1_goBack
  refine s_aload_n C dX1_goBack_0 1 rfl 0 rfl ?_
  refine s_getQ C hR fd_PatchCords_kept (Or.inl q274) dX1_goBack_1 4 rfl (fun x1 => ?_)
  refine s_cut (J := 12) (LJ := (fun (v2 : Int32) => [(0, .ref a0)])) (SJ := (fun (v2 : Int32) => [.int v2])) (fun v2 => ?_) (fun _ _ hK3 => ?_)
  · refine s_callX_v C (rx_S (As := [.int v2]) C (cx_at hR hA (ct_X1_checkState C.tr g TA v2)) (lw_S q1350 q1351 q101 q1352) nv_X1_checkState ⟨by decide, by decide⟩ rfl (bl rfl) dX1_goBack_12) (fun _ => rfl) 15 rfl ?_
    refine s_aload_n C dX1_goBack_15 16 rfl 0 rfl ?_
    refine s_aload_n C dX1_goBack_16 17 rfl 0 rfl ?_
    refine s_getR C hR fd_PatchCords_panel (Or.inl q273) dX1_goBack_17 20 rfl (fun x5 => ?_)
    refine s_call_v (rn_V (As := [.ref x5]) C (ct_at hR hA (ct_on (ct_X1_remember g TA a0 x5))) (rv_on C hR (q := vw_0) rfl) (lw_V q537 q539 qs4 q101 q540) ⟨rfl, nv_X1_remember⟩ ⟨by decide, by decide⟩ rfl (bl rfl) dX1_goBack_20) 23 rfl ?_
    refine s_aload_n C dX1_goBack_23 24 rfl 0 rfl ?_
    refine s_aload_n C dX1_goBack_24 25 rfl 0 rfl ?_
    refine s_getR C hR fd_PatchCords_kept (Or.inl q274) dX1_goBack_25 28 rfl (fun x7 => ?_)
    refine s_call_r (rn_V (As := []) C (ct_at hR hA (ct_on (ct_X2_copy g TA x7))) (rv_on C hR (q := vw_1) rfl) (lw_V q290 q291 q292 q102 q293) ⟨rfl, nv_X2_copy⟩ ⟨by decide, by decide⟩ rfl (bl rfl) dX1_goBack_28) 31 rfl (fun x8 => ?_)
    refine s_put C hR hA fd_PatchCords_panel (Or.inl q273) dX1_goBack_31 rfl rfl 34 rfl ?_
    refine s_aload_n C dX1_goBack_34 35 rfl 0 rfl ?_
    refine s_call_i (rn_V (As := []) C (ct_at hR hA (ct_on (ct_X1_modules g TA a0))) (rv_on C hR (q := vw_0) rfl) (lw_V q521 q522 q523 q101 q524) ⟨rfl, nv_X1_modules⟩ ⟨by decide, by decide⟩ rfl (bl rfl) dX1_goBack_35) 38 rfl (fun x9 => ?_)
    exact s_iret C rfl rfl dX1_goBack_38
  · refine s_ifnull C dX1_goBack_4 11 7 (by decide) rfl ?_ ?_
    · refine s_iconst (v := 0) C dX1_goBack_11 (by decide) 12 rfl ?_
      refine s_r ?_
      refine s_lv [0] rfl ?_
      exact hK3 0
    · refine s_iconst (v := 1) C dX1_goBack_7 (by decide) 8 rfl ?_
      refine s_goto C dX1_goBack_8 12 (by decide) ?_
      refine s_r ?_
      refine s_lv [0] rfl ?_
      exact hK3 1
theorem nv_J4_isLatin1 : yJ4_isLatin1.cls ≠ "java/lang/invoke/MethodHandle" ∧ yJ4_isLatin1.cls ≠ "java/lang/invoke/VarHandle" ∧ (parseMethodDescriptor yJ4_isLatin1.desc).map (fun d => d.parameters.length) = some 0 := by decide +kernel
theorem ct_J4_isLatin1 {l : Launch} (g : sm_G) (TA : Nat → Prop) (a0 : Nat) : sm_CT l g (so_R g TA) (so_A g TA) yJ4_isLatin1 cJ4_isLatin1 1 (some .boolean) 0 0 [.ref a0] em_i (f_J4_isLatin1 g a0) := by
  refine sm_of (own := "java/lang/AbstractStringBuilder") rfl rfl (bl rfl) (fun Y C hR hA hl hm => ?_)
  subst hl
  refine s_lv (L' := [(0, .ref a0)]) [0] rfl ?_
  refine s_top ?_
  unfold f_J4_isLatin1
  refine s_gets C C.k.2.2.2.2.2.2.2.1 q249 dJ4_isLatin1_0 3 rfl ?_
  refine s_cut (J := 18) (LJ := (fun (v1 : Int32) => [])) (SJ := (fun (v1 : Int32) => [.int v1])) (fun v1 => ?_) (fun _ _ hK2 => ?_)
  · refine s_zb (fun h => ?_)
    exact s_iret C rfl (s_zn h) dJ4_isLatin1_18
  · refine s_if_eq C dJ4_isLatin1_3 17 6 (by decide) rfl ?_ ?_
    · refine s_iconst (v := 0) C dJ4_isLatin1_17 (by decide) 18 rfl ?_
      refine s_r ?_
      refine s_lv [] rfl ?_
      exact hK2 0
    · refine s_aload_n C dJ4_isLatin1_6 7 rfl 0 rfl ?_
      refine s_getI C hR fd_AbstractStringBuilder_coder (Or.inl q259) dJ4_isLatin1_7 10 rfl (fun x3 => ?_)
      refine s_if_ne C dJ4_isLatin1_10 17 13 (by decide) rfl ?_ ?_
      · refine s_iconst (v := 1) C dJ4_isLatin1_13 (by decide) 14 rfl ?_
        refine s_goto C dJ4_isLatin1_14 18 (by decide) ?_
        refine s_r ?_
        refine s_lv [] rfl ?_
        exact hK2 1
      · refine s_iconst (v := 0) C dJ4_isLatin1_17 (by decide) 18 rfl ?_
        refine s_r ?_
        refine s_lv [] rfl ?_
        exact hK2 0
theorem nv_J20_canEncode : yJ20_canEncode.cls ≠ "java/lang/invoke/MethodHandle" ∧ yJ20_canEncode.cls ≠ "java/lang/invoke/VarHandle" ∧ (parseMethodDescriptor yJ20_canEncode.desc).map (fun d => d.parameters.length) = some 1 := by decide +kernel
theorem ct_J20_canEncode {l : Launch} (g : sm_G) (TA : Nat → Prop) (p0 : Int32) : sm_CT l g (so_R g TA) (so_A g TA) yJ20_canEncode cJ20_canEncode 1 (some .boolean) 0 0 [.int p0] em_i (f_J20_canEncode g p0) := by
  refine sm_of (own := "java/lang/StringLatin1") rfl rfl (bl rfl) (fun Y C hR hA hl hm => ?_)
  subst hl
  refine s_lv (L' := [(0, .int p0)]) [0] rfl ?_
  refine s_top ?_
  unfold f_J20_canEncode
  refine s_iload_n C dJ20_canEncode_0 1 rfl 0 rfl ?_
  refine s_sipush (v := 255) C dJ20_canEncode_1 (by decide) 4 rfl ?_
  refine s_cut (J := 12) (LJ := (fun (v1 : Int32) => [])) (SJ := (fun (v1 : Int32) => [.int v1])) (fun v1 => ?_) (fun _ _ hK2 => ?_)
  · refine s_zb (fun h => ?_)
    exact s_iret C rfl (s_zn h) dJ20_canEncode_12
  · refine s_icmp_gt C dJ20_canEncode_4 11 7 (by decide) rfl ?_ ?_
    · refine s_iconst (v := 0) C dJ20_canEncode_11 (by decide) 12 rfl ?_
      refine s_r ?_
      refine s_lv [] rfl ?_
      exact hK2 0
    · refine s_iconst (v := 1) C dJ20_canEncode_7 (by decide) 8 rfl ?_
      refine s_goto C dJ20_canEncode_8 12 (by decide) ?_
      refine s_r ?_
      refine s_lv [] rfl ?_
      exact hK2 1
theorem nv_J4_append_3 : yJ4_append_3.cls ≠ "java/lang/invoke/MethodHandle" ∧ yJ4_append_3.cls ≠ "java/lang/invoke/VarHandle" ∧ (parseMethodDescriptor yJ4_append_3.desc).map (fun d => d.parameters.length) = some 1 := by decide +kernel
theorem ct_J4_append_3 {l : Launch} (g : sm_G) (TA : Nat → Prop) (a0 : Nat) (p0 : Int32) : sm_CT l g (so_R g TA) (so_A g TA) yJ4_append_3 cJ4_append_3 2 (some (.object "java/lang/AbstractStringBuilder")) 1 22 [.ref a0, .int p0] em_r (f_J4_append_3 g a0 p0) := by
  refine sm_of (own := "java/lang/AbstractStringBuilder") rfl rfl (bl rfl) (fun Y C hR hA hl hm => ?_)
  subst hl
  refine s_lv (L' := [(0, .ref a0), (1, .int p0)]) [0, 1] rfl ?_
  refine s_top ?_
  unfold f_J4_append_3
  refine s_aload_n C dJ4_append_3_0 1 rfl 0 rfl ?_
  refine s_aload_n C dJ4_append_3_1 2 rfl 0 rfl ?_
  refine s_getI C hR fd_AbstractStringBuilder_count (Or.inl q262) dJ4_append_3_2 5 rfl (fun x1 => ?_)
  refine s_iconst (v := 1) C dJ4_append_3_5 (by decide) 6 rfl ?_
  refine s_iadd C dJ4_append_3_6 7 rfl ?_
  refine s_call_v (rn_U (As := [.int (x1 + 1)]) C (ct_at hR hA (ct_on (ct_J4_ensureCapacityInternal g TA a0 (x1 + 1)))) (rv_on C hR (q := vw_11) rfl) q821 q2378 (va_Decl.of (C.w _ q823) (C.w _ q824)) (va_Nw.use rfl (C.k.2.2.2.2.2.2.2.2.2.2.2.2.2.2.2.2.2.2.2 _ List.mem_cons_self)) q823 q108 q824 ⟨by decide +kernel, by decide +kernel, (show (parseMethodDescriptor "(I)V").map (fun d => d.parameters.length) = some 1 by decide +kernel)⟩ ⟨by decide, by decide⟩ rfl (bl rfl) dJ4_append_3_7) 10 rfl ?_
  refine s_aload_n C dJ4_append_3_10 11 rfl 0 rfl ?_
  refine s_call_i (rn_U (As := []) C (ct_at hR hA (ct_on (ct_J4_isLatin1 g TA a0))) (rv_on C hR (q := vw_11) rfl) q841 q843 (va_Decl.of (C.w _ q842) (C.w _ q845)) (C.w _ q844) q842 q108 q845 ⟨by decide +kernel, by decide +kernel, (show (parseMethodDescriptor "()Z").map (fun d => d.parameters.length) = some 0 by decide +kernel)⟩ ⟨by decide, by decide⟩ rfl (bl rfl) dJ4_append_3_11) 14 rfl (fun x3 => ?_)
  refine s_cut (J := 17) (LJ := (fun (v4 : Unit) => [(0, .ref a0), (1, .int p0)])) (SJ := (fun (v4 : Unit) => [])) (fun v4 => ?_) (fun _ _ hK5 => ?_)
  · refine s_iload_n C dJ4_append_3_17 18 rfl 1 rfl ?_
    refine s_call_i (rn_S (As := [.int p0]) C (ct_at hR hA (ct_J20_canEncode g TA p0)) (lw_S q1760 q1761 q134 q1762) nv_J20_canEncode ⟨by decide, by decide⟩ rfl (bl rfl) dJ4_append_3_18) 21 rfl (fun x6 => ?_)
    refine s_cut (J := 24) (LJ := (fun (v7 : Unit) => [(0, .ref a0), (1, .int p0)])) (SJ := (fun (v7 : Unit) => [])) (fun v7 => ?_) (fun _ _ hK8 => ?_)
    · refine s_aload_n C dJ4_append_3_24 25 rfl 0 rfl ?_
      refine s_getR C hR fd_AbstractStringBuilder_value (Or.inl q258) dJ4_append_3_25 28 rfl (fun x9 => ?_)
      refine s_aload_n C dJ4_append_3_28 29 rfl 0 rfl ?_
      refine s_dup C dJ4_append_3_29 rfl 30 rfl ?_
      refine s_getI C hR fd_AbstractStringBuilder_count (Or.inl q262) dJ4_append_3_30 33 rfl (fun x10 => ?_)
      refine s_dup_x1 C dJ4_append_3_33 rfl rfl 34 rfl ?_
      refine s_iconst (v := 1) C dJ4_append_3_34 (by decide) 35 rfl ?_
      refine s_iadd C dJ4_append_3_35 36 rfl ?_
      refine s_put C hR hA fd_AbstractStringBuilder_count (Or.inl q262) dJ4_append_3_36 rfl rfl 39 rfl ?_
      refine s_iload_n C dJ4_append_3_39 40 rfl 1 rfl ?_
      refine s_i2b C dJ4_append_3_40 41 rfl ?_
      refine s_bast C hR hA dJ4_append_3_41 42 rfl ?_
      refine s_goto C dJ4_append_3_42 75 (by decide) ?_
      refine s_aload_n C dJ4_append_3_75 76 rfl 0 rfl ?_
      exact s_aret C rfl (Or.inl ⟨_, rfl⟩) dJ4_append_3_76
    · refine s_if_eq C dJ4_append_3_21 45 24 (by decide) rfl ?_ ?_
      · exact s_none1
      · refine s_r ?_
        refine s_lv [0, 1] rfl ?_
        exact hK8 ()
  · refine s_if_eq C dJ4_append_3_14 45 17 (by decide) rfl ?_ ?_
    · exact s_none1
    · refine s_r ?_
      refine s_lv [0, 1] rfl ?_
      exact hK5 ()
theorem nv_J5_append_3 : yJ5_append_3.cls ≠ "java/lang/invoke/MethodHandle" ∧ yJ5_append_3.cls ≠ "java/lang/invoke/VarHandle" ∧ (parseMethodDescriptor yJ5_append_3.desc).map (fun d => d.parameters.length) = some 1 := by decide +kernel
theorem ct_J5_append_3 {l : Launch} (g : sm_G) (TA : Nat → Prop) (a0 : Nat) (p0 : Int32) : sm_CT l g (so_R g TA) (so_A g TA) yJ5_append_3 cJ5_append_3 2 (some (.object "java/lang/StringBuilder")) 2 43 [.ref a0, .int p0] em_r (f_J5_append_3 g a0 p0) := by
  refine sm_of (own := "java/lang/StringBuilder") rfl rfl (bl rfl) (fun Y C hR hA hl hm => ?_)
  subst hl
  refine s_lv (L' := [(0, .ref a0), (1, .int p0)]) [0, 1] rfl ?_
  refine s_top ?_
  unfold f_J5_append_3
  refine s_aload_n C dJ5_append_3_0 1 rfl 0 rfl ?_
  refine s_iload_n C dJ5_append_3_1 2 rfl 1 rfl ?_
  refine s_call_r (rn_SU (As := [.int p0]) C ⟨_, (C.k.1.1 11 vw_11 rfl).2⟩ (ct_at hR hA (ct_on (ct_J4_append_3 g TA a0 p0))) (rv_on C hR (q := vw_11) rfl) (lw_SU q1757 q2387 q271 q1758 q108 q1759) ⟨by decide +kernel, (show (parseMethodDescriptor "(C)Ljava/lang/AbstractStringBuilder;").map (fun d => d.parameters.length) = some 1 by decide +kernel)⟩ ⟨by decide, by decide⟩ rfl (bl rfl) dJ5_append_3_2) 5 rfl (fun x1 => ?_)
  refine s_pop C dJ5_append_3_5 rfl 6 rfl ?_
  refine s_aload_n C dJ5_append_3_6 7 rfl 0 rfl ?_
  exact s_aret C rfl (Or.inl ⟨_, rfl⟩) dJ5_append_3_7
theorem nv_X1_append : yX1_append.cls ≠ "java/lang/invoke/MethodHandle" ∧ yX1_append.cls ≠ "java/lang/invoke/VarHandle" ∧ (parseMethodDescriptor yX1_append.desc).map (fun d => d.parameters.length) = some 1 := by decide +kernel
theorem ct_X1_append {l : Launch} (htr : l.stackTraces = false) (g : sm_G) (TA : Nat → Prop) (a0 : Nat) (p0 : Int32) : sm_CX l g (so_R g TA) (so_A g TA) yX1_append cX1_append 2 (some .int) 7 103 [.ref a0, .int p0] (em_x em_i) (f_X1_append g a0 p0) := by
  refine sm_ofX htr (own := "PatchCords") rfl rfl (bl rfl) (fun Y C hR hA hl hm => ?_)
  subst hl
  refine s_lv (L' := [(0, .ref a0), (1, .int p0)]) [0, 1] rfl ?_
  refine s_top ?_
  unfold f_X1_append
  refine s_iload_n C dX1_append_0 1 rfl 1 rfl ?_
  refine s_bipush (v := 33) C dX1_append_1 (by decide) 3 rfl ?_
  refine s_bipush (v := 126) C dX1_append_3 (by decide) 5 rfl ?_
  refine s_callX_v C (rx_S (As := [.int p0, .int 33, .int 126]) C (cx_at hR hA (ct_X1_checkRange C.tr g TA p0 33 126)) (lw_S q1335 q1336 q101 q1337) nv_X1_checkRange ⟨by decide, by decide⟩ rfl (bl rfl) dX1_append_5) (fun _ => rfl) 8 rfl ?_
  refine s_aload_n C dX1_append_8 9 rfl 0 rfl ?_
  refine s_getR C hR fd_PatchCords_text (Or.inl q276) dX1_append_9 12 rfl (fun x2 => ?_)
  refine s_call_i (rn_V (As := []) C (ct_at hR hA (ct_on (ct_J5_length g TA x2))) (rv_on C hR (q := vw_11) rfl) (lw_V q786 q787 q788 q109 q789) ⟨rfl, nv_J5_length⟩ ⟨by decide, by decide⟩ rfl (bl rfl) dX1_append_12) 15 rfl (fun x3 => ?_)
  refine s_bipush (v := 60) C dX1_append_15 (by decide) 17 rfl ?_
  refine s_cut (J := 25) (LJ := (fun (v4 : Int32) => [(0, .ref a0), (1, .int p0)])) (SJ := (fun (v4 : Int32) => [.int v4])) (fun v4 => ?_) (fun _ _ hK5 => ?_)
  · refine s_callX_v C (rx_S (As := [.int v4]) C (cx_at hR hA (ct_X1_checkState C.tr g TA v4)) (lw_S q1350 q1351 q101 q1352) nv_X1_checkState ⟨by decide, by decide⟩ rfl (bl rfl) dX1_append_25) (fun _ => rfl) 28 rfl ?_
    refine s_aload_n C dX1_append_28 29 rfl 0 rfl ?_
    refine s_getR C hR fd_PatchCords_text (Or.inl q276) dX1_append_29 32 rfl (fun x7 => ?_)
    refine s_iload_n C dX1_append_32 33 rfl 1 rfl ?_
    refine s_i2c C dX1_append_33 34 rfl ?_
    refine s_call_r (rn_V (As := [.int ((p0.toUInt32 % 65536).toInt32)]) C (ct_at hR hA (ct_on (ct_J5_append_3 g TA x7 ((p0.toUInt32 % 65536).toInt32)))) (rv_on C hR (q := vw_11) rfl) (lw_V q1753 q1754 q1755 q109 q1756) ⟨rfl, nv_J5_append_3⟩ ⟨by decide, by decide⟩ rfl (bl rfl) dX1_append_34) 37 rfl (fun x8 => ?_)
    refine s_pop C dX1_append_37 rfl 38 rfl ?_
    refine s_aload_n C dX1_append_38 39 rfl 0 rfl ?_
    refine s_getR C hR fd_PatchCords_text (Or.inl q276) dX1_append_39 42 rfl (fun x9 => ?_)
    refine s_call_i (rn_V (As := []) C (ct_at hR hA (ct_on (ct_J5_length g TA x9))) (rv_on C hR (q := vw_11) rfl) (lw_V q786 q787 q788 q109 q789) ⟨rfl, nv_J5_length⟩ ⟨by decide, by decide⟩ rfl (bl rfl) dX1_append_42) 45 rfl (fun x10 => ?_)
    exact s_iret C rfl rfl dX1_append_45
  · refine s_icmp_ge C dX1_append_17 24 20 (by decide) rfl ?_ ?_
    · refine s_iconst (v := 0) C dX1_append_24 (by decide) 25 rfl ?_
      refine s_r ?_
      refine s_lv [0, 1] rfl ?_
      exact hK5 0
    · refine s_iconst (v := 1) C dX1_append_20 (by decide) 21 rfl ?_
      refine s_goto C dX1_append_21 25 (by decide) ?_
      refine s_r ?_
      refine s_lv [0, 1] rfl ?_
      exact hK5 1
theorem nv_X1_hasInput : yX1_hasInput.cls ≠ "java/lang/invoke/MethodHandle" ∧ yX1_hasInput.cls ≠ "java/lang/invoke/VarHandle" ∧ (parseMethodDescriptor yX1_hasInput.desc).map (fun d => d.parameters.length) = some 2 := by decide +kernel
theorem ct_X1_hasInput {l : Launch} (g : sm_G) (TA : Nat → Prop) (a0 : Nat) (p0 : Int32) (p1 : Int32) : sm_CT l g (so_R g TA) (so_A g TA) yX1_hasInput cX1_hasInput 3 (some .boolean) 4 85 [.ref a0, .int p0, .int p1] em_i (f_X1_hasInput g a0 p0 p1) := by
  refine sm_of (own := "PatchCords") rfl rfl (bl rfl) (fun Y C hR hA hl hm => ?_)
  subst hl
  refine s_lv (L' := [(0, .ref a0), (1, .int p0), (2, .int p1)]) [0, 1, 2] rfl ?_
  refine s_top ?_
  unfold f_X1_hasInput
  refine s_iload_n C dX1_hasInput_0 1 rfl 1 rfl ?_
  refine s_aload_n C dX1_hasInput_1 2 rfl 0 rfl ?_
  refine s_call_i (rn_V (As := []) C (ct_at hR hA (ct_on (ct_X1_modules g TA a0))) (rv_on C hR (q := vw_0) rfl) (lw_V q521 q522 q523 q101 q524) ⟨rfl, nv_X1_modules⟩ ⟨by decide, by decide⟩ rfl (bl rfl) dX1_hasInput_2) 5 rfl (fun x1 => ?_)
  refine s_cut (J := 29) (LJ := (fun (v2 : Int32) => [])) (SJ := (fun (v2 : Int32) => [.int v2])) (fun v2 => ?_) (fun _ _ hK3 => ?_)
  · refine s_zb (fun h => ?_)
    exact s_iret C rfl (s_zn h) dX1_hasInput_29
  · refine s_icmp_ge C dX1_hasInput_5 28 8 (by decide) rfl ?_ ?_
    · refine s_iconst (v := 0) C dX1_hasInput_28 (by decide) 29 rfl ?_
      refine s_r ?_
      refine s_lv [] rfl ?_
      exact hK3 0
    · refine s_iload_n C dX1_hasInput_8 9 rfl 2 rfl ?_
      refine s_aload_n C dX1_hasInput_9 10 rfl 0 rfl ?_
      refine s_getR C hR fd_PatchCords_panel (Or.inl q273) dX1_hasInput_10 13 rfl (fun x4 => ?_)
      refine s_iload_n C dX1_hasInput_13 14 rfl 1 rfl ?_
      refine s_call_r (rn_V (As := [.int p0]) C (ct_at hR hA (ct_on (ct_X2_part g TA x4 p0))) (rv_on C hR (q := vw_1) rfl) (lw_V q1260 q563 q564 q102 q565) ⟨rfl, nv_X2_part⟩ ⟨by decide, by decide⟩ rfl (bl rfl) dX1_hasInput_14) 17 rfl (fun x5 => ?_)
      refine s_getR C hR fd_PatchCords_Part_cords (Or.inr (Or.inl ⟨_, q342⟩)) dX1_hasInput_17 20 rfl (fun x6 => ?_)
      refine s_alen C hR dX1_hasInput_20 21 rfl (fun x7 => ?_)
      refine s_icmp_ge C dX1_hasInput_21 28 24 (by decide) rfl ?_ ?_
      · refine s_iconst (v := 0) C dX1_hasInput_28 (by decide) 29 rfl ?_
        refine s_r ?_
        refine s_lv [] rfl ?_
        exact hK3 0
      · refine s_iconst (v := 1) C dX1_hasInput_24 (by decide) 25 rfl ?_
        refine s_goto C dX1_hasInput_25 29 (by decide) ?_
        refine s_r ?_
        refine s_lv [] rfl ?_
        exact hK3 1
theorem nv_X1_isPossible : yX1_isPossible.cls ≠ "java/lang/invoke/MethodHandle" ∧ yX1_isPossible.cls ≠ "java/lang/invoke/VarHandle" ∧ (parseMethodDescriptor yX1_isPossible.desc).map (fun d => d.parameters.length) = some 1 := by decide +kernel
theorem ct_X1_isPossible {l : Launch} (g : sm_G) (TA : Nat → Prop) (a0 : Nat) (p0 : Nat) : sm_CT l g (so_R g TA) (so_A g TA) yX1_isPossible cX1_isPossible 2 (some .boolean) 6 132 [.ref a0, .ref p0] em_i (f_X1_isPossible g a0 p0) := by
  refine sm_of (own := "PatchCords") rfl rfl (bl rfl) (fun Y C hR hA hl hm => ?_)
  subst hl
  refine s_lv (L' := [(0, .ref a0), (1, .ref p0)]) [0, 1] rfl ?_
  refine s_top ?_
  unfold f_X1_isPossible
  refine s_aload_n C dX1_isPossible_0 1 rfl 1 rfl ?_
  refine s_getI C hR fd_PatchCords_Item_sign (Or.inr (Or.inl ⟨_, q1190⟩)) dX1_isPossible_1 4 rfl (fun x1 => ?_)
  refine s_lku C dX1_isPossible_4 43 (67) 71 (by decide) (by decide) (by decide) ?_ (fun hc51 => ?_)
  · refine s_aload_n C dX1_isPossible_71 72 rfl 0 rfl ?_
    refine s_aload_n C dX1_isPossible_72 73 rfl 1 rfl ?_
    refine s_getI C hR fd_PatchCords_Item_one (Or.inr (Or.inl ⟨_, q1192⟩)) dX1_isPossible_73 76 rfl (fun x2 => ?_)
    refine s_call_i (rn_V (As := [.int x2]) C (ct_at hR hA (ct_on (ct_X1_canPass g TA a0 x2))) (rv_on C hR (q := vw_0) rfl) (lw_V q1558 q1560 qs31 q101 q1561) ⟨rfl, nv_X1_canPass⟩ ⟨by decide, by decide⟩ rfl (bl rfl) dX1_isPossible_76) 79 rfl (fun x3 => ?_)
    refine s_zb (fun h => ?_)
    exact s_iret C rfl (s_zn h) dX1_isPossible_79
  refine s_lku C dX1_isPossible_4 102 (154) 158 (by decide) (by decide) (by decide) ?_ (fun hc52 => ?_)
  · refine s_aload_n C dX1_isPossible_158 159 rfl 1 rfl ?_
    refine s_getI C hR fd_PatchCords_Item_one (Or.inr (Or.inl ⟨_, q1192⟩)) dX1_isPossible_159 162 rfl (fun x5 => ?_)
    refine s_aload_n C dX1_isPossible_162 163 rfl 0 rfl ?_
    refine s_call_i (rn_V (As := []) C (ct_at hR hA (ct_on (ct_X1_modules g TA a0))) (rv_on C hR (q := vw_0) rfl) (lw_V q521 q522 q523 q101 q524) ⟨rfl, nv_X1_modules⟩ ⟨by decide, by decide⟩ rfl (bl rfl) dX1_isPossible_163) 166 rfl (fun x6 => ?_)
    refine s_cut (J := 191) (LJ := (fun (v7 : Int32) => [])) (SJ := (fun (v7 : Int32) => [.int v7])) (fun v7 => ?_) (fun _ _ hK8 => ?_)
    · refine s_zb (fun h => ?_)
      exact s_iret C rfl (s_zn h) dX1_isPossible_191
    · refine s_icmp_ge C dX1_isPossible_166 190 169 (by decide) rfl ?_ ?_
      · refine s_iconst (v := 0) C dX1_isPossible_190 (by decide) 191 rfl ?_
        refine s_r ?_
        refine s_lv [] rfl ?_
        exact hK8 0
      · refine s_aload_n C dX1_isPossible_169 170 rfl 0 rfl ?_
        refine s_getR C hR fd_PatchCords_panel (Or.inl q273) dX1_isPossible_170 173 rfl (fun x9 => ?_)
        refine s_aload_n C dX1_isPossible_173 174 rfl 1 rfl ?_
        refine s_getI C hR fd_PatchCords_Item_one (Or.inr (Or.inl ⟨_, q1192⟩)) dX1_isPossible_174 177 rfl (fun x10 => ?_)
        refine s_call_r (rn_V (As := [.int x10]) C (ct_at hR hA (ct_on (ct_X2_part g TA x9 x10))) (rv_on C hR (q := vw_1) rfl) (lw_V q1260 q563 q564 q102 q565) ⟨rfl, nv_X2_part⟩ ⟨by decide, by decide⟩ rfl (bl rfl) dX1_isPossible_177) 180 rfl (fun x11 => ?_)
        refine s_inst C hR q1378 io_Pot dX1_isPossible_180 183 rfl (fun x12 => ?_)
        refine s_if_eq C dX1_isPossible_183 190 186 (by decide) rfl ?_ ?_
        · refine s_iconst (v := 0) C dX1_isPossible_190 (by decide) 191 rfl ?_
          refine s_r ?_
          refine s_lv [] rfl ?_
          exact hK8 0
        · refine s_iconst (v := 1) C dX1_isPossible_186 (by decide) 187 rfl ?_
          refine s_goto C dX1_isPossible_187 191 (by decide) ?_
          refine s_r ?_
          refine s_lv [] rfl ?_
          exact hK8 1
  refine s_lku C dX1_isPossible_4 110 (52) 56 (by decide) (by decide) (by decide) ?_ (fun hc53 => ?_)
  · refine s_aload_n C dX1_isPossible_56 57 rfl 0 rfl ?_
    refine s_call_i (rn_V (As := []) C (ct_at hR hA (ct_on (ct_X1_modules g TA a0))) (rv_on C hR (q := vw_0) rfl) (lw_V q521 q522 q523 q101 q524) ⟨rfl, nv_X1_modules⟩ ⟨by decide, by decide⟩ rfl (bl rfl) dX1_isPossible_57) 60 rfl (fun x14 => ?_)
    refine s_bipush (v := 16) C dX1_isPossible_60 (by decide) 62 rfl ?_
    refine s_cut (J := 70) (LJ := (fun (v15 : Int32) => [])) (SJ := (fun (v15 : Int32) => [.int v15])) (fun v15 => ?_) (fun _ _ hK16 => ?_)
    · refine s_zb (fun h => ?_)
      exact s_iret C rfl (s_zn h) dX1_isPossible_70
    · refine s_icmp_ge C dX1_isPossible_62 69 65 (by decide) rfl ?_ ?_
      · refine s_iconst (v := 0) C dX1_isPossible_69 (by decide) 70 rfl ?_
        refine s_r ?_
        refine s_lv [] rfl ?_
        exact hK16 0
      · refine s_iconst (v := 1) C dX1_isPossible_65 (by decide) 66 rfl ?_
        refine s_goto C dX1_isPossible_66 70 (by decide) ?_
        refine s_r ?_
        refine s_lv [] rfl ?_
        exact hK16 1
  refine s_lku C dX1_isPossible_4 118 (120) 124 (by decide) (by decide) (by decide) ?_ (fun hc54 => ?_)
  · refine s_aload_n C dX1_isPossible_124 125 rfl 1 rfl ?_
    refine s_getI C hR fd_PatchCords_Item_one (Or.inr (Or.inl ⟨_, q1192⟩)) dX1_isPossible_125 128 rfl (fun x18 => ?_)
    refine s_aload_n C dX1_isPossible_128 129 rfl 0 rfl ?_
    refine s_call_i (rn_V (As := []) C (ct_at hR hA (ct_on (ct_X1_modules g TA a0))) (rv_on C hR (q := vw_0) rfl) (lw_V q521 q522 q523 q101 q524) ⟨rfl, nv_X1_modules⟩ ⟨by decide, by decide⟩ rfl (bl rfl) dX1_isPossible_129) 132 rfl (fun x19 => ?_)
    refine s_cut (J := 157) (LJ := (fun (v20 : Int32) => [])) (SJ := (fun (v20 : Int32) => [.int v20])) (fun v20 => ?_) (fun _ _ hK21 => ?_)
    · refine s_zb (fun h => ?_)
      exact s_iret C rfl (s_zn h) dX1_isPossible_157
    · refine s_icmp_ge C dX1_isPossible_132 156 135 (by decide) rfl ?_ ?_
      · refine s_iconst (v := 0) C dX1_isPossible_156 (by decide) 157 rfl ?_
        refine s_r ?_
        refine s_lv [] rfl ?_
        exact hK21 0
      · refine s_aload_n C dX1_isPossible_135 136 rfl 0 rfl ?_
        refine s_getR C hR fd_PatchCords_panel (Or.inl q273) dX1_isPossible_136 139 rfl (fun x22 => ?_)
        refine s_aload_n C dX1_isPossible_139 140 rfl 1 rfl ?_
        refine s_getI C hR fd_PatchCords_Item_one (Or.inr (Or.inl ⟨_, q1192⟩)) dX1_isPossible_140 143 rfl (fun x23 => ?_)
        refine s_call_r (rn_V (As := [.int x23]) C (ct_at hR hA (ct_on (ct_X2_part g TA x22 x23))) (rv_on C hR (q := vw_1) rfl) (lw_V q1260 q563 q564 q102 q565) ⟨rfl, nv_X2_part⟩ ⟨by decide, by decide⟩ rfl (bl rfl) dX1_isPossible_143) 146 rfl (fun x24 => ?_)
        refine s_call_i (rn_S (As := [.ref x24]) C (ct_at hR hA (ct_X1_hasVoltage g TA x24)) (lw_S q1447 q1448 q101 q1449) nv_X1_hasVoltage ⟨by decide, by decide⟩ rfl (bl rfl) dX1_isPossible_146) 149 rfl (fun x25 => ?_)
        refine s_if_eq C dX1_isPossible_149 156 152 (by decide) rfl ?_ ?_
        · refine s_iconst (v := 0) C dX1_isPossible_156 (by decide) 157 rfl ?_
          refine s_r ?_
          refine s_lv [] rfl ?_
          exact hK21 0
        · refine s_iconst (v := 1) C dX1_isPossible_152 (by decide) 153 rfl ?_
          refine s_goto C dX1_isPossible_153 157 (by decide) ?_
          refine s_r ?_
          refine s_lv [] rfl ?_
          exact hK21 1
  refine s_lku C dX1_isPossible_4 120 (76) 80 (by decide) (by decide) (by decide) ?_ (fun hc55 => ?_)
  · refine s_aload_n C dX1_isPossible_80 81 rfl 0 rfl ?_
    refine s_aload_n C dX1_isPossible_81 82 rfl 1 rfl ?_
    refine s_getI C hR fd_PatchCords_Item_one (Or.inr (Or.inl ⟨_, q1192⟩)) dX1_isPossible_82 85 rfl (fun x27 => ?_)
    refine s_aload_n C dX1_isPossible_85 86 rfl 1 rfl ?_
    refine s_getI C hR fd_PatchCords_Item_input (Or.inr (Or.inl ⟨_, q1196⟩)) dX1_isPossible_86 89 rfl (fun x28 => ?_)
    refine s_call_i (rn_V (As := [.int x27, .int x28]) C (ct_at hR hA (ct_on (ct_X1_hasInput g TA a0 x27 x28))) (rv_on C hR (q := vw_0) rfl) (lw_V q1783 q1785 qs34 q101 q1786) ⟨rfl, nv_X1_hasInput⟩ ⟨by decide, by decide⟩ rfl (bl rfl) dX1_isPossible_89) 92 rfl (fun x29 => ?_)
    refine s_cut (J := 123) (LJ := (fun (v30 : Int32) => [])) (SJ := (fun (v30 : Int32) => [.int v30])) (fun v30 => ?_) (fun _ _ hK31 => ?_)
    · refine s_zb (fun h => ?_)
      exact s_iret C rfl (s_zn h) dX1_isPossible_123
    · refine s_if_eq C dX1_isPossible_92 122 95 (by decide) rfl ?_ ?_
      · refine s_iconst (v := 0) C dX1_isPossible_122 (by decide) 123 rfl ?_
        refine s_r ?_
        refine s_lv [] rfl ?_
        exact hK31 0
      · refine s_aload_n C dX1_isPossible_95 96 rfl 0 rfl ?_
        refine s_getR C hR fd_PatchCords_panel (Or.inl q273) dX1_isPossible_96 99 rfl (fun x32 => ?_)
        refine s_aload_n C dX1_isPossible_99 100 rfl 1 rfl ?_
        refine s_getI C hR fd_PatchCords_Item_one (Or.inr (Or.inl ⟨_, q1192⟩)) dX1_isPossible_100 103 rfl (fun x33 => ?_)
        refine s_call_r (rn_V (As := [.int x33]) C (ct_at hR hA (ct_on (ct_X2_part g TA x32 x33))) (rv_on C hR (q := vw_1) rfl) (lw_V q1260 q563 q564 q102 q565) ⟨rfl, nv_X2_part⟩ ⟨by decide, by decide⟩ rfl (bl rfl) dX1_isPossible_103) 106 rfl (fun x34 => ?_)
        refine s_getR C hR fd_PatchCords_Part_cords (Or.inr (Or.inl ⟨_, q342⟩)) dX1_isPossible_106 109 rfl (fun x35 => ?_)
        refine s_aload_n C dX1_isPossible_109 110 rfl 1 rfl ?_
        refine s_getI C hR fd_PatchCords_Item_input (Or.inr (Or.inl ⟨_, q1196⟩)) dX1_isPossible_110 113 rfl (fun x36 => ?_)
        refine s_iald C hR dX1_isPossible_113 114 rfl (fun x37 => ?_)
        refine s_iconst (v := (-1)) C dX1_isPossible_114 (by decide) 115 rfl ?_
        refine s_icmp_eq C dX1_isPossible_115 122 118 (by decide) rfl ?_ ?_
        · refine s_iconst (v := 0) C dX1_isPossible_122 (by decide) 123 rfl ?_
          refine s_r ?_
          refine s_lv [] rfl ?_
          exact hK31 0
        · refine s_iconst (v := 1) C dX1_isPossible_118 (by decide) 119 rfl ?_
          refine s_goto C dX1_isPossible_119 123 (by decide) ?_
          refine s_r ?_
          refine s_lv [] rfl ?_
          exact hK31 1
  refine s_lkuD C dX1_isPossible_4 192 (by decide) (by
      intro q hq
      simp only [List.map_cons, List.map_nil, List.mem_cons, List.not_mem_nil, or_false] at hq
      rcases hq with rfl | rfl | rfl | rfl | rfl
      · exact sw_ne hc51
      · exact sw_ne hc52
      · exact sw_ne hc53
      · exact sw_ne hc54
      · exact sw_ne hc55) (by decide) ?_
  refine s_aload_n C dX1_isPossible_192 193 rfl 1 rfl ?_
  refine s_getI C hR fd_PatchCords_Item_one (Or.inr (Or.inl ⟨_, q1192⟩)) dX1_isPossible_193 196 rfl (fun x39 => ?_)
  refine s_aload_n C dX1_isPossible_196 197 rfl 0 rfl ?_
  refine s_call_i (rn_V (As := []) C (ct_at hR hA (ct_on (ct_X1_modules g TA a0))) (rv_on C hR (q := vw_0) rfl) (lw_V q521 q522 q523 q101 q524) ⟨rfl, nv_X1_modules⟩ ⟨by decide, by decide⟩ rfl (bl rfl) dX1_isPossible_197) 200 rfl (fun x40 => ?_)
  refine s_cut (J := 241) (LJ := (fun (v41 : Int32) => [])) (SJ := (fun (v41 : Int32) => [.int v41])) (fun v41 => ?_) (fun _ _ hK42 => ?_)
  · refine s_zb (fun h => ?_)
    exact s_iret C rfl (s_zn h) dX1_isPossible_241
  · refine s_icmp_ge C dX1_isPossible_200 240 203 (by decide) rfl ?_ ?_
    · refine s_iconst (v := 0) C dX1_isPossible_240 (by decide) 241 rfl ?_
      refine s_r ?_
      refine s_lv [] rfl ?_
      exact hK42 0
    · refine s_aload_n C dX1_isPossible_203 204 rfl 0 rfl ?_
      refine s_aload_n C dX1_isPossible_204 205 rfl 1 rfl ?_
      refine s_getI C hR fd_PatchCords_Item_other (Or.inr (Or.inl ⟨_, q1194⟩)) dX1_isPossible_205 208 rfl (fun x43 => ?_)
      refine s_aload_n C dX1_isPossible_208 209 rfl 1 rfl ?_
      refine s_getI C hR fd_PatchCords_Item_input (Or.inr (Or.inl ⟨_, q1196⟩)) dX1_isPossible_209 212 rfl (fun x44 => ?_)
      refine s_call_i (rn_V (As := [.int x43, .int x44]) C (ct_at hR hA (ct_on (ct_X1_hasInput g TA a0 x43 x44))) (rv_on C hR (q := vw_0) rfl) (lw_V q1783 q1785 qs34 q101 q1786) ⟨rfl, nv_X1_hasInput⟩ ⟨by decide, by decide⟩ rfl (bl rfl) dX1_isPossible_212) 215 rfl (fun x45 => ?_)
      refine s_if_eq C dX1_isPossible_215 240 218 (by decide) rfl ?_ ?_
      · refine s_iconst (v := 0) C dX1_isPossible_240 (by decide) 241 rfl ?_
        refine s_r ?_
        refine s_lv [] rfl ?_
        exact hK42 0
      · refine s_aload_n C dX1_isPossible_218 219 rfl 0 rfl ?_
        refine s_getR C hR fd_PatchCords_panel (Or.inl q273) dX1_isPossible_219 222 rfl (fun x46 => ?_)
        refine s_aload_n C dX1_isPossible_222 223 rfl 1 rfl ?_
        refine s_getI C hR fd_PatchCords_Item_one (Or.inr (Or.inl ⟨_, q1192⟩)) dX1_isPossible_223 226 rfl (fun x47 => ?_)
        refine s_aload_n C dX1_isPossible_226 227 rfl 1 rfl ?_
        refine s_getI C hR fd_PatchCords_Item_other (Or.inr (Or.inl ⟨_, q1194⟩)) dX1_isPossible_227 230 rfl (fun x48 => ?_)
        refine s_call_i (rn_V (As := [.int x47, .int x48]) C (ct_at hR hA (ct_on (ct_X2_wouldCircle g TA x46 x47 x48))) (rv_on C hR (q := vw_1) rfl) (lw_V q1488 q1489 q1490 q102 q1491) ⟨rfl, nv_X2_wouldCircle⟩ ⟨by decide, by decide⟩ rfl (bl rfl) dX1_isPossible_230) 233 rfl (fun x49 => ?_)
        refine s_if_ne C dX1_isPossible_233 240 236 (by decide) rfl ?_ ?_
        · refine s_iconst (v := 1) C dX1_isPossible_236 (by decide) 237 rfl ?_
          refine s_goto C dX1_isPossible_237 241 (by decide) ?_
          refine s_r ?_
          refine s_lv [] rfl ?_
          exact hK42 1
        · refine s_iconst (v := 0) C dX1_isPossible_240 (by decide) 241 rfl ?_
          refine s_r ?_
          refine s_lv [] rfl ?_
          exact hK42 0
theorem nv_X1_happen : yX1_happen.cls ≠ "java/lang/invoke/MethodHandle" ∧ yX1_happen.cls ≠ "java/lang/invoke/VarHandle" ∧ (parseMethodDescriptor yX1_happen.desc).map (fun d => d.parameters.length) = some 1 := by decide +kernel
theorem ct_X1_happen {l : Launch} (g : sm_G) (TA : Nat → Prop) (a0 : Nat) (p0 : Nat) : sm_CT l g (so_R g TA) (so_A g TA) yX1_happen cX1_happen 2 none 9 194 [.ref a0, .ref p0] em_v (f_X1_happen g a0 p0) := by
  refine sm_of (own := "PatchCords") rfl rfl (bl rfl) (fun Y C hR hA hl hm => ?_)
  subst hl
  refine s_lv (L' := [(0, .ref a0), (1, .ref p0)]) [0, 1] rfl ?_
  refine s_top ?_
  unfold f_X1_happen
  refine s_aload_n C dX1_happen_0 1 rfl 1 rfl ?_
  refine s_getI C hR fd_PatchCords_Item_sign (Or.inr (Or.inl ⟨_, q1190⟩)) dX1_happen_1 4 rfl (fun x1 => ?_)
  refine s_cut (J := 174) (LJ := (fun (v2 : Unit) => [])) (SJ := (fun (v2 : Unit) => [])) (fun v2 => ?_) (fun _ _ hK3 => ?_)
  · exact s_vret C rfl dX1_happen_174
  · refine s_lku C dX1_happen_4 43 (67) 71 (by decide) (by decide) (by decide) ?_ (fun hc30 => ?_)
    · refine s_aload_n C dX1_happen_71 72 rfl 0 rfl ?_
      refine s_getR C hR fd_PatchCords_panel (Or.inl q273) dX1_happen_72 75 rfl (fun x4 => ?_)
      refine s_aload_n C dX1_happen_75 76 rfl 1 rfl ?_
      refine s_getI C hR fd_PatchCords_Item_one (Or.inr (Or.inl ⟨_, q1192⟩)) dX1_happen_76 79 rfl (fun x5 => ?_)
      refine s_call_i (rn_V (As := [.int x5]) C (ct_at hR hA (ct_on (ct_X2_pass g TA x4 x5))) (rv_on C hR (q := vw_1) rfl) (lw_V q1255 q1256 q1257 q102 q1258) ⟨rfl, nv_X2_pass⟩ ⟨by decide, by decide⟩ rfl (bl rfl) dX1_happen_79) 82 rfl (fun x6 => ?_)
      refine s_pop C dX1_happen_82 rfl 83 rfl ?_
      refine s_goto C dX1_happen_83 174 (by decide) ?_
      refine s_r ?_
      refine s_lv [] rfl ?_
      exact hK3 ()
    refine s_lku C dX1_happen_4 102 (126) 130 (by decide) (by decide) (by decide) ?_ (fun hc31 => ?_)
    · refine s_aload_n C dX1_happen_130 131 rfl 0 rfl ?_
      refine s_getR C hR fd_PatchCords_panel (Or.inl q273) dX1_happen_131 134 rfl (fun x7 => ?_)
      refine s_aload_n C dX1_happen_134 135 rfl 1 rfl ?_
      refine s_getI C hR fd_PatchCords_Item_one (Or.inr (Or.inl ⟨_, q1192⟩)) dX1_happen_135 138 rfl (fun x8 => ?_)
      refine s_call_r (rn_V (As := [.int x8]) C (ct_at hR hA (ct_on (ct_X2_part g TA x7 x8))) (rv_on C hR (q := vw_1) rfl) (lw_V q1260 q563 q564 q102 q565) ⟨rfl, nv_X2_part⟩ ⟨by decide, by decide⟩ rfl (bl rfl) dX1_happen_138) 141 rfl (fun x9 => ?_)
      refine s_cast C hR q1378 ca_PatchCords_Pot dX1_happen_141 (some x9) 144 rfl (fun x10 _ => ?_)
      refine s_aload_n C dX1_happen_144 145 rfl 1 rfl ?_
      refine s_getI C hR fd_PatchCords_Item_other (Or.inr (Or.inl ⟨_, q1194⟩)) dX1_happen_145 148 rfl (fun x11 => ?_)
      refine s_put C hR hA fd_PatchCords_Pot_factor (Or.inr (Or.inl ⟨_, q400⟩)) dX1_happen_148 rfl rfl 151 rfl ?_
      refine s_goto C dX1_happen_151 174 (by decide) ?_
      refine s_r ?_
      refine s_lv [] rfl ?_
      exact hK3 ()
    refine s_lku C dX1_happen_4 110 (52) 56 (by decide) (by decide) (by decide) ?_ (fun hc32 => ?_)
    · refine s_aload_n C dX1_happen_56 57 rfl 0 rfl ?_
      refine s_getR C hR fd_PatchCords_panel (Or.inl q273) dX1_happen_57 60 rfl (fun x12 => ?_)
      refine s_aload_n C dX1_happen_60 61 rfl 1 rfl ?_
      refine s_getI C hR fd_PatchCords_Item_one (Or.inr (Or.inl ⟨_, q1192⟩)) dX1_happen_61 64 rfl (fun x13 => ?_)
      refine s_call_i (rn_V (As := [.int x13]) C (ct_at hR hA (ct_on (ct_X2_put g TA x12 x13))) (rv_on C hR (q := vw_1) rfl) (lw_V q1368 q1369 q1370 q102 q1371) ⟨rfl, nv_X2_put⟩ ⟨by decide, by decide⟩ rfl (bl rfl) dX1_happen_64) 67 rfl (fun x14 => ?_)
      refine s_pop C dX1_happen_67 rfl 68 rfl ?_
      refine s_goto C dX1_happen_68 174 (by decide) ?_
      refine s_r ?_
      refine s_lv [] rfl ?_
      exact hK3 ()
    refine s_lku C dX1_happen_4 118 (101) 105 (by decide) (by decide) (by decide) ?_ (fun hc33 => ?_)
    · refine s_aload_n C dX1_happen_105 106 rfl 0 rfl ?_
      refine s_getR C hR fd_PatchCords_panel (Or.inl q273) dX1_happen_106 109 rfl (fun x15 => ?_)
      refine s_aload_n C dX1_happen_109 110 rfl 0 rfl ?_
      refine s_getR C hR fd_PatchCords_panel (Or.inl q273) dX1_happen_110 113 rfl (fun x16 => ?_)
      refine s_aload_n C dX1_happen_113 114 rfl 1 rfl ?_
      refine s_getI C hR fd_PatchCords_Item_one (Or.inr (Or.inl ⟨_, q1192⟩)) dX1_happen_114 117 rfl (fun x17 => ?_)
      refine s_call_r (rn_V (As := [.int x17]) C (ct_at hR hA (ct_on (ct_X2_part g TA x16 x17))) (rv_on C hR (q := vw_1) rfl) (lw_V q1260 q563 q564 q102 q565) ⟨rfl, nv_X2_part⟩ ⟨by decide, by decide⟩ rfl (bl rfl) dX1_happen_117) 120 rfl (fun x18 => ?_)
      refine s_aload_n C dX1_happen_120 121 rfl 1 rfl ?_
      refine s_getI C hR fd_PatchCords_Item_other (Or.inr (Or.inl ⟨_, q1194⟩)) dX1_happen_121 124 rfl (fun x19 => ?_)
      refine s_call_v (rn_V (As := [.ref x18, .int x19]) C (ct_at hR hA (ct_on (ct_X2_setVoltage g TA x15 x18 x19))) (rv_on C hR (q := vw_1) rfl) (lw_V q1450 q1451 q1452 q102 q1453) ⟨rfl, nv_X2_setVoltage⟩ ⟨by decide, by decide⟩ rfl (bl rfl) dX1_happen_124) 127 rfl ?_
      refine s_goto C dX1_happen_127 174 (by decide) ?_
      refine s_r ?_
      refine s_lv [] rfl ?_
      exact hK3 ()
    refine s_lku C dX1_happen_4 120 (82) 86 (by decide) (by decide) (by decide) ?_ (fun hc34 => ?_)
    · refine s_aload_n C dX1_happen_86 87 rfl 0 rfl ?_
      refine s_getR C hR fd_PatchCords_panel (Or.inl q273) dX1_happen_87 90 rfl (fun x21 => ?_)
      refine s_aload_n C dX1_happen_90 91 rfl 1 rfl ?_
      refine s_getI C hR fd_PatchCords_Item_one (Or.inr (Or.inl ⟨_, q1192⟩)) dX1_happen_91 94 rfl (fun x22 => ?_)
      refine s_aload_n C dX1_happen_94 95 rfl 1 rfl ?_
      refine s_getI C hR fd_PatchCords_Item_input (Or.inr (Or.inl ⟨_, q1196⟩)) dX1_happen_95 98 rfl (fun x23 => ?_)
      refine s_call_i (rn_V (As := [.int x22, .int x23]) C (ct_at hR hA (ct_on (ct_X2_takeOut g TA x21 x22 x23))) (rv_on C hR (q := vw_1) rfl) (lw_V q1507 q1508 q1509 q102 q1510) ⟨rfl, nv_X2_takeOut⟩ ⟨by decide, by decide⟩ rfl (bl rfl) dX1_happen_98) 101 rfl (fun x24 => ?_)
      refine s_pop C dX1_happen_101 rfl 102 rfl ?_
      refine s_goto C dX1_happen_102 174 (by decide) ?_
      refine s_r ?_
      refine s_lv [] rfl ?_
      exact hK3 ()
    refine s_lkuD C dX1_happen_4 154 (by decide) (by
        intro q hq
        simp only [List.map_cons, List.map_nil, List.mem_cons, List.not_mem_nil, or_false] at hq
        rcases hq with rfl | rfl | rfl | rfl | rfl
        · exact sw_ne hc30
        · exact sw_ne hc31
        · exact sw_ne hc32
        · exact sw_ne hc33
        · exact sw_ne hc34) (by decide) ?_
    refine s_aload_n C dX1_happen_154 155 rfl 0 rfl ?_
    refine s_getR C hR fd_PatchCords_panel (Or.inl q273) dX1_happen_155 158 rfl (fun x25 => ?_)
    refine s_aload_n C dX1_happen_158 159 rfl 1 rfl ?_
    refine s_getI C hR fd_PatchCords_Item_one (Or.inr (Or.inl ⟨_, q1192⟩)) dX1_happen_159 162 rfl (fun x26 => ?_)
    refine s_aload_n C dX1_happen_162 163 rfl 1 rfl ?_
    refine s_getI C hR fd_PatchCords_Item_other (Or.inr (Or.inl ⟨_, q1194⟩)) dX1_happen_163 166 rfl (fun x27 => ?_)
    refine s_aload_n C dX1_happen_166 167 rfl 1 rfl ?_
    refine s_getI C hR fd_PatchCords_Item_input (Or.inr (Or.inl ⟨_, q1196⟩)) dX1_happen_167 170 rfl (fun x28 => ?_)
    refine s_call_i (rn_V (As := [.int x26, .int x27, .int x28]) C (ct_at hR hA (ct_on (ct_X2_join g TA x25 x26 x27 x28))) (rv_on C hR (q := vw_1) rfl) (lw_V q1496 q1497 q1498 q102 q1499) ⟨rfl, nv_X2_join⟩ ⟨by decide, by decide⟩ rfl (bl rfl) dX1_happen_170) 173 rfl (fun x29 => ?_)
    refine s_pop C dX1_happen_173 rfl 174 rfl ?_
    refine s_r ?_
    refine s_lv [] rfl ?_
    exact hK3 ()
theorem nv_X1_patch : yX1_patch.cls ≠ "java/lang/invoke/MethodHandle" ∧ yX1_patch.cls ≠ "java/lang/invoke/VarHandle" ∧ (parseMethodDescriptor yX1_patch.desc).map (fun d => d.parameters.length) = some 0 := by decide +kernel
theorem ct_X1_patch {l : Launch} (htr : l.stackTraces = false) (g : sm_G) (TA : Nat → Prop) (a0 : Nat) : sm_CX l g (so_R g TA) (so_A g TA) yX1_patch cX1_patch 4 (some .int) 10 219 [.ref a0] (em_x em_i) (f_X1_patch g a0) := by
  refine sm_ofX htr (own := "PatchCords") rfl rfl (bl rfl) (fun Y C hR hA hl hm => ?_)
  subst hl
  refine s_lv (L' := [(0, .ref a0)]) [0] rfl ?_
  refine s_top ?_
  unfold f_X1_patch
  refine s_new C hR cd_8 rfl df_8 q1121 q1122 q138 dX1_patch_0 3 rfl (fun x1 => ?_)
  refine s_dup C dX1_patch_3 rfl 4 rfl ?_
  refine s_aload_n C dX1_patch_4 5 rfl 0 rfl ?_
  refine s_getR C hR fd_PatchCords_text (Or.inl q276) dX1_patch_5 8 rfl (fun x2 => ?_)
  refine s_call_v (rn_I (As := [.ref x2]) C (ct_at hR hA (ct_X13_init g TA x1 x2)) q1123 q1124 q138 q1125 rfl nv_X13_init ⟨by decide, by decide⟩ rfl (bl rfl) dX1_patch_8) 11 rfl ?_
  refine s_astore_n C dX1_patch_11 rfl (by decide) 12 rfl [(1, .ref x1), (0, .ref a0)] rfl ?_
  refine s_aload_n C dX1_patch_12 13 rfl 0 rfl ?_
  refine s_call_i (rn_V (As := []) C (ct_at hR hA (ct_on (ct_X13_read g TA x1))) (rv_on C hR (q := vw_8) rfl) (lw_V q1143 q1144 q1145 q138 q1146) ⟨rfl, nv_X13_read⟩ ⟨by decide, by decide⟩ rfl (bl rfl) dX1_patch_13) 16 rfl (fun x4 => ?_)
  refine s_iconst (v := (-1)) C dX1_patch_16 (by decide) 17 rfl ?_
  refine s_cut (J := 25) (LJ := (fun (v5 : Int32) => [(0, .ref a0), (1, .ref x1)])) (SJ := (fun (v5 : Int32) => [.int v5])) (fun v5 => ?_) (fun _ _ hK6 => ?_)
  · refine s_callX_v C (rx_S (As := [.int v5]) C (cx_at hR hA (ct_X1_checkState C.tr g TA v5)) (lw_S q1350 q1351 q101 q1352) nv_X1_checkState ⟨by decide, by decide⟩ rfl (bl rfl) dX1_patch_25) (fun _ => rfl) 28 rfl ?_
    refine s_aload_n C dX1_patch_28 29 rfl 0 rfl ?_
    refine s_call_v (rn_V (As := []) C (ct_at hR hA (ct_on (ct_X1_save g TA a0))) (rv_on C hR (q := vw_0) rfl) (lw_V q533 q535 qs3 q101 q536) ⟨rfl, nv_X1_save⟩ ⟨by decide, by decide⟩ rfl (bl rfl) dX1_patch_29) 32 rfl ?_
    refine s_aload_n C dX1_patch_32 33 rfl 0 rfl ?_
    refine s_getR C hR fd_PatchCords_text (Or.inl q276) dX1_patch_33 36 rfl (fun x9 => ?_)
    refine s_iconst (v := 0) C dX1_patch_36 (by decide) 37 rfl ?_
    refine s_call_v (rn_V (As := [.int 0]) C (ct_at hR hA (ct_on (ct_J5_setLength g TA x9 0))) (rv_on C hR (q := vw_11) rfl) (lw_V q793 q794 q795 q109 q796) ⟨rfl, nv_J5_setLength⟩ ⟨by decide, by decide⟩ rfl (bl rfl) dX1_patch_37) 40 rfl ?_
    refine s_aload_n C dX1_patch_40 41 rfl 1 rfl ?_
    refine s_getR C hR fd_PatchCords_Reader_items (Or.inr (Or.inl ⟨_, q1131⟩)) dX1_patch_41 44 rfl (fun x11 => ?_)
    refine s_call_i (rn_V (As := []) C (ct_at hR hA (ct_on (ct_J2_size g TA x11))) (rv_on C hR (q := vw_10) rfl) (lw_V q541 q297 q298 q105 q299) ⟨rfl, nv_J2_size⟩ ⟨by decide, by decide⟩ rfl (bl rfl) dX1_patch_44) 47 rfl (fun x12 => ?_)
    refine s_istore_n C dX1_patch_47 rfl (by decide) 48 rfl [(2, .int x12), (0, .ref a0), (1, .ref x1)] rfl ?_
    refine s_iconst (v := 0) C dX1_patch_48 (by decide) 49 rfl ?_
    refine s_istore_n C dX1_patch_49 rfl (by decide) 50 rfl [(3, .int 0), (2, .int x12), (0, .ref a0), (1, .ref x1)] rfl ?_
    refine s_lv [2, 3, 1, 0] rfl ?_
    refine s_loop (fun (s13 : Int32) => [(0, .ref a0), (1, .ref x1), (2, .int x12), (3, .int s13)]) (fun (v24 : Int32) => [(3, .int v24)]) 94 0 rfl (fun v24 => ?_) (fun _ s13 hk14 hx15 => ?_)
    · refine s_iload_n C dX1_patch_94 95 rfl 0 rfl ?_
      exact s_iret C rfl rfl dX1_patch_95
    · refine s_iload_n C dX1_patch_50 51 rfl 3 rfl ?_
      refine s_iload_n C dX1_patch_51 52 rfl 2 rfl ?_
      refine s_icmp_ge C dX1_patch_52 94 55 (by decide) rfl ?_ ?_
      · refine s_r ?_
        refine s_lv [3] rfl ?_
        exact hx15 s13
      · refine s_aload_n C dX1_patch_55 56 rfl 0 rfl ?_
        refine s_aload_n C dX1_patch_56 57 rfl 1 rfl ?_
        refine s_getR C hR fd_PatchCords_Reader_items (Or.inr (Or.inl ⟨_, q1131⟩)) dX1_patch_57 60 rfl (fun x16 => ?_)
        refine s_iload_n C dX1_patch_60 61 rfl 3 rfl ?_
        refine s_call_q (rn_V (As := [.int s13]) C (ct_at hR hA (ct_on (ct_J2_get g TA x16 s13))) (rv_on C hR (q := vw_10) rfl) (lw_V q1777 q301 q302 q105 q303) ⟨rfl, nv_J2_get⟩ ⟨by decide, by decide⟩ rfl (bl rfl) dX1_patch_61) 64 rfl (fun x17 => ?_)
        refine s_cast C hR q1778 ca_PatchCords_Item dX1_patch_64 x17 67 rfl (fun x18 _ => ?_)
        refine s_call_i (rn_V (As := [.ref x18]) C (ct_at hR hA (ct_on (ct_X1_isPossible g TA a0 x18))) (rv_on C hR (q := vw_0) rfl) (lw_V q1779 q1781 qs33 q101 q1782) ⟨rfl, nv_X1_isPossible⟩ ⟨by decide, by decide⟩ rfl (bl rfl) dX1_patch_67) 70 rfl (fun x19 => ?_)
        refine s_if_eq C dX1_patch_70 94 73 (by decide) rfl ?_ ?_
        · refine s_r ?_
          refine s_lv [3] rfl ?_
          exact hx15 s13
        · refine s_aload_n C dX1_patch_73 74 rfl 0 rfl ?_
          refine s_aload_n C dX1_patch_74 75 rfl 1 rfl ?_
          refine s_getR C hR fd_PatchCords_Reader_items (Or.inr (Or.inl ⟨_, q1131⟩)) dX1_patch_75 78 rfl (fun x20 => ?_)
          refine s_iload_n C dX1_patch_78 79 rfl 3 rfl ?_
          refine s_call_q (rn_V (As := [.int s13]) C (ct_at hR hA (ct_on (ct_J2_get g TA x20 s13))) (rv_on C hR (q := vw_10) rfl) (lw_V q1777 q301 q302 q105 q303) ⟨rfl, nv_J2_get⟩ ⟨by decide, by decide⟩ rfl (bl rfl) dX1_patch_79) 82 rfl (fun x21 => ?_)
          refine s_cast C hR q1778 ca_PatchCords_Item dX1_patch_82 x21 85 rfl (fun x22 _ => ?_)
          refine s_call_v (rn_V (As := [.ref x22]) C (ct_at hR hA (ct_on (ct_X1_happen g TA a0 x22))) (rv_on C hR (q := vw_0) rfl) (lw_V q1787 q1789 qs35 q101 q1790) ⟨rfl, nv_X1_happen⟩ ⟨by decide, by decide⟩ rfl (bl rfl) dX1_patch_85) 88 rfl ?_
          refine s_iinc C dX1_patch_88 (s13 + 1) rfl 3 rfl (by decide) 91 rfl [(3, .int (s13 + 1)), (0, .ref a0), (1, .ref x1), (2, .int x12)] rfl ?_
          refine s_goto C dX1_patch_91 50 (by decide) ?_
          refine s_r ?_
          refine s_lv [1, 2, 3, 0] rfl ?_
          exact hk14 (s13 + 1)
  · refine s_icmp_ne C dX1_patch_17 24 20 (by decide) rfl ?_ ?_
    · refine s_iconst (v := 1) C dX1_patch_20 (by decide) 21 rfl ?_
      refine s_goto C dX1_patch_21 25 (by decide) ?_
      refine s_r ?_
      refine s_lv [1, 0] rfl ?_
      exact hK6 1
    · refine s_iconst (v := 0) C dX1_patch_24 (by decide) 25 rfl ?_
      refine s_r ?_
      refine s_lv [1, 0] rfl ?_
      exact hK6 0
theorem nv_J2_isEmpty : yJ2_isEmpty.cls ≠ "java/lang/invoke/MethodHandle" ∧ yJ2_isEmpty.cls ≠ "java/lang/invoke/VarHandle" ∧ (parseMethodDescriptor yJ2_isEmpty.desc).map (fun d => d.parameters.length) = some 0 := by decide +kernel
theorem ct_J2_isEmpty {l : Launch} (g : sm_G) (TA : Nat → Prop) (a0 : Nat) : sm_CT l g (so_R g TA) (so_A g TA) yJ2_isEmpty cJ2_isEmpty 1 (some .boolean) 0 0 [.ref a0] em_i (f_J2_isEmpty g a0) := by
  refine sm_of (own := "java/util/ArrayList") rfl rfl (bl rfl) (fun Y C hR hA hl hm => ?_)
  subst hl
  refine s_lv (L' := [(0, .ref a0)]) [0] rfl ?_
  refine s_top ?_
  unfold f_J2_isEmpty
  refine s_aload_n C dJ2_isEmpty_0 1 rfl 0 rfl ?_
  refine s_getI C hR fd_ArrayList_size (Or.inl q170) dJ2_isEmpty_1 4 rfl (fun x1 => ?_)
  refine s_cut (J := 12) (LJ := (fun (v2 : Int32) => [])) (SJ := (fun (v2 : Int32) => [.int v2])) (fun v2 => ?_) (fun _ _ hK3 => ?_)
  · refine s_zb (fun h => ?_)
    exact s_iret C rfl (s_zn h) dJ2_isEmpty_12
  · refine s_if_ne C dJ2_isEmpty_4 11 7 (by decide) rfl ?_ ?_
    · refine s_iconst (v := 1) C dJ2_isEmpty_7 (by decide) 8 rfl ?_
      refine s_goto C dJ2_isEmpty_8 12 (by decide) ?_
      refine s_r ?_
      refine s_lv [] rfl ?_
      exact hK3 1
    · refine s_iconst (v := 0) C dJ2_isEmpty_11 (by decide) 12 rfl ?_
      refine s_r ?_
      refine s_lv [] rfl ?_
      exact hK3 0
theorem nv_X1_undo : yX1_undo.cls ≠ "java/lang/invoke/MethodHandle" ∧ yX1_undo.cls ≠ "java/lang/invoke/VarHandle" ∧ (parseMethodDescriptor yX1_undo.desc).map (fun d => d.parameters.length) = some 0 := by decide +kernel
theorem ct_X1_undo {l : Launch} (htr : l.stackTraces = false) (g : sm_G) (TA : Nat → Prop) (a0 : Nat) : sm_CX l g (so_R g TA) (so_A g TA) yX1_undo cX1_undo 1 (some .int) 7 101 [.ref a0] (em_x em_i) (f_X1_undo g a0) := by
  refine sm_ofX htr (own := "PatchCords") rfl rfl (bl rfl) (fun Y C hR hA hl hm => ?_)
  subst hl
  refine s_lv (L' := [(0, .ref a0)]) [0] rfl ?_
  refine s_top ?_
  unfold f_X1_undo
  refine s_aload_n C dX1_undo_0 1 rfl 0 rfl ?_
  refine s_getR C hR fd_PatchCords_saved (Or.inl q275) dX1_undo_1 4 rfl (fun x1 => ?_)
  refine s_call_i (rn_V (As := []) C (ct_at hR hA (ct_on (ct_J2_isEmpty g TA x1))) (rv_on C hR (q := vw_10) rfl) (lw_V q1798 q1799 q1800 q105 q1801) ⟨rfl, nv_J2_isEmpty⟩ ⟨by decide, by decide⟩ rfl (bl rfl) dX1_undo_4) 7 rfl (fun x2 => ?_)
  refine s_cut (J := 15) (LJ := (fun (v3 : Int32) => [(0, .ref a0)])) (SJ := (fun (v3 : Int32) => [.int v3])) (fun v3 => ?_) (fun _ _ hK4 => ?_)
  · refine s_callX_v C (rx_S (As := [.int v3]) C (cx_at hR hA (ct_X1_checkState C.tr g TA v3)) (lw_S q1350 q1351 q101 q1352) nv_X1_checkState ⟨by decide, by decide⟩ rfl (bl rfl) dX1_undo_15) (fun _ => rfl) 18 rfl ?_
    refine s_aload_n C dX1_undo_18 19 rfl 0 rfl ?_
    refine s_aload_n C dX1_undo_19 20 rfl 0 rfl ?_
    refine s_getR C hR fd_PatchCords_saved (Or.inl q275) dX1_undo_20 23 rfl (fun x6 => ?_)
    refine s_aload_n C dX1_undo_23 24 rfl 0 rfl ?_
    refine s_getR C hR fd_PatchCords_saved (Or.inl q275) dX1_undo_24 27 rfl (fun x7 => ?_)
    refine s_call_i (rn_V (As := []) C (ct_at hR hA (ct_on (ct_J2_size g TA x7))) (rv_on C hR (q := vw_10) rfl) (lw_V q541 q297 q298 q105 q299) ⟨rfl, nv_J2_size⟩ ⟨by decide, by decide⟩ rfl (bl rfl) dX1_undo_27) 30 rfl (fun x8 => ?_)
    refine s_iconst (v := 1) C dX1_undo_30 (by decide) 31 rfl ?_
    refine s_isub C dX1_undo_31 32 rfl ?_
    refine s_call_q (rn_V (As := [.int (x8 - 1)]) C (ct_at hR hA (ct_on (ct_J2_remove g TA x6 (x8 - 1)))) (rv_on C hR (q := vw_10) rfl) (lw_V q542 q543 q544 q105 q545) ⟨rfl, nv_J2_remove⟩ ⟨by decide, by decide⟩ rfl (bl rfl) dX1_undo_32) 35 rfl (fun x9 => ?_)
    refine s_cast C hR q149 ca_PatchCords_Panel dX1_undo_35 x9 38 rfl (fun x10 _ => ?_)
    refine s_put C hR hA fd_PatchCords_panel (Or.inl q273) dX1_undo_38 rfl rfl 41 rfl ?_
    refine s_aload_n C dX1_undo_41 42 rfl 0 rfl ?_
    refine s_getR C hR fd_PatchCords_saved (Or.inl q275) dX1_undo_42 45 rfl (fun x11 => ?_)
    refine s_call_i (rn_V (As := []) C (ct_at hR hA (ct_on (ct_J2_size g TA x11))) (rv_on C hR (q := vw_10) rfl) (lw_V q541 q297 q298 q105 q299) ⟨rfl, nv_J2_size⟩ ⟨by decide, by decide⟩ rfl (bl rfl) dX1_undo_45) 48 rfl (fun x12 => ?_)
    exact s_iret C rfl rfl dX1_undo_48
  · refine s_if_ne C dX1_undo_7 14 10 (by decide) rfl ?_ ?_
    · refine s_iconst (v := 1) C dX1_undo_10 (by decide) 11 rfl ?_
      refine s_goto C dX1_undo_11 15 (by decide) ?_
      refine s_r ?_
      refine s_lv [0] rfl ?_
      exact hK4 1
    · refine s_iconst (v := 0) C dX1_undo_14 (by decide) 15 rfl ?_
      refine s_r ?_
      refine s_lv [0] rfl ?_
      exact hK4 0
