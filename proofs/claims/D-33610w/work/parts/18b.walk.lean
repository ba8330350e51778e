/-! THE WALKS -/
theorem nv_J2_remove : yJ2_remove.cls ≠ "java/lang/invoke/MethodHandle" ∧ yJ2_remove.cls ≠ "java/lang/invoke/VarHandle" ∧ (parseMethodDescriptor yJ2_remove.desc).map (fun d => d.parameters.length) = some 1 := by decide +kernel
theorem ct_J2_remove {l : Launch} (g : sm_G) (TA : Nat → Prop) (a0 : Nat) (p0 : Int32) : sm_CT l g (so_R g TA) (so_A g TA) yJ2_remove cJ2_remove 4 (some (.object "java/lang/Object")) 2 51 [.ref a0, .int p0] em_q (f_J2_remove g a0 p0) := by
  refine sm_of (own := "java/util/ArrayList") rfl rfl (bl rfl) (fun Y C hR hA hl hm => ?_)
  subst hl
  refine s_lv (L' := [(0, .ref a0), (1, .int p0)]) [0, 1] rfl ?_
  refine s_top ?_
  unfold f_J2_remove
  refine s_iload_n C dJ2_remove_0 1 rfl 1 rfl ?_
  refine s_aload_n C dJ2_remove_1 2 rfl 0 rfl ?_
  refine s_getI C hR fd_ArrayList_size (Or.inl q170) dJ2_remove_2 5 rfl (fun x1 => ?_)
  refine s_call_i (rn_S (As := [.int p0, .int x1]) C (ct_at hR hA (ct_J13_checkIndex g TA p0 x1)) (lw_S q304 q305 q118 q306) nv_J13_checkIndex ⟨by decide, by decide⟩ rfl (bl rfl) dJ2_remove_5) 8 rfl (fun x2 => ?_)
  refine s_pop C dJ2_remove_8 rfl 9 rfl ?_
  refine s_aload_n C dJ2_remove_9 10 rfl 0 rfl ?_
  refine s_getR C hR fd_ArrayList_elementData (Or.inl q169) dJ2_remove_10 13 rfl (fun x3 => ?_)
  refine s_astore_n C dJ2_remove_13 rfl (by decide) 14 rfl [(2, .ref x3), (0, .ref a0), (1, .int p0)] rfl ?_
  refine s_aload_n C dJ2_remove_14 15 rfl 0 rfl ?_
  refine s_iload_n C dJ2_remove_15 16 rfl 2 rfl ?_
  refine s_aald4 C hR dJ2_remove_16 17 rfl (fun x4 => ?_)
  refine s_some (fun x5 => ?_)
  refine s_astore_n C dJ2_remove_17 rfl (by decide) 18 rfl [(3, .ref x5), (2, .ref x3), (0, .ref a0), (1, .int p0)] rfl ?_
  refine s_aload_n C dJ2_remove_18 19 rfl 2 rfl ?_
  refine s_aload_n C dJ2_remove_19 20 rfl 1 rfl ?_
  refine s_iload_n C dJ2_remove_20 21 rfl 3 rfl ?_
  refine s_call_v (rn_V (As := [.ref x3, .int p0]) C (ct_at hR hA (ct_on (ct_J2_fastRemove g TA a0 x3 p0))) (rv_on C hR (q := vw_10) rfl) (lw_V q546 q548 qs5 q105 q549) ⟨rfl, nv_J2_fastRemove⟩ ⟨by decide, by decide⟩ rfl (bl rfl) dJ2_remove_21) 24 rfl ?_
  refine s_aload_n C dJ2_remove_24 25 rfl 0 rfl ?_
  exact s_qret (v := some x5) C rfl (Or.inl ⟨_, rfl⟩) dJ2_remove_25
theorem nv_X1_remember : yX1_remember.cls ≠ "java/lang/invoke/MethodHandle" ∧ yX1_remember.cls ≠ "java/lang/invoke/VarHandle" ∧ (parseMethodDescriptor yX1_remember.desc).map (fun d => d.parameters.length) = some 1 := by decide +kernel
theorem ct_X1_remember {l : Launch} (g : sm_G) (TA : Nat → Prop) (a0 : Nat) (p0 : Nat) : sm_CT l g (so_R g TA) (so_A g TA) yX1_remember cX1_remember 2 none 7 159 [.ref a0, .ref p0] em_v (f_X1_remember g a0 p0) := by
  refine sm_of (own := "PatchCords") rfl rfl (bl rfl) (fun Y C hR hA hl hm => ?_)
  subst hl
  refine s_lv (L' := [(0, .ref a0), (1, .ref p0)]) [0, 1] rfl ?_
  refine s_top ?_
  unfold f_X1_remember
  refine s_aload_n C dX1_remember_0 1 rfl 0 rfl ?_
  refine s_getR C hR fd_PatchCords_saved (Or.inl q275) dX1_remember_1 4 rfl (fun x1 => ?_)
  refine s_call_i (rn_V (As := []) C (ct_at hR hA (ct_on (ct_J2_size g TA x1))) (rv_on C hR (q := vw_10) rfl) (lw_V q541 q297 q298 q105 q299) ⟨rfl, nv_J2_size⟩ ⟨by decide, by decide⟩ rfl (bl rfl) dX1_remember_4) 7 rfl (fun x2 => ?_)
  refine s_bipush (v := 6) C dX1_remember_7 (by decide) 9 rfl ?_
  refine s_cut (J := 21) (LJ := (fun (v3 : Unit) => [(0, .ref a0), (1, .ref p0)])) (SJ := (fun (v3 : Unit) => [])) (fun v3 => ?_) (fun _ _ hK4 => ?_)
  · refine s_aload_n C dX1_remember_21 22 rfl 0 rfl ?_
    refine s_getR C hR fd_PatchCords_saved (Or.inl q275) dX1_remember_22 25 rfl (fun x7 => ?_)
    refine s_aload_n C dX1_remember_25 26 rfl 1 rfl ?_
    refine s_call_i (rn_V (As := [.ref p0]) C (ct_at hR hA (ct_on (ct_J2_add g TA x7 p0))) (rv_on C hR (q := vw_10) rfl) (lw_V q551 q454 q455 q105 q456) ⟨rfl, nv_J2_add⟩ ⟨by decide, by decide⟩ rfl (bl rfl) dX1_remember_26) 29 rfl (fun x8 => ?_)
    refine s_pop C dX1_remember_29 rfl 30 rfl ?_
    exact s_vret C rfl dX1_remember_30
  · refine s_icmp_ne C dX1_remember_9 21 12 (by decide) rfl ?_ ?_
    · refine s_aload_n C dX1_remember_12 13 rfl 0 rfl ?_
      refine s_getR C hR fd_PatchCords_saved (Or.inl q275) dX1_remember_13 16 rfl (fun x5 => ?_)
      refine s_iconst (v := 0) C dX1_remember_16 (by decide) 17 rfl ?_
      refine s_call_q (rn_V (As := [.int 0]) C (ct_at hR hA (ct_on (ct_J2_remove g TA x5 0))) (rv_on C hR (q := vw_10) rfl) (lw_V q542 q543 q544 q105 q545) ⟨rfl, nv_J2_remove⟩ ⟨by decide, by decide⟩ rfl (bl rfl) dX1_remember_17) 20 rfl (fun x6 => ?_)
      refine s_popq C dX1_remember_20 21 rfl ?_
      refine s_r ?_
      refine s_lv [0, 1] rfl ?_
      exact hK4 ()
    · refine s_r ?_
      refine s_lv [0, 1] rfl ?_
      exact hK4 ()
theorem nv_X1_save : yX1_save.cls ≠ "java/lang/invoke/MethodHandle" ∧ yX1_save.cls ≠ "java/lang/invoke/VarHandle" ∧ (parseMethodDescriptor yX1_save.desc).map (fun d => d.parameters.length) = some 0 := by decide +kernel
theorem ct_X1_save {l : Launch} (g : sm_G) (TA : Nat → Prop) (a0 : Nat) : sm_CT l g (so_R g TA) (so_A g TA) yX1_save cX1_save 1 none 8 182 [.ref a0] em_v (f_X1_save g a0) := by
  refine sm_of (own := "PatchCords") rfl rfl (bl rfl) (fun Y C hR hA hl hm => ?_)
  subst hl
  refine s_lv (L' := [(0, .ref a0)]) [0] rfl ?_
  refine s_top ?_
  unfold f_X1_save
  refine s_aload_n C dX1_save_0 1 rfl 0 rfl ?_
  refine s_aload_n C dX1_save_1 2 rfl 0 rfl ?_
  refine s_getR C hR fd_PatchCords_panel (Or.inl q273) dX1_save_2 5 rfl (fun x1 => ?_)
  refine s_call_r (rn_V (As := []) C (ct_at hR hA (ct_on (ct_X2_copy g TA x1))) (rv_on C hR (q := vw_1) rfl) (lw_V q290 q291 q292 q102 q293) ⟨rfl, nv_X2_copy⟩ ⟨by decide, by decide⟩ rfl (bl rfl) dX1_save_5) 8 rfl (fun x2 => ?_)
  refine s_call_v (rn_V (As := [.ref x2]) C (ct_at hR hA (ct_on (ct_X1_remember g TA a0 x2))) (rv_on C hR (q := vw_0) rfl) (lw_V q537 q539 qs4 q101 q540) ⟨rfl, nv_X1_remember⟩ ⟨by decide, by decide⟩ rfl (bl rfl) dX1_save_8) 11 rfl ?_
  exact s_vret C rfl dX1_save_11
theorem nv_X1_turnGuard : yX1_turnGuard.cls ≠ "java/lang/invoke/MethodHandle" ∧ yX1_turnGuard.cls ≠ "java/lang/invoke/VarHandle" ∧ (parseMethodDescriptor yX1_turnGuard.desc).map (fun d => d.parameters.length) = some 0 := by decide +kernel
theorem ct_X1_turnGuard {l : Launch} (g : sm_G) (TA : Nat → Prop) (a0 : Nat) : sm_CT l g (so_R g TA) (so_A g TA) yX1_turnGuard cX1_turnGuard 1 (some .boolean) 9 202 [.ref a0] em_i (f_X1_turnGuard g a0) := by
  refine sm_of (own := "PatchCords") rfl rfl (bl rfl) (fun Y C hR hA hl hm => ?_)
  subst hl
  refine s_lv (L' := [(0, .ref a0)]) [0] rfl ?_
  refine s_top ?_
  unfold f_X1_turnGuard
  refine s_aload_n C dX1_turnGuard_0 1 rfl 0 rfl ?_
  refine s_call_v (rn_V (As := []) C (ct_at hR hA (ct_on (ct_X1_save g TA a0))) (rv_on C hR (q := vw_0) rfl) (lw_V q533 q535 qs3 q101 q536) ⟨rfl, nv_X1_save⟩ ⟨by decide, by decide⟩ rfl (bl rfl) dX1_turnGuard_1) 4 rfl ?_
  refine s_aload_n C dX1_turnGuard_4 5 rfl 0 rfl ?_
  refine s_getR C hR fd_PatchCords_panel (Or.inl q273) dX1_turnGuard_5 8 rfl (fun x2 => ?_)
  refine s_aload_n C dX1_turnGuard_8 9 rfl 0 rfl ?_
  refine s_getR C hR fd_PatchCords_panel (Or.inl q273) dX1_turnGuard_9 12 rfl (fun x3 => ?_)
  refine s_getI C hR fd_PatchCords_Panel_guarded (Or.inr (Or.inl ⟨_, q194⟩)) dX1_turnGuard_12 15 rfl (fun x4 => ?_)
  refine s_cut (J := 23) (LJ := (fun (v5 : Int32) => [(0, .ref a0)])) (SJ := (fun (v5 : Int32) => [.int v5, .ref x2])) (fun v5 => ?_) (fun _ _ hK6 => ?_)
  · refine s_zb (fun h8 => ?_)
    refine s_put C hR hA fd_PatchCords_Panel_guarded (Or.inr (Or.inl ⟨_, q194⟩)) dX1_turnGuard_23 (s_zn h8) (s_zf h8) 26 rfl ?_
    refine s_aload_n C dX1_turnGuard_26 27 rfl 0 rfl ?_
    refine s_getR C hR fd_PatchCords_panel (Or.inl q273) dX1_turnGuard_27 30 rfl (fun x9 => ?_)
    refine s_getI C hR fd_PatchCords_Panel_guarded (Or.inr (Or.inl ⟨_, q194⟩)) dX1_turnGuard_30 33 rfl (fun x10 => ?_)
    refine s_zb (fun h => ?_)
    exact s_iret C rfl (s_zn h) dX1_turnGuard_33
  · refine s_if_ne C dX1_turnGuard_15 22 18 (by decide) rfl ?_ ?_
    · refine s_iconst (v := 1) C dX1_turnGuard_18 (by decide) 19 rfl ?_
      refine s_goto C dX1_turnGuard_19 23 (by decide) ?_
      refine s_r ?_
      refine s_lv [0] rfl ?_
      exact hK6 1
    · refine s_iconst (v := 0) C dX1_turnGuard_22 (by decide) 23 rfl ?_
      refine s_r ?_
      refine s_lv [0] rfl ?_
      exact hK6 0
theorem nv_X2_part : yX2_part.cls ≠ "java/lang/invoke/MethodHandle" ∧ yX2_part.cls ≠ "java/lang/invoke/VarHandle" ∧ (parseMethodDescriptor yX2_part.desc).map (fun d => d.parameters.length) = some 1 := by decide +kernel
theorem ct_X2_part {l : Launch} (g : sm_G) (TA : Nat → Prop) (a0 : Nat) (p0 : Int32) : sm_CT l g (so_R g TA) (so_A g TA) yX2_part cX2_part 2 (some (.object "PatchCords$Part")) 3 64 [.ref a0, .int p0] em_r (f_X2_part g a0 p0) := by
  refine sm_of (own := "PatchCords$Panel") rfl rfl (bl rfl) (fun Y C hR hA hl hm => ?_)
  subst hl
  refine s_lv (L' := [(0, .ref a0), (1, .int p0)]) [0, 1] rfl ?_
  refine s_top ?_
  unfold f_X2_part
  refine s_aload_n C dX2_part_0 1 rfl 0 rfl ?_
  refine s_getR C hR fd_PatchCords_Panel_parts (Or.inl q183) dX2_part_1 4 rfl (fun x1 => ?_)
  refine s_iload_n C dX2_part_4 5 rfl 1 rfl ?_
  refine s_call_q (rn_V (As := [.int p0]) C (ct_at hR hA (ct_on (ct_J2_get g TA x1 p0))) (rv_on C hR (q := vw_10) rfl) (lw_V q300 q301 q302 q105 q303) ⟨rfl, nv_J2_get⟩ ⟨by decide, by decide⟩ rfl (bl rfl) dX2_part_5) 8 rfl (fun x2 => ?_)
  refine s_cast C hR q314 ca_PatchCords_Part dX2_part_8 x2 11 rfl (fun x3 _ => ?_)
  exact s_aret C rfl (Or.inl ⟨_, rfl⟩) dX2_part_11
theorem nv_X2_cords : yX2_cords.cls ≠ "java/lang/invoke/MethodHandle" ∧ yX2_cords.cls ≠ "java/lang/invoke/VarHandle" ∧ (parseMethodDescriptor yX2_cords.desc).map (fun d => d.parameters.length) = some 0 := by decide +kernel
theorem ct_X2_cords {l : Launch} (g : sm_G) (TA : Nat → Prop) (a0 : Nat) : sm_CT l g (so_R g TA) (so_A g TA) yX2_cords cX2_cords 5 (some .int) 4 85 [.ref a0] em_i (f_X2_cords g a0) := by
  refine sm_of (own := "PatchCords$Panel") rfl rfl (bl rfl) (fun Y C hR hA hl hm => ?_)
  subst hl
  refine s_lv (L' := [(0, .ref a0)]) [0] rfl ?_
  refine s_top ?_
  unfold f_X2_cords
  refine s_iconst (v := 0) C dX2_cords_0 (by decide) 1 rfl ?_
  refine s_istore_n C dX2_cords_1 rfl (by decide) 2 rfl [(1, .int 0), (0, .ref a0)] rfl ?_
  refine s_iconst (v := 0) C dX2_cords_2 (by decide) 3 rfl ?_
  refine s_istore_n C dX2_cords_3 rfl (by decide) 4 rfl [(2, .int 0), (1, .int 0), (0, .ref a0)] rfl ?_
  refine s_lv [2, 1, 0] rfl ?_
  refine s_loop (fun (s1 : Int32 × Int32) => [(0, .ref a0), (1, .int s1.1), (2, .int s1.2)]) (fun (v16 : Int32) => [(1, .int v16)]) 59 (0, 0) rfl (fun v16 => ?_) (fun _ s1 hk2 hx3 => ?_)
  · refine s_iload_n C dX2_cords_59 60 rfl 0 rfl ?_
    exact s_iret C rfl rfl dX2_cords_60
  · refine s_iload_n C dX2_cords_4 5 rfl 2 rfl ?_
    refine s_aload_n C dX2_cords_5 6 rfl 0 rfl ?_
    refine s_call_i (rn_V (As := []) C (ct_at hR hA (ct_on (ct_X2_size g TA a0))) (rv_on C hR (q := vw_1) rfl) (lw_V q561 q526 q527 q102 q528) ⟨rfl, nv_X2_size⟩ ⟨by decide, by decide⟩ rfl (bl rfl) dX2_cords_6) 9 rfl (fun x4 => ?_)
    refine s_icmp_ge C dX2_cords_9 59 12 (by decide) rfl ?_ ?_
    · refine s_r ?_
      refine s_lv [1] rfl ?_
      exact hx3 s1.1
    · refine s_aload_n C dX2_cords_12 13 rfl 0 rfl ?_
      refine s_iload_n C dX2_cords_13 14 rfl 2 rfl ?_
      refine s_call_r (rn_V (As := [.int s1.2]) C (ct_at hR hA (ct_on (ct_X2_part g TA a0 s1.2))) (rv_on C hR (q := vw_1) rfl) (lw_V q562 q563 q564 q102 q565) ⟨rfl, nv_X2_part⟩ ⟨by decide, by decide⟩ rfl (bl rfl) dX2_cords_14) 17 rfl (fun x5 => ?_)
      refine s_getR C hR fd_PatchCords_Part_cords (Or.inr (Or.inl ⟨_, q341⟩)) dX2_cords_17 20 rfl (fun x6 => ?_)
      refine s_astore_n C dX2_cords_20 rfl (by decide) 21 rfl [(3, .ref x6), (0, .ref a0), (1, .int s1.1), (2, .int s1.2)] rfl ?_
      refine s_iconst (v := 0) C dX2_cords_21 (by decide) 22 rfl ?_
      refine s_istore C dX2_cords_22 (by decide) 24 rfl [(4, .int 0), (3, .ref x6), (0, .ref a0), (1, .int s1.1), (2, .int s1.2)] rfl ?_
      refine s_lv [2, 3, 4, 1, 0] rfl ?_
      refine s_loop (fun (s7 : Int32 × Int32) => [(0, .ref a0), (1, .int s7.1), (2, .int s1.2), (3, .ref x6), (4, .int s7.2)]) (fun (v15 : Int32) => [(0, .ref a0), (1, .int v15), (2, .int s1.2)]) 53 (s1.1, 0) rfl (fun v15 => ?_) (fun _ s7 hk8 hx9 => ?_)
      · refine s_iinc C dX2_cords_53 (s1.2 + 1) rfl 2 rfl (by decide) 56 rfl [(2, .int (s1.2 + 1)), (0, .ref a0), (1, .int v15)] rfl ?_
        refine s_goto C dX2_cords_56 4 (by decide) ?_
        refine s_r ?_
        refine s_lv [1, 2, 0] rfl ?_
        exact hk2 (v15, s1.2 + 1)
      · refine s_iload C dX2_cords_24 26 rfl 4 rfl ?_
        refine s_aload_n C dX2_cords_26 27 rfl 3 rfl ?_
        refine s_alen C hR dX2_cords_27 28 rfl (fun x10 => ?_)
        refine s_icmp_ge C dX2_cords_28 53 31 (by decide) rfl ?_ ?_
        · refine s_r ?_
          refine s_lv [0, 1, 2] rfl ?_
          exact hx9 s7.1
        · refine s_iload_n C dX2_cords_31 32 rfl 1 rfl ?_
          refine s_aload_n C dX2_cords_32 33 rfl 3 rfl ?_
          refine s_iload C dX2_cords_33 35 rfl 4 rfl ?_
          refine s_iald C hR dX2_cords_35 36 rfl (fun x11 => ?_)
          refine s_iconst (v := (-1)) C dX2_cords_36 (by decide) 37 rfl ?_
          refine s_cut (J := 45) (LJ := (fun (v12 : Int32) => [(0, .ref a0), (2, .int s1.2), (3, .ref x6), (4, .int s7.2)])) (SJ := (fun (v12 : Int32) => [.int v12, .int s7.1])) (fun v12 => ?_) (fun _ _ hK13 => ?_)
          · refine s_iadd C dX2_cords_45 46 rfl ?_
            refine s_topi (fun x14 => ?_)
            refine s_istore_n C dX2_cords_46 rfl (by decide) 47 rfl [(1, .int x14), (0, .ref a0), (2, .int s1.2), (3, .ref x6), (4, .int s7.2)] rfl ?_
            refine s_iinc C dX2_cords_47 (s7.2 + 1) rfl 4 rfl (by decide) 50 rfl [(4, .int (s7.2 + 1)), (1, .int x14), (0, .ref a0), (2, .int s1.2), (3, .ref x6)] rfl ?_
            refine s_goto C dX2_cords_50 24 (by decide) ?_
            refine s_r ?_
            refine s_lv [2, 1, 3, 4, 0] rfl ?_
            exact hk8 (x14, s7.2 + 1)
          · refine s_icmp_ne C dX2_cords_37 44 40 (by decide) rfl ?_ ?_
            · refine s_iconst (v := 0) C dX2_cords_40 (by decide) 41 rfl ?_
              refine s_goto C dX2_cords_41 45 (by decide) ?_
              refine s_r ?_
              refine s_lv [0, 2, 3, 4] rfl ?_
              exact hK13 0
            · refine s_iconst (v := 1) C dX2_cords_44 (by decide) 45 rfl ?_
              refine s_r ?_
              refine s_lv [0, 2, 3, 4] rfl ?_
              exact hK13 1
theorem nv_X1_cords : yX1_cords.cls ≠ "java/lang/invoke/MethodHandle" ∧ yX1_cords.cls ≠ "java/lang/invoke/VarHandle" ∧ (parseMethodDescriptor yX1_cords.desc).map (fun d => d.parameters.length) = some 0 := by decide +kernel
theorem ct_X1_cords {l : Launch} (g : sm_G) (TA : Nat → Prop) (a0 : Nat) : sm_CT l g (so_R g TA) (so_A g TA) yX1_cords cX1_cords 1 (some .int) 5 109 [.ref a0] em_i (f_X1_cords g a0) := by
  refine sm_of (own := "PatchCords") rfl rfl (bl rfl) (fun Y C hR hA hl hm => ?_)
  subst hl
  refine s_lv (L' := [(0, .ref a0)]) [0] rfl ?_
  refine s_top ?_
  unfold f_X1_cords
  refine s_aload_n C dX1_cords_0 1 rfl 0 rfl ?_
  refine s_getR C hR fd_PatchCords_panel (Or.inl q273) dX1_cords_1 4 rfl (fun x1 => ?_)
  refine s_call_i (rn_V (As := []) C (ct_at hR hA (ct_on (ct_X2_cords g TA x1))) (rv_on C hR (q := vw_1) rfl) (lw_V q557 q558 q559 q102 q560) ⟨rfl, nv_X2_cords⟩ ⟨by decide, by decide⟩ rfl (bl rfl) dX1_cords_4) 7 rfl (fun x2 => ?_)
  exact s_iret C rfl rfl dX1_cords_7
theorem nv_X1_mode : yX1_mode.cls ≠ "java/lang/invoke/MethodHandle" ∧ yX1_mode.cls ≠ "java/lang/invoke/VarHandle" ∧ (parseMethodDescriptor yX1_mode.desc).map (fun d => d.parameters.length) = some 0 := by decide +kernel
theorem ct_X1_mode {l : Launch} (g : sm_G) (TA : Nat → Prop) (a0 : Nat) : sm_CT l g (so_R g TA) (so_A g TA) yX1_mode cX1_mode 1 (some .int) 0 0 [.ref a0] em_i (f_X1_mode g a0) := by
  refine sm_of (own := "PatchCords") rfl rfl (bl rfl) (fun Y C hR hA hl hm => ?_)
  subst hl
  refine s_lv (L' := [(0, .ref a0)]) [0] rfl ?_
  refine s_top ?_
  unfold f_X1_mode
  refine s_aload_n C dX1_mode_0 1 rfl 0 rfl ?_
  refine s_getR C hR fd_PatchCords_panel (Or.inl q273) dX1_mode_1 4 rfl (fun x1 => ?_)
  refine s_getI C hR fd_PatchCords_Panel_mode (Or.inr (Or.inl ⟨_, q196⟩)) dX1_mode_4 7 rfl (fun x2 => ?_)
  exact s_iret C rfl rfl dX1_mode_7
theorem nv_J3_ordinal : yJ3_ordinal.cls ≠ "java/lang/invoke/MethodHandle" ∧ yJ3_ordinal.cls ≠ "java/lang/invoke/VarHandle" ∧ (parseMethodDescriptor yJ3_ordinal.desc).map (fun d => d.parameters.length) = some 0 := by decide +kernel
theorem ct_J3_ordinal {l : Launch} (g : sm_G) (TA : Nat → Prop) (a0 : Nat) : sm_CT l g (so_R g TA) (so_A g TA) yJ3_ordinal cJ3_ordinal 1 (some .int) 0 0 [.ref a0] em_i (f_J3_ordinal g a0) := by
  refine sm_of (own := "java/lang/Enum") rfl rfl (bl rfl) (fun Y C hR hA hl hm => ?_)
  subst hl
  refine s_lv (L' := [(0, .ref a0)]) [0] rfl ?_
  refine s_top ?_
  unfold f_J3_ordinal
  refine s_aload_n C dJ3_ordinal_0 1 rfl 0 rfl ?_
  refine s_ord C q2433 dJ3_ordinal_1 4 rfl (fun x1 => ?_)
  exact s_iret C rfl rfl dJ3_ordinal_4
theorem nv_X1_way : yX1_way.cls ≠ "java/lang/invoke/MethodHandle" ∧ yX1_way.cls ≠ "java/lang/invoke/VarHandle" ∧ (parseMethodDescriptor yX1_way.desc).map (fun d => d.parameters.length) = some 0 := by decide +kernel
theorem ct_X1_way {l : Launch} (g : sm_G) (TA : Nat → Prop) (a0 : Nat) : sm_CT l g (so_R g TA) (so_A g TA) yX1_way cX1_way 1 (some .int) 1 20 [.ref a0] em_i (f_X1_way g a0) := by
  refine sm_of (own := "PatchCords") rfl rfl (bl rfl) (fun Y C hR hA hl hm => ?_)
  subst hl
  refine s_lv (L' := [(0, .ref a0)]) [0] rfl ?_
  refine s_top ?_
  unfold f_X1_way
  refine s_aload_n C dX1_way_0 1 rfl 0 rfl ?_
  refine s_getR C hR fd_PatchCords_panel (Or.inl q273) dX1_way_1 4 rfl (fun x1 => ?_)
  refine s_getR C hR fd_PatchCords_Panel_way (Or.inr (Or.inl ⟨_, q192⟩)) dX1_way_4 7 rfl (fun x2 => ?_)
  refine s_call_i (rn_W (fun hw => rn_U (As := []) C (ct_at hR hA (ct_J3_ordinal g TA x2)) (rv_W0 C hw) q574 q575 (va_Decl.abs (C.k.2.1 _ q576 rfl)) (C.w _ q577) q579 q106 q580 ⟨by decide +kernel, by decide +kernel, (show (parseMethodDescriptor "()I").map (fun d => d.parameters.length) = some 0 by decide +kernel)⟩ ⟨by decide, by decide⟩ rfl (bl rfl) dX1_way_7) (fun hw => rn_U (As := []) C (ct_at hR hA (ct_J3_ordinal g TA x2)) (rv_W1 C hw) q574 q575 (va_Decl.abs (C.k.2.1 _ q576 rfl)) (C.w _ q578) q579 q106 q580 ⟨by decide +kernel, by decide +kernel, (show (parseMethodDescriptor "()I").map (fun d => d.parameters.length) = some 0 by decide +kernel)⟩ ⟨by decide, by decide⟩ rfl (bl rfl) dX1_way_7)) 10 rfl (fun x3 => ?_)
  exact s_iret C rfl rfl dX1_way_10
theorem nv_X1_isGuarded : yX1_isGuarded.cls ≠ "java/lang/invoke/MethodHandle" ∧ yX1_isGuarded.cls ≠ "java/lang/invoke/VarHandle" ∧ (parseMethodDescriptor yX1_isGuarded.desc).map (fun d => d.parameters.length) = some 0 := by decide +kernel
theorem ct_X1_isGuarded {l : Launch} (g : sm_G) (TA : Nat → Prop) (a0 : Nat) : sm_CT l g (so_R g TA) (so_A g TA) yX1_isGuarded cX1_isGuarded 1 (some .boolean) 0 0 [.ref a0] em_i (f_X1_isGuarded g a0) := by
  refine sm_of (own := "PatchCords") rfl rfl (bl rfl) (fun Y C hR hA hl hm => ?_)
  subst hl
  refine s_lv (L' := [(0, .ref a0)]) [0] rfl ?_
  refine s_top ?_
  unfold f_X1_isGuarded
  refine s_aload_n C dX1_isGuarded_0 1 rfl 0 rfl ?_
  refine s_getR C hR fd_PatchCords_panel (Or.inl q273) dX1_isGuarded_1 4 rfl (fun x1 => ?_)
  refine s_getI C hR fd_PatchCords_Panel_guarded (Or.inr (Or.inl ⟨_, q194⟩)) dX1_isGuarded_4 7 rfl (fun x2 => ?_)
  refine s_zb (fun h => ?_)
  exact s_iret C rfl (s_zn h) dX1_isGuarded_7
theorem nv_X1_steps : yX1_steps.cls ≠ "java/lang/invoke/MethodHandle" ∧ yX1_steps.cls ≠ "java/lang/invoke/VarHandle" ∧ (parseMethodDescriptor yX1_steps.desc).map (fun d => d.parameters.length) = some 0 := by decide +kernel
theorem ct_X1_steps {l : Launch} (g : sm_G) (TA : Nat → Prop) (a0 : Nat) : sm_CT l g (so_R g TA) (so_A g TA) yX1_steps cX1_steps 1 (some .int) 0 0 [.ref a0] em_i (f_X1_steps g a0) := by
  refine sm_of (own := "PatchCords") rfl rfl (bl rfl) (fun Y C hR hA hl hm => ?_)
  subst hl
  refine s_lv (L' := [(0, .ref a0)]) [0] rfl ?_
  refine s_top ?_
  unfold f_X1_steps
  refine s_aload_n C dX1_steps_0 1 rfl 0 rfl ?_
  refine s_getR C hR fd_PatchCords_panel (Or.inl q273) dX1_steps_1 4 rfl (fun x1 => ?_)
  refine s_getI C hR fd_PatchCords_Panel_steps (Or.inr (Or.inl ⟨_, q198⟩)) dX1_steps_4 7 rfl (fun x2 => ?_)
  exact s_iret C rfl rfl dX1_steps_7
theorem nv_X2_tellInputs : yX2_tellInputs.cls ≠ "java/lang/invoke/MethodHandle" ∧ yX2_tellInputs.cls ≠ "java/lang/invoke/VarHandle" ∧ (parseMethodDescriptor yX2_tellInputs.desc).map (fun d => d.parameters.length) = some 1 := by decide +kernel
theorem ct_X2_tellInputs {l : Launch} (g : sm_G) (TA : Nat → Prop) (a0 : Nat) (p0 : Nat) : sm_CT l g (so_R g TA) (so_A g TA) yX2_tellInputs cX2_tellInputs 3 none 0 0 [.ref a0, .ref p0] em_v (f_X2_tellInputs g a0 p0) := by
  refine sm_of (own := "PatchCords$Panel") rfl rfl (bl rfl) (fun Y C hR hA hl hm => ?_)
  subst hl
  refine s_lv (L' := [(0, .ref a0), (1, .ref p0)]) [0, 1] rfl ?_
  refine s_top ?_
  unfold f_X2_tellInputs
  refine s_iconst (v := 0) C dX2_tellInputs_0 (by decide) 1 rfl ?_
  refine s_istore_n C dX2_tellInputs_1 rfl (by decide) 2 rfl [(2, .int 0), (0, .ref a0), (1, .ref p0)] rfl ?_
  refine s_lv [1, 2, 0] rfl ?_
  refine s_loop (fun (s1 : Int32) => [(0, .ref a0), (1, .ref p0), (2, .int s1)]) (fun (v15 : Unit) => []) 48 0 rfl (fun v15 => ?_) (fun _ s1 hk2 hx3 => ?_)
  · exact s_vret C rfl dX2_tellInputs_48
  · refine s_iload_n C dX2_tellInputs_2 3 rfl 2 rfl ?_
    refine s_aload_n C dX2_tellInputs_3 4 rfl 1 rfl ?_
    refine s_getR C hR fd_PatchCords_Part_cords (Or.inr (Or.inl ⟨_, q341⟩)) dX2_tellInputs_4 7 rfl (fun x4 => ?_)
    refine s_alen C hR dX2_tellInputs_7 8 rfl (fun x5 => ?_)
    refine s_icmp_ge C dX2_tellInputs_8 48 11 (by decide) rfl ?_ ?_
    · refine s_r ?_
      refine s_lv [] rfl ?_
      exact hx3 ()
    · refine s_aload_n C dX2_tellInputs_11 12 rfl 0 rfl ?_
      refine s_getR C hR fd_PatchCords_Panel_in (Or.inl q187) dX2_tellInputs_12 15 rfl (fun x6 => ?_)
      refine s_iload_n C dX2_tellInputs_15 16 rfl 2 rfl ?_
      refine s_aload_n C dX2_tellInputs_16 17 rfl 1 rfl ?_
      refine s_getR C hR fd_PatchCords_Part_cords (Or.inr (Or.inl ⟨_, q341⟩)) dX2_tellInputs_17 20 rfl (fun x7 => ?_)
      refine s_iload_n C dX2_tellInputs_20 21 rfl 2 rfl ?_
      refine s_iald C hR dX2_tellInputs_21 22 rfl (fun x8 => ?_)
      refine s_iconst (v := (-1)) C dX2_tellInputs_22 (by decide) 23 rfl ?_
      refine s_cut (J := 41) (LJ := (fun (v9 : Int32) => [(0, .ref a0), (1, .ref p0), (2, .int s1)])) (SJ := (fun (v9 : Int32) => [.int v9, .int s1, .ref x6])) (fun v9 => ?_) (fun _ _ hK10 => ?_)
      · refine s_iast C hR hA dX2_tellInputs_41 42 rfl ?_
        refine s_iinc C dX2_tellInputs_42 (s1 + 1) rfl 2 rfl (by decide) 45 rfl [(2, .int (s1 + 1)), (0, .ref a0), (1, .ref p0)] rfl ?_
        refine s_goto C dX2_tellInputs_45 2 (by decide) ?_
        refine s_r ?_
        refine s_lv [1, 2, 0] rfl ?_
        exact hk2 (s1 + 1)
      · refine s_icmp_ne C dX2_tellInputs_23 30 26 (by decide) rfl ?_ ?_
        · refine s_iconst (v := 0) C dX2_tellInputs_26 (by decide) 27 rfl ?_
          refine s_goto C dX2_tellInputs_27 41 (by decide) ?_
          refine s_r ?_
          refine s_lv [0, 1, 2] rfl ?_
          exact hK10 0
        · refine s_aload_n C dX2_tellInputs_30 31 rfl 0 rfl ?_
          refine s_getR C hR fd_PatchCords_Panel_outputs (Or.inl q185) dX2_tellInputs_31 34 rfl (fun x11 => ?_)
          refine s_aload_n C dX2_tellInputs_34 35 rfl 1 rfl ?_
          refine s_getR C hR fd_PatchCords_Part_cords (Or.inr (Or.inl ⟨_, q341⟩)) dX2_tellInputs_35 38 rfl (fun x12 => ?_)
          refine s_iload_n C dX2_tellInputs_38 39 rfl 2 rfl ?_
          refine s_iald C hR dX2_tellInputs_39 40 rfl (fun x13 => ?_)
          refine s_iald C hR dX2_tellInputs_40 41 rfl (fun x14 => ?_)
          refine s_r ?_
          refine s_lv [0, 1, 2] rfl ?_
          exact hK10 x14
theorem nv_X1_has : yX1_has.cls ≠ "java/lang/invoke/MethodHandle" ∧ yX1_has.cls ≠ "java/lang/invoke/VarHandle" ∧ (parseMethodDescriptor yX1_has.desc).map (fun d => d.parameters.length) = some 2 := by decide +kernel
theorem ct_X1_has {l : Launch} (g : sm_G) (TA : Nat → Prop) (p0 : Int32) (p1 : Int32) : sm_CT l g (so_R g TA) (so_A g TA) yX1_has cX1_has 2 (some .boolean) 0 0 [.int p0, .int p1] em_i (f_X1_has g p0 p1) := by
  refine sm_of (own := "PatchCords") rfl rfl (bl rfl) (fun Y C hR hA hl hm => ?_)
  subst hl
  refine s_lv (L' := [(0, .int p0), (1, .int p1)]) [0, 1] rfl ?_
  refine s_top ?_
  unfold f_X1_has
  refine s_iload_n C dX1_has_0 1 rfl 0 rfl ?_
  refine s_iload_n C dX1_has_1 2 rfl 1 rfl ?_
  refine s_ishr C dX1_has_2 3 rfl ?_
  refine s_iconst (v := 1) C dX1_has_3 (by decide) 4 rfl ?_
  refine s_iand C dX1_has_4 5 rfl ?_
  refine s_iconst (v := 1) C dX1_has_5 (by decide) 6 rfl ?_
  refine s_cut (J := 14) (LJ := (fun (v1 : Int32) => [])) (SJ := (fun (v1 : Int32) => [.int v1])) (fun v1 => ?_) (fun _ _ hK2 => ?_)
  · refine s_zb (fun h => ?_)
    exact s_iret C rfl (s_zn h) dX1_has_14
  · refine s_icmp_ne C dX1_has_6 13 9 (by decide) rfl ?_ ?_
    · refine s_iconst (v := 1) C dX1_has_9 (by decide) 10 rfl ?_
      refine s_goto C dX1_has_10 14 (by decide) ?_
      refine s_r ?_
      refine s_lv [] rfl ?_
      exact hK2 1
    · refine s_iconst (v := 0) C dX1_has_13 (by decide) 14 rfl ?_
      refine s_r ?_
      refine s_lv [] rfl ?_
      exact hK2 0
theorem nv_X7_weight : yX7_weight.cls ≠ "java/lang/invoke/MethodHandle" ∧ yX7_weight.cls ≠ "java/lang/invoke/VarHandle" ∧ (parseMethodDescriptor yX7_weight.desc).map (fun d => d.parameters.length) = some 1 := by decide +kernel
theorem ct_X7_weight {l : Launch} (g : sm_G) (TA : Nat → Prop) (a0 : Nat) (p0 : Int32) : sm_CT l g (so_R g TA) (so_A g TA) yX7_weight cX7_weight 2 (some .int) 1 21 [.ref a0, .int p0] em_i (f_X7_weight g a0 p0) := by
  refine sm_of (own := "PatchCords$Weighted") rfl rfl (bl rfl) (fun Y C hR hA hl hm => ?_)
  subst hl
  refine s_lv (L' := [(0, .ref a0), (1, .int p0)]) [0, 1] rfl ?_
  refine s_top ?_
  unfold f_X7_weight
  refine s_aload_n C dX7_weight_0 1 rfl 0 rfl ?_
  refine s_getI C hR fd_PatchCords_Weighted_heavy (Or.inl q374) dX7_weight_1 4 rfl (fun x1 => ?_)
  refine s_iload_n C dX7_weight_4 5 rfl 1 rfl ?_
  refine s_call_i (rn_SN (As := [.int x1, .int p0]) C (ct_at hR hA (ct_X1_has g TA x1 p0)) q638 q639 q101 q640 nv_X1_has ⟨by decide, by decide⟩ rfl (bl rfl) dX7_weight_5) 8 rfl (fun x2 => ?_)
  refine s_cut (J := 17) (LJ := (fun (v3 : Int32) => [])) (SJ := (fun (v3 : Int32) => [.int v3])) (fun v3 => ?_) (fun _ _ hK4 => ?_)
  · exact s_iret C rfl rfl dX7_weight_17
  · refine s_if_eq C dX7_weight_8 16 11 (by decide) rfl ?_ ?_
    · refine s_iconst (v := 1) C dX7_weight_16 (by decide) 17 rfl ?_
      refine s_r ?_
      refine s_lv [] rfl ?_
      exact hK4 1
    · refine s_bipush (v := 10) C dX7_weight_11 (by decide) 13 rfl ?_
      refine s_goto C dX7_weight_13 17 (by decide) ?_
      refine s_r ?_
      refine s_lv [] rfl ?_
      exact hK4 10
theorem nv_X7_turnedSum : yX7_turnedSum.cls ≠ "java/lang/invoke/MethodHandle" ∧ yX7_turnedSum.cls ≠ "java/lang/invoke/VarHandle" ∧ (parseMethodDescriptor yX7_turnedSum.desc).map (fun d => d.parameters.length) = some 1 := by decide +kernel
theorem ct_X7_turnedSum {l : Launch} (g : sm_G) (TA : Nat → Prop) (a0 : Nat) (p0 : Nat) : sm_CT l g (so_R g TA) (so_A g TA) yX7_turnedSum cX7_turnedSum 4 (some .int) 2 42 [.ref a0, .ref p0] em_i (f_X7_turnedSum g a0 p0) := by
  refine sm_of (own := "PatchCords$Weighted") rfl rfl (bl rfl) (fun Y C hR hA hl hm => ?_)
  subst hl
  refine s_lv (L' := [(0, .ref a0), (1, .ref p0)]) [0, 1] rfl ?_
  refine s_top ?_
  unfold f_X7_turnedSum
  refine s_iconst (v := 0) C dX7_turnedSum_0 (by decide) 1 rfl ?_
  refine s_istore_n C dX7_turnedSum_1 rfl (by decide) 2 rfl [(2, .int 0), (0, .ref a0), (1, .ref p0)] rfl ?_
  refine s_iconst (v := 0) C dX7_turnedSum_2 (by decide) 3 rfl ?_
  refine s_istore_n C dX7_turnedSum_3 rfl (by decide) 4 rfl [(3, .int 0), (2, .int 0), (0, .ref a0), (1, .ref p0)] rfl ?_
  refine s_lv [2, 3, 1, 0] rfl ?_
  refine s_loop (fun (s1 : Int32 × Int32) => [(0, .ref a0), (1, .ref p0), (2, .int s1.1), (3, .int s1.2)]) (fun (v7 : Int32) => [(2, .int v7)]) 27 (0, 0) rfl (fun v7 => ?_) (fun _ s1 hk2 hx3 => ?_)
  · refine s_iload_n C dX7_turnedSum_27 28 rfl 0 rfl ?_
    exact s_iret C rfl rfl dX7_turnedSum_28
  · refine s_iload_n C dX7_turnedSum_4 5 rfl 3 rfl ?_
    refine s_iconst (v := 4) C dX7_turnedSum_5 (by decide) 6 rfl ?_
    refine s_icmp_ge C dX7_turnedSum_6 27 9 (by decide) rfl ?_ ?_
    · refine s_r ?_
      refine s_lv [2] rfl ?_
      exact hx3 s1.1
    · refine s_iload_n C dX7_turnedSum_9 10 rfl 2 rfl ?_
      refine s_aload_n C dX7_turnedSum_10 11 rfl 0 rfl ?_
      refine s_iload_n C dX7_turnedSum_11 12 rfl 3 rfl ?_
      refine s_call_i (rn_D (by
          intro ci hci
          simp only [List.mem_cons, List.not_mem_nil, or_false] at hci
          rcases hci with rfl | rfl
          · exact (rn_U (As := [.int s1.2]) C (ct_at hR hA (ct_on (ct_X7_weight g TA a0 s1.2))) (rv_on C hR (q := vw_2) rfl) q632 q634 (va_Decl.of (C.w _ q633) (C.w _ q637)) (C.w _ q636) q633 q122 q637 ⟨by decide +kernel, by decide +kernel, (show (parseMethodDescriptor "(I)I").map (fun d => d.parameters.length) = some 1 by decide +kernel)⟩ ⟨by decide, by decide⟩ rfl (bl rfl) dX7_turnedSum_12)
          · exact (rn_U (As := [.int s1.2]) C (ct_at hR hA (ct_on (ct_X7_weight g TA a0 s1.2))) (rv_on C hR (q := vw_3) rfl) q632 q634 (va_Decl.of (C.w _ q633) (C.w _ q637)) (C.w _ q635) q633 q122 q637 ⟨by decide +kernel, by decide +kernel, (show (parseMethodDescriptor "(I)I").map (fun d => d.parameters.length) = some 1 by decide +kernel)⟩ ⟨by decide, by decide⟩ rfl (bl rfl) dX7_turnedSum_12))) 15 rfl (fun x4 => ?_)
      refine s_aload_n C dX7_turnedSum_15 16 rfl 1 rfl ?_
      refine s_iload_n C dX7_turnedSum_16 17 rfl 3 rfl ?_
      refine s_iald C hR dX7_turnedSum_17 18 rfl (fun x5 => ?_)
      refine s_imul C dX7_turnedSum_18 19 rfl ?_
      refine s_isub C dX7_turnedSum_19 20 rfl ?_
      refine s_topi (fun x6 => ?_)
      refine s_istore_n C dX7_turnedSum_20 rfl (by decide) 21 rfl [(2, .int x6), (0, .ref a0), (1, .ref p0), (3, .int s1.2)] rfl ?_
      refine s_iinc C dX7_turnedSum_21 (s1.2 + 1) rfl 3 rfl (by decide) 24 rfl [(3, .int (s1.2 + 1)), (2, .int x6), (0, .ref a0), (1, .ref p0)] rfl ?_
      refine s_goto C dX7_turnedSum_24 4 (by decide) ?_
      refine s_r ?_
      refine s_lv [2, 3, 1, 0] rfl ?_
      exact hk2 (x6, s1.2 + 1)
theorem nv_X12_raw : yX12_raw.cls ≠ "java/lang/invoke/MethodHandle" ∧ yX12_raw.cls ≠ "java/lang/invoke/VarHandle" ∧ (parseMethodDescriptor yX12_raw.desc).map (fun d => d.parameters.length) = some 1 := by decide +kernel
theorem ct_X12_raw {l : Launch} (g : sm_G) (TA : Nat → Prop) (a0 : Nat) (p0 : Nat) : sm_CT l g (so_R g TA) (so_A g TA) yX12_raw cX12_raw 2 (some .int) 3 65 [.ref a0, .ref p0] em_i (f_X12_raw g a0 p0) := by
  refine sm_of (own := "PatchCords$Summer") rfl rfl (bl rfl) (fun Y C hR hA hl hm => ?_)
  subst hl
  refine s_lv (L' := [(0, .ref a0), (1, .ref p0)]) [0, 1] rfl ?_
  refine s_top ?_
  unfold f_X12_raw
  refine s_aload_n C dX12_raw_0 1 rfl 0 rfl ?_
  refine s_aload_n C dX12_raw_1 2 rfl 1 rfl ?_
  refine s_call_i (rn_U (As := [.ref p0]) C (ct_at hR hA (ct_on (ct_X7_turnedSum g TA a0 p0))) (rv_on C hR (q := vw_2) rfl) q626 q627 (va_Decl.abs (C.k.2.1 _ q628 rfl)) (C.w _ q629) q630 q122 q631 ⟨by decide +kernel, by decide +kernel, (show (parseMethodDescriptor "([I)I").map (fun d => d.parameters.length) = some 1 by decide +kernel)⟩ ⟨by decide, by decide⟩ rfl (bl rfl) dX12_raw_2) 5 rfl (fun x1 => ?_)
  exact s_iret C rfl rfl dX12_raw_5
theorem nv_X8_raw : yX8_raw.cls ≠ "java/lang/invoke/MethodHandle" ∧ yX8_raw.cls ≠ "java/lang/invoke/VarHandle" ∧ (parseMethodDescriptor yX8_raw.desc).map (fun d => d.parameters.length) = some 1 := by decide +kernel
theorem ct_X8_raw {l : Launch} (g : sm_G) (TA : Nat → Prop) (a0 : Nat) (p0 : Nat) : sm_CT l g (so_R g TA) (so_A g TA) yX8_raw cX8_raw 2 (some .int) 0 0 [.ref a0, .ref p0] em_i (f_X8_raw g a0 p0) := by
  refine sm_of (own := "PatchCords$Integrator") rfl rfl (bl rfl) (fun Y C hR hA hl hm => ?_)
  subst hl
  refine s_lv (L' := [(0, .ref a0)]) [0] rfl ?_
  refine s_top ?_
  unfold f_X8_raw
  refine s_aload_n C dX8_raw_0 1 rfl 0 rfl ?_
  refine s_getI C hR fd_PatchCords_Integrator_charge (Or.inl q367) dX8_raw_1 4 rfl (fun x1 => ?_)
  refine s_sipush (v := 1000) C dX8_raw_4 (by decide) 7 rfl ?_
  refine s_idiv C dX8_raw_7 (by decide) 8 rfl ?_
  exact s_iret C rfl rfl dX8_raw_8
theorem nv_X9_raw : yX9_raw.cls ≠ "java/lang/invoke/MethodHandle" ∧ yX9_raw.cls ≠ "java/lang/invoke/VarHandle" ∧ (parseMethodDescriptor yX9_raw.desc).map (fun d => d.parameters.length) = some 1 := by decide +kernel
theorem ct_X9_raw {l : Launch} (g : sm_G) (TA : Nat → Prop) (a0 : Nat) (p0 : Nat) : sm_CT l g (so_R g TA) (so_A g TA) yX9_raw cX9_raw 2 (some .int) 0 0 [.ref a0, .ref p0] em_i (f_X9_raw g a0 p0) := by
  refine sm_of (own := "PatchCords$Pot") rfl rfl (bl rfl) (fun Y C hR hA hl hm => ?_)
  subst hl
  refine s_lv (L' := [(0, .ref a0), (1, .ref p0)]) [0, 1] rfl ?_
  refine s_top ?_
  unfold f_X9_raw
  refine s_aload_n C dX9_raw_0 1 rfl 1 rfl ?_
  refine s_iconst (v := 0) C dX9_raw_1 (by decide) 2 rfl ?_
  refine s_iald C hR dX9_raw_2 3 rfl (fun x1 => ?_)
  refine s_aload_n C dX9_raw_3 4 rfl 0 rfl ?_
  refine s_getI C hR fd_PatchCords_Pot_factor (Or.inl q399) dX9_raw_4 7 rfl (fun x2 => ?_)
  refine s_imul C dX9_raw_7 8 rfl ?_
  refine s_sipush (v := 1000) C dX9_raw_8 (by decide) 11 rfl ?_
  refine s_idiv C dX9_raw_11 (by decide) 12 rfl ?_
  exact s_iret C rfl rfl dX9_raw_12
theorem nv_X10_raw : yX10_raw.cls ≠ "java/lang/invoke/MethodHandle" ∧ yX10_raw.cls ≠ "java/lang/invoke/VarHandle" ∧ (parseMethodDescriptor yX10_raw.desc).map (fun d => d.parameters.length) = some 1 := by decide +kernel
theorem ct_X10_raw {l : Launch} (g : sm_G) (TA : Nat → Prop) (a0 : Nat) (p0 : Nat) : sm_CT l g (so_R g TA) (so_A g TA) yX10_raw cX10_raw 2 (some .int) 0 0 [.ref a0, .ref p0] em_i (f_X10_raw g a0 p0) := by
  refine sm_of (own := "PatchCords$Product") rfl rfl (bl rfl) (fun Y C hR hA hl hm => ?_)
  subst hl
  refine s_lv (L' := [(1, .ref p0)]) [1] rfl ?_
  refine s_top ?_
  unfold f_X10_raw
  refine s_aload_n C dX10_raw_0 1 rfl 0 rfl ?_
  refine s_iconst (v := 0) C dX10_raw_1 (by decide) 2 rfl ?_
  refine s_iald C hR dX10_raw_2 3 rfl (fun x1 => ?_)
  refine s_aload_n C dX10_raw_3 4 rfl 0 rfl ?_
  refine s_iconst (v := 1) C dX10_raw_4 (by decide) 5 rfl ?_
  refine s_iald C hR dX10_raw_5 6 rfl (fun x2 => ?_)
  refine s_imul C dX10_raw_6 7 rfl ?_
  refine s_sipush (v := 10000) C dX10_raw_7 (by decide) 10 rfl ?_
  refine s_idiv C dX10_raw_10 (by decide) 11 rfl ?_
  exact s_iret C rfl rfl dX10_raw_11
theorem nv_X6_raw : yX6_raw.cls ≠ "java/lang/invoke/MethodHandle" ∧ yX6_raw.cls ≠ "java/lang/invoke/VarHandle" ∧ (parseMethodDescriptor yX6_raw.desc).map (fun d => d.parameters.length) = some 1 := by decide +kernel
theorem ct_X6_raw {l : Launch} (g : sm_G) (TA : Nat → Prop) (a0 : Nat) (p0 : Nat) : sm_CT l g (so_R g TA) (so_A g TA) yX6_raw cX6_raw 2 (some .int) 0 0 [.ref a0, .ref p0] em_i (f_X6_raw g a0 p0) := by
  refine sm_of (own := "PatchCords$Choice") rfl rfl (bl rfl) (fun Y C hR hA hl hm => ?_)
  subst hl
  refine s_lv (L' := [(1, .ref p0)]) [1] rfl ?_
  refine s_top ?_
  unfold f_X6_raw
  refine s_aload_n C dX6_raw_0 1 rfl 0 rfl ?_
  refine s_iconst (v := 0) C dX6_raw_1 (by decide) 2 rfl ?_
  refine s_iald C hR dX6_raw_2 3 rfl (fun x1 => ?_)
  refine s_aload_n C dX6_raw_3 4 rfl 0 rfl ?_
  refine s_iconst (v := 1) C dX6_raw_4 (by decide) 5 rfl ?_
  refine s_iald C hR dX6_raw_5 6 rfl (fun x2 => ?_)
  refine s_cut (J := 18) (LJ := (fun (v3 : Int32) => [])) (SJ := (fun (v3 : Int32) => [.int v3])) (fun v3 => ?_) (fun _ _ hK4 => ?_)
  · exact s_iret C rfl rfl dX6_raw_18
  · refine s_icmp_lt C dX6_raw_6 15 9 (by decide) rfl ?_ ?_
    · refine s_aload_n C dX6_raw_15 16 rfl 0 rfl ?_
      refine s_iconst (v := 3) C dX6_raw_16 (by decide) 17 rfl ?_
      refine s_iald C hR dX6_raw_17 18 rfl (fun x5 => ?_)
      refine s_r ?_
      refine s_lv [] rfl ?_
      exact hK4 x5
    · refine s_aload_n C dX6_raw_9 10 rfl 0 rfl ?_
      refine s_iconst (v := 2) C dX6_raw_10 (by decide) 11 rfl ?_
      refine s_iald C hR dX6_raw_11 12 rfl (fun x6 => ?_)
      refine s_goto C dX6_raw_12 18 (by decide) ?_
      refine s_r ?_
      refine s_lv [] rfl ?_
      exact hK4 x6
theorem nv_X11_raw : yX11_raw.cls ≠ "java/lang/invoke/MethodHandle" ∧ yX11_raw.cls ≠ "java/lang/invoke/VarHandle" ∧ (parseMethodDescriptor yX11_raw.desc).map (fun d => d.parameters.length) = some 1 := by decide +kernel
theorem ct_X11_raw {l : Launch} (g : sm_G) (TA : Nat → Prop) (a0 : Nat) (p0 : Nat) : sm_CT l g (so_R g TA) (so_A g TA) yX11_raw cX11_raw 2 (some .int) 0 0 [.ref a0, .ref p0] em_i (f_X11_raw g a0 p0) := by
  refine sm_of (own := "PatchCords$Steady") rfl rfl (bl rfl) (fun Y C hR hA hl hm => ?_)
  subst hl
  refine s_lv (L' := [(0, .ref a0)]) [0] rfl ?_
  refine s_top ?_
  unfold f_X11_raw
  refine s_aload_n C dX11_raw_0 1 rfl 0 rfl ?_
  refine s_getI C hR fd_PatchCords_Steady_voltage (Or.inl q428) dX11_raw_1 4 rfl (fun x1 => ?_)
  exact s_iret C rfl rfl dX11_raw_4
theorem nv_X1_held : yX1_held.cls ≠ "java/lang/invoke/MethodHandle" ∧ yX1_held.cls ≠ "java/lang/invoke/VarHandle" ∧ (parseMethodDescriptor yX1_held.desc).map (fun d => d.parameters.length) = some 2 := by decide +kernel
theorem ct_X1_held {l : Launch} (g : sm_G) (TA : Nat → Prop) (p0 : Int32) (p1 : Int32) : sm_CT l g (so_R g TA) (so_A g TA) yX1_held cX1_held 2 (some .int) 1 14 [.int p0, .int p1] em_i (f_X1_held g p0 p1) := by
  refine sm_of (own := "PatchCords") rfl rfl (bl rfl) (fun Y C hR hA hl hm => ?_)
  subst hl
  refine s_lv (L' := [(0, .int p0), (1, .int p1)]) [0, 1] rfl ?_
  refine s_top ?_
  unfold f_X1_held
  refine s_iload_n C dX1_held_0 1 rfl 1 rfl ?_
  refine s_ineg C dX1_held_1 2 rfl ?_
  refine s_iload_n C dX1_held_2 3 rfl 1 rfl ?_
  refine s_iload_n C dX1_held_3 4 rfl 0 rfl ?_
  refine s_min C q644 q514 q129 q515 (by decide) (bl rfl) dX1_held_4 7 rfl ?_
  refine s_max C q645 q473 q129 q474 (by decide) (bl rfl) dX1_held_7 10 rfl ?_
  exact s_iret C rfl rfl dX1_held_10
theorem nv_X2_tellOutputs : yX2_tellOutputs.cls ≠ "java/lang/invoke/MethodHandle" ∧ yX2_tellOutputs.cls ≠ "java/lang/invoke/VarHandle" ∧ (parseMethodDescriptor yX2_tellOutputs.desc).map (fun d => d.parameters.length) = some 0 := by decide +kernel
theorem ct_X2_tellOutputs {l : Launch} (g : sm_G) (TA : Nat → Prop) (a0 : Nat) : sm_CT l g (so_R g TA) (so_A g TA) yX2_tellOutputs cX2_tellOutputs 3 none 4 86 [.ref a0] em_v (f_X2_tellOutputs g a0) := by
  refine sm_of (own := "PatchCords$Panel") rfl rfl (bl rfl) (fun Y C hR hA hl hm => ?_)
  subst hl
  refine s_lv (L' := [(0, .ref a0)]) [0] rfl ?_
  refine s_top ?_
  unfold f_X2_tellOutputs
  refine s_iconst (v := 0) C dX2_tellOutputs_0 (by decide) 1 rfl ?_
  refine s_istore_n C dX2_tellOutputs_1 rfl (by decide) 2 rfl [(1, .int 0), (0, .ref a0)] rfl ?_
  refine s_lv [1, 0] rfl ?_
  refine s_loop (fun (s1 : Int32) => [(0, .ref a0), (1, .int s1)]) (fun (v15 : Unit) => []) 57 0 rfl (fun v15 => ?_) (fun _ s1 hk2 hx3 => ?_)
  · exact s_vret C rfl dX2_tellOutputs_57
  · refine s_iload_n C dX2_tellOutputs_2 3 rfl 1 rfl ?_
    refine s_aload_n C dX2_tellOutputs_3 4 rfl 0 rfl ?_
    refine s_call_i (rn_V (As := []) C (ct_at hR hA (ct_on (ct_X2_size g TA a0))) (rv_on C hR (q := vw_1) rfl) (lw_V q561 q526 q527 q102 q528) ⟨rfl, nv_X2_size⟩ ⟨by decide, by decide⟩ rfl (bl rfl) dX2_tellOutputs_4) 7 rfl (fun x4 => ?_)
    refine s_icmp_ge C dX2_tellOutputs_7 57 10 (by decide) rfl ?_ ?_
    · refine s_r ?_
      refine s_lv [] rfl ?_
      exact hx3 ()
    · refine s_aload_n C dX2_tellOutputs_10 11 rfl 0 rfl ?_
      refine s_aload_n C dX2_tellOutputs_11 12 rfl 0 rfl ?_
      refine s_getR C hR fd_PatchCords_Panel_order (Or.inl q184) dX2_tellOutputs_12 15 rfl (fun x5 => ?_)
      refine s_iload_n C dX2_tellOutputs_15 16 rfl 1 rfl ?_
      refine s_iald C hR dX2_tellOutputs_16 17 rfl (fun x6 => ?_)
      refine s_call_r (rn_V (As := [.int x6]) C (ct_at hR hA (ct_on (ct_X2_part g TA a0 x6))) (rv_on C hR (q := vw_1) rfl) (lw_V q562 q563 q564 q102 q565) ⟨rfl, nv_X2_part⟩ ⟨by decide, by decide⟩ rfl (bl rfl) dX2_tellOutputs_17) 20 rfl (fun x7 => ?_)
      refine s_astore_n C dX2_tellOutputs_20 rfl (by decide) 21 rfl [(2, .ref x7), (0, .ref a0), (1, .int s1)] rfl ?_
      refine s_aload_n C dX2_tellOutputs_21 22 rfl 1 rfl ?_
      refine s_aload_n C dX2_tellOutputs_22 23 rfl 0 rfl ?_
      refine s_call_v (rn_V (As := [.ref x7]) C (ct_at hR hA (ct_on (ct_X2_tellInputs g TA a0 x7))) (rv_on C hR (q := vw_1) rfl) (lw_V q601 q603 qs7 q102 q604) ⟨rfl, nv_X2_tellInputs⟩ ⟨by decide, by decide⟩ rfl (bl rfl) dX2_tellOutputs_23) 26 rfl ?_
      refine s_aload_n C dX2_tellOutputs_26 27 rfl 1 rfl ?_
      refine s_getR C hR fd_PatchCords_Panel_outputs (Or.inl q185) dX2_tellOutputs_27 30 rfl (fun x9 => ?_)
      refine s_aload_n C dX2_tellOutputs_30 31 rfl 1 rfl ?_
      refine s_getR C hR fd_PatchCords_Panel_order (Or.inl q184) dX2_tellOutputs_31 34 rfl (fun x10 => ?_)
      refine s_iload_n C dX2_tellOutputs_34 35 rfl 2 rfl ?_
      refine s_iald C hR dX2_tellOutputs_35 36 rfl (fun x11 => ?_)
      refine s_aload_n C dX2_tellOutputs_36 37 rfl 0 rfl ?_
      refine s_aload_n C dX2_tellOutputs_37 38 rfl 1 rfl ?_
      refine s_getR C hR fd_PatchCords_Panel_in (Or.inl q187) dX2_tellOutputs_38 41 rfl (fun x12 => ?_)
      refine s_call_i (rn_D (by
          intro ci hci
          simp only [List.mem_cons, List.not_mem_nil, or_false] at hci
          rcases hci with rfl | rfl | rfl | rfl | rfl | rfl
          · exact (rn_U (As := [.ref x12]) C (ct_at hR hA (ct_on (ct_X12_raw g TA x7 x12))) (rv_on C hR (q := vw_2) rfl) q605 q607 (va_Decl.abs (C.k.2.1 _ q606 rfl)) (C.w _ q623) q624 q127 q625 ⟨by decide +kernel, by decide +kernel, (show (parseMethodDescriptor "([I)I").map (fun d => d.parameters.length) = some 1 by decide +kernel)⟩ ⟨by decide, by decide⟩ rfl (bl rfl) dX2_tellOutputs_41)
          · exact (rn_U (As := [.ref x12]) C (ct_at hR hA (ct_on (ct_X8_raw g TA x7 x12))) (rv_on C hR (q := vw_3) rfl) q605 q607 (va_Decl.abs (C.k.2.1 _ q606 rfl)) (C.w _ q611) q612 q123 q613 ⟨by decide +kernel, by decide +kernel, (show (parseMethodDescriptor "([I)I").map (fun d => d.parameters.length) = some 1 by decide +kernel)⟩ ⟨by decide, by decide⟩ rfl (bl rfl) dX2_tellOutputs_41)
          · exact (rn_U (As := [.ref x12]) C (ct_at hR hA (ct_on (ct_X9_raw g TA x7 x12))) (rv_on C hR (q := vw_4) rfl) q605 q607 (va_Decl.abs (C.k.2.1 _ q606 rfl)) (C.w _ q614) q615 q124 q616 ⟨by decide +kernel, by decide +kernel, (show (parseMethodDescriptor "([I)I").map (fun d => d.parameters.length) = some 1 by decide +kernel)⟩ ⟨by decide, by decide⟩ rfl (bl rfl) dX2_tellOutputs_41)
          · exact (rn_U (As := [.ref x12]) C (ct_at hR hA (ct_on (ct_X10_raw g TA x7 x12))) (rv_on C hR (q := vw_5) rfl) q605 q607 (va_Decl.abs (C.k.2.1 _ q606 rfl)) (C.w _ q617) q618 q125 q619 ⟨by decide +kernel, by decide +kernel, (show (parseMethodDescriptor "([I)I").map (fun d => d.parameters.length) = some 1 by decide +kernel)⟩ ⟨by decide, by decide⟩ rfl (bl rfl) dX2_tellOutputs_41)
          · exact (rn_U (As := [.ref x12]) C (ct_at hR hA (ct_on (ct_X6_raw g TA x7 x12))) (rv_on C hR (q := vw_6) rfl) q605 q607 (va_Decl.abs (C.k.2.1 _ q606 rfl)) (C.w _ q608) q609 q121 q610 ⟨by decide +kernel, by decide +kernel, (show (parseMethodDescriptor "([I)I").map (fun d => d.parameters.length) = some 1 by decide +kernel)⟩ ⟨by decide, by decide⟩ rfl (bl rfl) dX2_tellOutputs_41)
          · exact (rn_U (As := [.ref x12]) C (ct_at hR hA (ct_on (ct_X11_raw g TA x7 x12))) (rv_on C hR (q := vw_7) rfl) q605 q607 (va_Decl.abs (C.k.2.1 _ q606 rfl)) (C.w _ q620) q621 q126 q622 ⟨by decide +kernel, by decide +kernel, (show (parseMethodDescriptor "([I)I").map (fun d => d.parameters.length) = some 1 by decide +kernel)⟩ ⟨by decide, by decide⟩ rfl (bl rfl) dX2_tellOutputs_41))) 44 rfl (fun x13 => ?_)
      refine s_sipush (v := 10000) C dX2_tellOutputs_44 (by decide) 47 rfl ?_
      refine s_call_i (rn_SN (As := [.int x13, .int 10000]) C (ct_at hR hA (ct_X1_held g TA x13 10000)) q641 q642 q101 q643 nv_X1_held ⟨by decide, by decide⟩ rfl (bl rfl) dX2_tellOutputs_47) 50 rfl (fun x14 => ?_)
      refine s_iast C hR hA dX2_tellOutputs_50 51 rfl ?_
      refine s_iinc C dX2_tellOutputs_51 (s1 + 1) rfl 2 rfl (by decide) 54 rfl [(1, .int (s1 + 1)), (2, .ref x7), (0, .ref a0)] rfl ?_
      refine s_goto C dX2_tellOutputs_54 2 (by decide) ?_
      refine s_r ?_
      refine s_lv [2, 0] rfl ?_
      exact hk2 (s1 + 1)
theorem nv_X1_isWithin : yX1_isWithin.cls ≠ "java/lang/invoke/MethodHandle" ∧ yX1_isWithin.cls ≠ "java/lang/invoke/VarHandle" ∧ (parseMethodDescriptor yX1_isWithin.desc).map (fun d => d.parameters.length) = some 3 := by decide +kernel
theorem ct_X1_isWithin {l : Launch} (g : sm_G) (TA : Nat → Prop) (p0 : Int32) (p1 : Int32) (p2 : Int32) : sm_CT l g (so_R g TA) (so_A g TA) yX1_isWithin cX1_isWithin 3 (some .boolean) 0 0 [.int p0, .int p1, .int p2] em_i (f_X1_isWithin g p0 p1 p2) := by
  refine sm_of (own := "PatchCords") rfl rfl (bl rfl) (fun Y C hR hA hl hm => ?_)
  subst hl
  refine s_lv (L' := [(0, .int p0), (1, .int p1), (2, .int p2)]) [0, 1, 2] rfl ?_
  refine s_top ?_
  unfold f_X1_isWithin
  refine s_iload_n C dX1_isWithin_0 1 rfl 0 rfl ?_
  refine s_iload_n C dX1_isWithin_1 2 rfl 1 rfl ?_
  refine s_cut (J := 15) (LJ := (fun (v1 : Int32) => [])) (SJ := (fun (v1 : Int32) => [.int v1])) (fun v1 => ?_) (fun _ _ hK2 => ?_)
  · refine s_zb (fun h => ?_)
    exact s_iret C rfl (s_zn h) dX1_isWithin_15
  · refine s_icmp_lt C dX1_isWithin_2 14 5 (by decide) rfl ?_ ?_
    · refine s_iconst (v := 0) C dX1_isWithin_14 (by decide) 15 rfl ?_
      refine s_r ?_
      refine s_lv [] rfl ?_
      exact hK2 0
    · refine s_iload_n C dX1_isWithin_5 6 rfl 0 rfl ?_
      refine s_iload_n C dX1_isWithin_6 7 rfl 2 rfl ?_
      refine s_icmp_gt C dX1_isWithin_7 14 10 (by decide) rfl ?_ ?_
      · refine s_iconst (v := 0) C dX1_isWithin_14 (by decide) 15 rfl ?_
        refine s_r ?_
        refine s_lv [] rfl ?_
        exact hK2 0
      · refine s_iconst (v := 1) C dX1_isWithin_10 (by decide) 11 rfl ?_
        refine s_goto C dX1_isWithin_11 15 (by decide) ?_
        refine s_r ?_
        refine s_lv [] rfl ?_
        exact hK2 1
theorem nv_X5_isOverloaded : yX5_isOverloaded.cls ≠ "java/lang/invoke/MethodHandle" ∧ yX5_isOverloaded.cls ≠ "java/lang/invoke/VarHandle" ∧ (parseMethodDescriptor yX5_isOverloaded.desc).map (fun d => d.parameters.length) = some 1 := by decide +kernel
theorem ct_X5_isOverloaded {l : Launch} (g : sm_G) (TA : Nat → Prop) (a0 : Nat) (p0 : Nat) : sm_CT l g (so_R g TA) (so_A g TA) yX5_isOverloaded cX5_isOverloaded 2 (some .boolean) 4 86 [.ref a0, .ref p0] em_i (f_X5_isOverloaded g a0 p0) := by
  refine sm_of (own := "PatchCords$Part") rfl rfl (bl rfl) (fun Y C hR hA hl hm => ?_)
  subst hl
  refine s_lv (L' := [(0, .ref a0), (1, .ref p0)]) [0, 1] rfl ?_
  refine s_top ?_
  unfold f_X5_isOverloaded
  refine s_aload_n C dX5_isOverloaded_0 1 rfl 0 rfl ?_
  refine s_aload_n C dX5_isOverloaded_1 2 rfl 1 rfl ?_
  refine s_call_i (rn_D (by
      intro ci hci
      simp only [List.mem_cons, List.not_mem_nil, or_false] at hci
      rcases hci with rfl | rfl | rfl | rfl | rfl | rfl
      · exact (rn_U (As := [.ref p0]) C (ct_at hR hA (ct_on (ct_X12_raw g TA a0 p0))) (rv_on C hR (q := vw_2) rfl) q662 q607 (va_Decl.abs (C.k.2.1 _ q606 rfl)) (C.w _ q623) q624 q127 q625 ⟨by decide +kernel, by decide +kernel, (show (parseMethodDescriptor "([I)I").map (fun d => d.parameters.length) = some 1 by decide +kernel)⟩ ⟨by decide, by decide⟩ rfl (bl rfl) dX5_isOverloaded_2)
      · exact (rn_U (As := [.ref p0]) C (ct_at hR hA (ct_on (ct_X8_raw g TA a0 p0))) (rv_on C hR (q := vw_3) rfl) q662 q607 (va_Decl.abs (C.k.2.1 _ q606 rfl)) (C.w _ q611) q612 q123 q613 ⟨by decide +kernel, by decide +kernel, (show (parseMethodDescriptor "([I)I").map (fun d => d.parameters.length) = some 1 by decide +kernel)⟩ ⟨by decide, by decide⟩ rfl (bl rfl) dX5_isOverloaded_2)
      · exact (rn_U (As := [.ref p0]) C (ct_at hR hA (ct_on (ct_X9_raw g TA a0 p0))) (rv_on C hR (q := vw_4) rfl) q662 q607 (va_Decl.abs (C.k.2.1 _ q606 rfl)) (C.w _ q614) q615 q124 q616 ⟨by decide +kernel, by decide +kernel, (show (parseMethodDescriptor "([I)I").map (fun d => d.parameters.length) = some 1 by decide +kernel)⟩ ⟨by decide, by decide⟩ rfl (bl rfl) dX5_isOverloaded_2)
      · exact (rn_U (As := [.ref p0]) C (ct_at hR hA (ct_on (ct_X10_raw g TA a0 p0))) (rv_on C hR (q := vw_5) rfl) q662 q607 (va_Decl.abs (C.k.2.1 _ q606 rfl)) (C.w _ q617) q618 q125 q619 ⟨by decide +kernel, by decide +kernel, (show (parseMethodDescriptor "([I)I").map (fun d => d.parameters.length) = some 1 by decide +kernel)⟩ ⟨by decide, by decide⟩ rfl (bl rfl) dX5_isOverloaded_2)
      · exact (rn_U (As := [.ref p0]) C (ct_at hR hA (ct_on (ct_X6_raw g TA a0 p0))) (rv_on C hR (q := vw_6) rfl) q662 q607 (va_Decl.abs (C.k.2.1 _ q606 rfl)) (C.w _ q608) q609 q121 q610 ⟨by decide +kernel, by decide +kernel, (show (parseMethodDescriptor "([I)I").map (fun d => d.parameters.length) = some 1 by decide +kernel)⟩ ⟨by decide, by decide⟩ rfl (bl rfl) dX5_isOverloaded_2)
      · exact (rn_U (As := [.ref p0]) C (ct_at hR hA (ct_on (ct_X11_raw g TA a0 p0))) (rv_on C hR (q := vw_7) rfl) q662 q607 (va_Decl.abs (C.k.2.1 _ q606 rfl)) (C.w _ q620) q621 q126 q622 ⟨by decide +kernel, by decide +kernel, (show (parseMethodDescriptor "([I)I").map (fun d => d.parameters.length) = some 1 by decide +kernel)⟩ ⟨by decide, by decide⟩ rfl (bl rfl) dX5_isOverloaded_2))) 5 rfl (fun x1 => ?_)
  refine s_sipush (v := (-10000)) C dX5_isOverloaded_5 (by decide) 8 rfl ?_
  refine s_sipush (v := 10000) C dX5_isOverloaded_8 (by decide) 11 rfl ?_
  refine s_call_i (rn_SN (As := [.int x1, .int (-10000), .int 10000]) C (ct_at hR hA (ct_X1_isWithin g TA x1 (-10000) 10000)) q663 q664 q101 q665 nv_X1_isWithin ⟨by decide, by decide⟩ rfl (bl rfl) dX5_isOverloaded_11) 14 rfl (fun x2 => ?_)
  refine s_cut (J := 22) (LJ := (fun (v3 : Int32) => [])) (SJ := (fun (v3 : Int32) => [.int v3])) (fun v3 => ?_) (fun _ _ hK4 => ?_)
  · refine s_zb (fun h => ?_)
    exact s_iret C rfl (s_zn h) dX5_isOverloaded_22
  · refine s_if_ne C dX5_isOverloaded_14 21 17 (by decide) rfl ?_ ?_
    · refine s_iconst (v := 1) C dX5_isOverloaded_17 (by decide) 18 rfl ?_
      refine s_goto C dX5_isOverloaded_18 22 (by decide) ?_
      refine s_r ?_
      refine s_lv [] rfl ?_
      exact hK4 1
    · refine s_iconst (v := 0) C dX5_isOverloaded_21 (by decide) 22 rfl ?_
      refine s_r ?_
      refine s_lv [] rfl ?_
      exact hK4 0
theorem nv_X8_isOverloaded : yX8_isOverloaded.cls ≠ "java/lang/invoke/MethodHandle" ∧ yX8_isOverloaded.cls ≠ "java/lang/invoke/VarHandle" ∧ (parseMethodDescriptor yX8_isOverloaded.desc).map (fun d => d.parameters.length) = some 1 := by decide +kernel
theorem ct_X8_isOverloaded {l : Launch} (g : sm_G) (TA : Nat → Prop) (a0 : Nat) (p0 : Nat) : sm_CT l g (so_R g TA) (so_A g TA) yX8_isOverloaded cX8_isOverloaded 2 (some .boolean) 1 13 [.ref a0, .ref p0] em_i (f_X8_isOverloaded g a0 p0) := by
  refine sm_of (own := "PatchCords$Integrator") rfl rfl (bl rfl) (fun Y C hR hA hl hm => ?_)
  subst hl
  refine s_lv (L' := [(0, .ref a0)]) [0] rfl ?_
  refine s_top ?_
  unfold f_X8_isOverloaded
  refine s_aload_n C dX8_isOverloaded_0 1 rfl 0 rfl ?_
  refine s_getI C hR fd_PatchCords_Integrator_charge (Or.inl q367) dX8_isOverloaded_1 4 rfl (fun x1 => ?_)
  refine s_abs C q653 q654 q129 q655 (by decide) (bl rfl) dX8_isOverloaded_4 7 rfl ?_
  refine s_ldc (v := 10000000) C q656 dX8_isOverloaded_7 9 rfl ?_
  refine s_cut (J := 17) (LJ := (fun (v2 : Int32) => [])) (SJ := (fun (v2 : Int32) => [.int v2])) (fun v2 => ?_) (fun _ _ hK3 => ?_)
  · refine s_zb (fun h => ?_)
    exact s_iret C rfl (s_zn h) dX8_isOverloaded_17
  · refine s_icmp_ne C dX8_isOverloaded_9 16 12 (by decide) rfl ?_ ?_
    · refine s_iconst (v := 1) C dX8_isOverloaded_12 (by decide) 13 rfl ?_
      refine s_goto C dX8_isOverloaded_13 17 (by decide) ?_
      refine s_r ?_
      refine s_lv [] rfl ?_
      exact hK3 1
    · refine s_iconst (v := 0) C dX8_isOverloaded_16 (by decide) 17 rfl ?_
      refine s_r ?_
      refine s_lv [] rfl ?_
      exact hK3 0
theorem nv_X2_overloaded : yX2_overloaded.cls ≠ "java/lang/invoke/MethodHandle" ∧ yX2_overloaded.cls ≠ "java/lang/invoke/VarHandle" ∧ (parseMethodDescriptor yX2_overloaded.desc).map (fun d => d.parameters.length) = some 0 := by decide +kernel
theorem ct_X2_overloaded {l : Launch} (g : sm_G) (TA : Nat → Prop) (a0 : Nat) : sm_CT l g (so_R g TA) (so_A g TA) yX2_overloaded cX2_overloaded 3 (some .int) 5 108 [.ref a0] em_i (f_X2_overloaded g a0) := by
  refine sm_of (own := "PatchCords$Panel") rfl rfl (bl rfl) (fun Y C hR hA hl hm => ?_)
  subst hl
  refine s_lv (L' := [(0, .ref a0)]) [0] rfl ?_
  refine s_top ?_
  unfold f_X2_overloaded
  refine s_aload_n C dX2_overloaded_0 1 rfl 0 rfl ?_
  refine s_call_v (rn_V (As := []) C (ct_at hR hA (ct_on (ct_X2_tellOutputs g TA a0))) (rv_on C hR (q := vw_1) rfl) (lw_V q597 q599 qs6 q102 q600) ⟨rfl, nv_X2_tellOutputs⟩ ⟨by decide, by decide⟩ rfl (bl rfl) dX2_overloaded_1) 4 rfl ?_
  refine s_iconst (v := 0) C dX2_overloaded_4 (by decide) 5 rfl ?_
  refine s_istore_n C dX2_overloaded_5 rfl (by decide) 6 rfl [(1, .int 0), (0, .ref a0)] rfl ?_
  refine s_iconst (v := 0) C dX2_overloaded_6 (by decide) 7 rfl ?_
  refine s_istore_n C dX2_overloaded_7 rfl (by decide) 8 rfl [(2, .int 0), (1, .int 0), (0, .ref a0)] rfl ?_
  refine s_lv [2, 1, 0] rfl ?_
  refine s_loop (fun (s2 : Int32 × Int32) => [(0, .ref a0), (1, .int s2.1), (2, .int s2.2)]) (fun (v14 : Int32) => [(1, .int v14)]) 56 (0, 0) rfl (fun v14 => ?_) (fun _ s2 hk3 hx4 => ?_)
  · refine s_iload_n C dX2_overloaded_56 57 rfl 0 rfl ?_
    exact s_iret C rfl rfl dX2_overloaded_57
  · refine s_iload_n C dX2_overloaded_8 9 rfl 2 rfl ?_
    refine s_aload_n C dX2_overloaded_9 10 rfl 0 rfl ?_
    refine s_call_i (rn_V (As := []) C (ct_at hR hA (ct_on (ct_X2_size g TA a0))) (rv_on C hR (q := vw_1) rfl) (lw_V q561 q526 q527 q102 q528) ⟨rfl, nv_X2_size⟩ ⟨by decide, by decide⟩ rfl (bl rfl) dX2_overloaded_10) 13 rfl (fun x5 => ?_)
    refine s_icmp_ge C dX2_overloaded_13 56 16 (by decide) rfl ?_ ?_
    · refine s_r ?_
      refine s_lv [1] rfl ?_
      exact hx4 s2.1
    · refine s_aload_n C dX2_overloaded_16 17 rfl 0 rfl ?_
      refine s_aload_n C dX2_overloaded_17 18 rfl 0 rfl ?_
      refine s_iload_n C dX2_overloaded_18 19 rfl 2 rfl ?_
      refine s_call_r (rn_V (As := [.int s2.2]) C (ct_at hR hA (ct_on (ct_X2_part g TA a0 s2.2))) (rv_on C hR (q := vw_1) rfl) (lw_V q562 q563 q564 q102 q565) ⟨rfl, nv_X2_part⟩ ⟨by decide, by decide⟩ rfl (bl rfl) dX2_overloaded_19) 22 rfl (fun x6 => ?_)
      refine s_call_v (rn_V (As := [.ref x6]) C (ct_at hR hA (ct_on (ct_X2_tellInputs g TA a0 x6))) (rv_on C hR (q := vw_1) rfl) (lw_V q601 q603 qs7 q102 q604) ⟨rfl, nv_X2_tellInputs⟩ ⟨by decide, by decide⟩ rfl (bl rfl) dX2_overloaded_22) 25 rfl ?_
      refine s_iload_n C dX2_overloaded_25 26 rfl 1 rfl ?_
      refine s_aload_n C dX2_overloaded_26 27 rfl 0 rfl ?_
      refine s_iload_n C dX2_overloaded_27 28 rfl 2 rfl ?_
      refine s_call_r (rn_V (As := [.int s2.2]) C (ct_at hR hA (ct_on (ct_X2_part g TA a0 s2.2))) (rv_on C hR (q := vw_1) rfl) (lw_V q562 q563 q564 q102 q565) ⟨rfl, nv_X2_part⟩ ⟨by decide, by decide⟩ rfl (bl rfl) dX2_overloaded_28) 31 rfl (fun x8 => ?_)
      refine s_aload_n C dX2_overloaded_31 32 rfl 0 rfl ?_
      refine s_getR C hR fd_PatchCords_Panel_in (Or.inl q187) dX2_overloaded_32 35 rfl (fun x9 => ?_)
      refine s_call_i (rn_D (by
          intro ci hci
          simp only [List.mem_cons, List.not_mem_nil, or_false] at hci
          rcases hci with rfl | rfl | rfl | rfl | rfl | rfl
          · exact (rn_U (As := [.ref x9]) C (ct_at hR hA (ct_on (ct_X5_isOverloaded g TA x8 x9))) (rv_on C hR (q := vw_2) rfl) q646 q648 (va_Decl.of (C.w _ q647) (C.w _ q661)) (C.w _ q660) q647 q120 q661 ⟨by decide +kernel, by decide +kernel, (show (parseMethodDescriptor "([I)Z").map (fun d => d.parameters.length) = some 1 by decide +kernel)⟩ ⟨by decide, by decide⟩ rfl (bl rfl) dX2_overloaded_35)
          · exact (rn_U (As := [.ref x9]) C (ct_at hR hA (ct_on (ct_X8_isOverloaded g TA x8 x9))) (rv_on C hR (q := vw_3) rfl) q646 q648 (va_Decl.of (C.w _ q647) (C.w _ q661)) (C.w _ q650) q651 q123 q652 ⟨by decide +kernel, by decide +kernel, (show (parseMethodDescriptor "([I)Z").map (fun d => d.parameters.length) = some 1 by decide +kernel)⟩ ⟨by decide, by decide⟩ rfl (bl rfl) dX2_overloaded_35)
          · exact (rn_U (As := [.ref x9]) C (ct_at hR hA (ct_on (ct_X5_isOverloaded g TA x8 x9))) (rv_on C hR (q := vw_4) rfl) q646 q648 (va_Decl.of (C.w _ q647) (C.w _ q661)) (C.w _ q657) q647 q120 q661 ⟨by decide +kernel, by decide +kernel, (show (parseMethodDescriptor "([I)Z").map (fun d => d.parameters.length) = some 1 by decide +kernel)⟩ ⟨by decide, by decide⟩ rfl (bl rfl) dX2_overloaded_35)
          · exact (rn_U (As := [.ref x9]) C (ct_at hR hA (ct_on (ct_X5_isOverloaded g TA x8 x9))) (rv_on C hR (q := vw_5) rfl) q646 q648 (va_Decl.of (C.w _ q647) (C.w _ q661)) (C.w _ q658) q647 q120 q661 ⟨by decide +kernel, by decide +kernel, (show (parseMethodDescriptor "([I)Z").map (fun d => d.parameters.length) = some 1 by decide +kernel)⟩ ⟨by decide, by decide⟩ rfl (bl rfl) dX2_overloaded_35)
          · exact (rn_U (As := [.ref x9]) C (ct_at hR hA (ct_on (ct_X5_isOverloaded g TA x8 x9))) (rv_on C hR (q := vw_6) rfl) q646 q648 (va_Decl.of (C.w _ q647) (C.w _ q661)) (C.w _ q649) q647 q120 q661 ⟨by decide +kernel, by decide +kernel, (show (parseMethodDescriptor "([I)Z").map (fun d => d.parameters.length) = some 1 by decide +kernel)⟩ ⟨by decide, by decide⟩ rfl (bl rfl) dX2_overloaded_35)
          · exact (rn_U (As := [.ref x9]) C (ct_at hR hA (ct_on (ct_X5_isOverloaded g TA x8 x9))) (rv_on C hR (q := vw_7) rfl) q646 q648 (va_Decl.of (C.w _ q647) (C.w _ q661)) (C.w _ q659) q647 q120 q661 ⟨by decide +kernel, by decide +kernel, (show (parseMethodDescriptor "([I)Z").map (fun d => d.parameters.length) = some 1 by decide +kernel)⟩ ⟨by decide, by decide⟩ rfl (bl rfl) dX2_overloaded_35))) 38 rfl (fun x10 => ?_)
      refine s_cut (J := 48) (LJ := (fun (v11 : Int32) => [(0, .ref a0), (2, .int s2.2)])) (SJ := (fun (v11 : Int32) => [.int v11, .int s2.1])) (fun v11 => ?_) (fun _ _ hK12 => ?_)
      · refine s_ior C dX2_overloaded_48 49 rfl ?_
        refine s_topi (fun x13 => ?_)
        refine s_istore_n C dX2_overloaded_49 rfl (by decide) 50 rfl [(1, .int x13), (0, .ref a0), (2, .int s2.2)] rfl ?_
        refine s_iinc C dX2_overloaded_50 (s2.2 + 1) rfl 2 rfl (by decide) 53 rfl [(2, .int (s2.2 + 1)), (1, .int x13), (0, .ref a0)] rfl ?_
        refine s_goto C dX2_overloaded_53 8 (by decide) ?_
        refine s_r ?_
        refine s_lv [2, 1, 0] rfl ?_
        exact hk3 (x13, s2.2 + 1)
      · refine s_if_eq C dX2_overloaded_38 47 41 (by decide) rfl ?_ ?_
        · refine s_iconst (v := 0) C dX2_overloaded_47 (by decide) 48 rfl ?_
          refine s_r ?_
          refine s_lv [0, 2] rfl ?_
          exact hK12 0
        · refine s_iconst (v := 1) C dX2_overloaded_41 (by decide) 42 rfl ?_
          refine s_iload_n C dX2_overloaded_42 43 rfl 2 rfl ?_
          refine s_ishl C dX2_overloaded_43 44 rfl ?_
          refine s_goto C dX2_overloaded_44 48 (by decide) ?_
          refine s_r ?_
          refine s_lv [0, 2] rfl ?_
          exact hK12 ((1 : Int32) <<< (s2.2 &&& 31))
theorem nv_X1_overloaded : yX1_overloaded.cls ≠ "java/lang/invoke/MethodHandle" ∧ yX1_overloaded.cls ≠ "java/lang/invoke/VarHandle" ∧ (parseMethodDescriptor yX1_overloaded.desc).map (fun d => d.parameters.length) = some 0 := by decide +kernel
theorem ct_X1_overloaded {l : Launch} (g : sm_G) (TA : Nat → Prop) (a0 : Nat) : sm_CT l g (so_R g TA) (so_A g TA) yX1_overloaded cX1_overloaded 1 (some .int) 6 130 [.ref a0] em_i (f_X1_overloaded g a0) := by
  refine sm_of (own := "PatchCords") rfl rfl (bl rfl) (fun Y C hR hA hl hm => ?_)
  subst hl
  refine s_lv (L' := [(0, .ref a0)]) [0] rfl ?_
  refine s_top ?_
  unfold f_X1_overloaded
  refine s_aload_n C dX1_overloaded_0 1 rfl 0 rfl ?_
  refine s_getR C hR fd_PatchCords_panel (Or.inl q273) dX1_overloaded_1 4 rfl (fun x1 => ?_)
  refine s_call_i (rn_V (As := []) C (ct_at hR hA (ct_on (ct_X2_overloaded g TA x1))) (rv_on C hR (q := vw_1) rfl) (lw_V q593 q594 q595 q102 q596) ⟨rfl, nv_X2_overloaded⟩ ⟨by decide, by decide⟩ rfl (bl rfl) dX1_overloaded_4) 7 rfl (fun x2 => ?_)
  exact s_iret C rfl rfl dX1_overloaded_7
theorem nv_X5_feeders : yX5_feeders.cls ≠ "java/lang/invoke/MethodHandle" ∧ yX5_feeders.cls ≠ "java/lang/invoke/VarHandle" ∧ (parseMethodDescriptor yX5_feeders.desc).map (fun d => d.parameters.length) = some 0 := by decide +kernel
theorem ct_X5_feeders {l : Launch} (g : sm_G) (TA : Nat → Prop) (a0 : Nat) : sm_CT l g (so_R g TA) (so_A g TA) yX5_feeders cX5_feeders 3 (some .int) 0 0 [.ref a0] em_i (f_X5_feeders g a0) := by
  refine sm_of (own := "PatchCords$Part") rfl rfl (bl rfl) (fun Y C hR hA hl hm => ?_)
  subst hl
  refine s_lv (L' := [(0, .ref a0)]) [0] rfl ?_
  refine s_top ?_
  unfold f_X5_feeders
  refine s_iconst (v := 0) C dX5_feeders_0 (by decide) 1 rfl ?_
  refine s_istore_n C dX5_feeders_1 rfl (by decide) 2 rfl [(1, .int 0), (0, .ref a0)] rfl ?_
  refine s_iconst (v := 0) C dX5_feeders_2 (by decide) 3 rfl ?_
  refine s_istore_n C dX5_feeders_3 rfl (by decide) 4 rfl [(2, .int 0), (1, .int 0), (0, .ref a0)] rfl ?_
  refine s_lv [2, 1, 0] rfl ?_
  refine s_loop (fun (s1 : Int32 × Int32) => [(0, .ref a0), (1, .int s1.1), (2, .int s1.2)]) (fun (v13 : Int32) => [(1, .int v13)]) 44 (0, 0) rfl (fun v13 => ?_) (fun _ s1 hk2 hx3 => ?_)
  · refine s_iload_n C dX5_feeders_44 45 rfl 0 rfl ?_
    exact s_iret C rfl rfl dX5_feeders_45
  · refine s_iload_n C dX5_feeders_4 5 rfl 2 rfl ?_
    refine s_aload_n C dX5_feeders_5 6 rfl 0 rfl ?_
    refine s_getR C hR fd_PatchCords_Part_cords (Or.inl q340) dX5_feeders_6 9 rfl (fun x4 => ?_)
    refine s_alen C hR dX5_feeders_9 10 rfl (fun x5 => ?_)
    refine s_icmp_ge C dX5_feeders_10 44 13 (by decide) rfl ?_ ?_
    · refine s_r ?_
      refine s_lv [1] rfl ?_
      exact hx3 s1.1
    · refine s_iload_n C dX5_feeders_13 14 rfl 1 rfl ?_
      refine s_aload_n C dX5_feeders_14 15 rfl 0 rfl ?_
      refine s_getR C hR fd_PatchCords_Part_cords (Or.inl q340) dX5_feeders_15 18 rfl (fun x6 => ?_)
      refine s_iload_n C dX5_feeders_18 19 rfl 2 rfl ?_
      refine s_iald C hR dX5_feeders_19 20 rfl (fun x7 => ?_)
      refine s_iconst (v := (-1)) C dX5_feeders_20 (by decide) 21 rfl ?_
      refine s_cut (J := 36) (LJ := (fun (v8 : Int32) => [(0, .ref a0), (2, .int s1.2)])) (SJ := (fun (v8 : Int32) => [.int v8, .int s1.1])) (fun v8 => ?_) (fun _ _ hK9 => ?_)
      · refine s_ior C dX5_feeders_36 37 rfl ?_
        refine s_topi (fun x12 => ?_)
        refine s_istore_n C dX5_feeders_37 rfl (by decide) 38 rfl [(1, .int x12), (0, .ref a0), (2, .int s1.2)] rfl ?_
        refine s_iinc C dX5_feeders_38 (s1.2 + 1) rfl 2 rfl (by decide) 41 rfl [(2, .int (s1.2 + 1)), (1, .int x12), (0, .ref a0)] rfl ?_
        refine s_goto C dX5_feeders_41 4 (by decide) ?_
        refine s_r ?_
        refine s_lv [2, 1, 0] rfl ?_
        exact hk2 (x12, s1.2 + 1)
      · refine s_icmp_ne C dX5_feeders_21 28 24 (by decide) rfl ?_ ?_
        · refine s_iconst (v := 0) C dX5_feeders_24 (by decide) 25 rfl ?_
          refine s_goto C dX5_feeders_25 36 (by decide) ?_
          refine s_r ?_
          refine s_lv [0, 2] rfl ?_
          exact hK9 0
        · refine s_iconst (v := 1) C dX5_feeders_28 (by decide) 29 rfl ?_
          refine s_aload_n C dX5_feeders_29 30 rfl 0 rfl ?_
          refine s_getR C hR fd_PatchCords_Part_cords (Or.inl q340) dX5_feeders_30 33 rfl (fun x10 => ?_)
          refine s_iload_n C dX5_feeders_33 34 rfl 2 rfl ?_
          refine s_iald C hR dX5_feeders_34 35 rfl (fun x11 => ?_)
          refine s_ishl C dX5_feeders_35 36 rfl ?_
          refine s_r ?_
          refine s_lv [0, 2] rfl ?_
          exact hK9 ((1 : Int32) <<< (x11 &&& 31))
theorem nv_X2_dependsOn : yX2_dependsOn.cls ≠ "java/lang/invoke/MethodHandle" ∧ yX2_dependsOn.cls ≠ "java/lang/invoke/VarHandle" ∧ (parseMethodDescriptor yX2_dependsOn.desc).map (fun d => d.parameters.length) = some 1 := by decide +kernel
theorem ct_X2_dependsOn {l : Launch} (g : sm_G) (TA : Nat → Prop) (a0 : Nat) (p0 : Int32) : sm_CT l g (so_R g TA) (so_A g TA) yX2_dependsOn cX2_dependsOn 5 (some .int) 4 85 [.ref a0, .int p0] em_i (f_X2_dependsOn g a0 p0) := by
  refine sm_of (own := "PatchCords$Panel") rfl rfl (bl rfl) (fun Y C hR hA hl hm => ?_)
  subst hl
  refine s_lv (L' := [(0, .ref a0), (1, .int p0)]) [0, 1] rfl ?_
  refine s_top ?_
  unfold f_X2_dependsOn
  refine s_aload_n C dX2_dependsOn_0 1 rfl 0 rfl ?_
  refine s_iload_n C dX2_dependsOn_1 2 rfl 1 rfl ?_
  refine s_call_r (rn_V (As := [.int p0]) C (ct_at hR hA (ct_on (ct_X2_part g TA a0 p0))) (rv_on C hR (q := vw_1) rfl) (lw_V q562 q563 q564 q102 q565) ⟨rfl, nv_X2_part⟩ ⟨by decide, by decide⟩ rfl (bl rfl) dX2_dependsOn_2) 5 rfl (fun x1 => ?_)
  refine s_call_i (rn_D (by
      intro ci hci
      simp only [List.mem_cons, List.not_mem_nil, or_false] at hci
      rcases hci with rfl | rfl | rfl | rfl | rfl | rfl
      · exact (rn_U (As := []) C (ct_at hR hA (ct_on (ct_X5_feeders g TA x1))) (rv_on C hR (q := vw_2) rfl) q678 q680 (va_Decl.of (C.w _ q679) (C.w _ q687)) (C.w _ q686) q679 q120 q687 ⟨by decide +kernel, by decide +kernel, (show (parseMethodDescriptor "()I").map (fun d => d.parameters.length) = some 0 by decide +kernel)⟩ ⟨by decide, by decide⟩ rfl (bl rfl) dX2_dependsOn_5)
      · exact (rn_U (As := []) C (ct_at hR hA (ct_on (ct_X5_feeders g TA x1))) (rv_on C hR (q := vw_3) rfl) q678 q680 (va_Decl.of (C.w _ q679) (C.w _ q687)) (C.w _ q682) q679 q120 q687 ⟨by decide +kernel, by decide +kernel, (show (parseMethodDescriptor "()I").map (fun d => d.parameters.length) = some 0 by decide +kernel)⟩ ⟨by decide, by decide⟩ rfl (bl rfl) dX2_dependsOn_5)
      · exact (rn_U (As := []) C (ct_at hR hA (ct_on (ct_X5_feeders g TA x1))) (rv_on C hR (q := vw_4) rfl) q678 q680 (va_Decl.of (C.w _ q679) (C.w _ q687)) (C.w _ q683) q679 q120 q687 ⟨by decide +kernel, by decide +kernel, (show (parseMethodDescriptor "()I").map (fun d => d.parameters.length) = some 0 by decide +kernel)⟩ ⟨by decide, by decide⟩ rfl (bl rfl) dX2_dependsOn_5)
      · exact (rn_U (As := []) C (ct_at hR hA (ct_on (ct_X5_feeders g TA x1))) (rv_on C hR (q := vw_5) rfl) q678 q680 (va_Decl.of (C.w _ q679) (C.w _ q687)) (C.w _ q684) q679 q120 q687 ⟨by decide +kernel, by decide +kernel, (show (parseMethodDescriptor "()I").map (fun d => d.parameters.length) = some 0 by decide +kernel)⟩ ⟨by decide, by decide⟩ rfl (bl rfl) dX2_dependsOn_5)
      · exact (rn_U (As := []) C (ct_at hR hA (ct_on (ct_X5_feeders g TA x1))) (rv_on C hR (q := vw_6) rfl) q678 q680 (va_Decl.of (C.w _ q679) (C.w _ q687)) (C.w _ q681) q679 q120 q687 ⟨by decide +kernel, by decide +kernel, (show (parseMethodDescriptor "()I").map (fun d => d.parameters.length) = some 0 by decide +kernel)⟩ ⟨by decide, by decide⟩ rfl (bl rfl) dX2_dependsOn_5)
      · exact (rn_U (As := []) C (ct_at hR hA (ct_on (ct_X5_feeders g TA x1))) (rv_on C hR (q := vw_7) rfl) q678 q680 (va_Decl.of (C.w _ q679) (C.w _ q687)) (C.w _ q685) q679 q120 q687 ⟨by decide +kernel, by decide +kernel, (show (parseMethodDescriptor "()I").map (fun d => d.parameters.length) = some 0 by decide +kernel)⟩ ⟨by decide, by decide⟩ rfl (bl rfl) dX2_dependsOn_5))) 8 rfl (fun x2 => ?_)
  refine s_istore_n C dX2_dependsOn_8 rfl (by decide) 9 rfl [(2, .int x2), (0, .ref a0), (1, .int p0)] rfl ?_
  refine s_iconst (v := 0) C dX2_dependsOn_9 (by decide) 10 rfl ?_
  refine s_istore_n C dX2_dependsOn_10 rfl (by decide) 11 rfl [(3, .int 0), (2, .int x2), (0, .ref a0), (1, .int p0)] rfl ?_
  refine s_lv [2, 1, 0] rfl ?_
  refine s_loop (fun (s3 : Int32 × Int32) => [(0, .ref a0), (2, .int s3.1), (3, .int s3.2)]) (fun (v17 : Int32) => [(2, .int v17)]) 64 (x2, 0) rfl (fun v17 => ?_) (fun _ s3 hk4 hx5 => ?_)
  · refine s_iload_n C dX2_dependsOn_64 65 rfl 0 rfl ?_
    exact s_iret C rfl rfl dX2_dependsOn_65
  · refine s_iload_n C dX2_dependsOn_11 12 rfl 1 rfl ?_
    refine s_iload_n C dX2_dependsOn_12 13 rfl 2 rfl ?_
    refine s_icmp_eq C dX2_dependsOn_13 64 16 (by decide) rfl ?_ ?_
    · refine s_r ?_
      refine s_lv [1] rfl ?_
      exact hx5 s3.1
    · refine s_iload_n C dX2_dependsOn_16 17 rfl 1 rfl ?_
      refine s_istore_n C dX2_dependsOn_17 rfl (by decide) 18 rfl [(3, .int s3.1), (0, .ref a0), (2, .int s3.1)] rfl ?_
      refine s_iconst (v := 0) C dX2_dependsOn_18 (by decide) 19 rfl ?_
      refine s_istore C dX2_dependsOn_19 (by decide) 21 rfl [(4, .int 0), (3, .int s3.1), (0, .ref a0), (2, .int s3.1)] rfl ?_
      refine s_lv [2, 3, 1, 0] rfl ?_
      refine s_loop (fun (s6 : Int32 × Int32) => [(0, .ref a0), (2, .int s6.1), (3, .int s3.1), (4, .int s6.2)]) (fun (v16 : Int32) => [(0, .ref a0), (2, .int v16), (3, .int s3.1)]) 61 (s3.1, 0) rfl (fun v16 => ?_) (fun _ s6 hk7 hx8 => ?_)
      · refine s_goto C dX2_dependsOn_61 11 (by decide) ?_
        refine s_r ?_
        refine s_lv [0, 1, 2] rfl ?_
        exact hk4 (v16, s3.1)
      · refine s_iload C dX2_dependsOn_21 23 rfl 3 rfl ?_
        refine s_aload_n C dX2_dependsOn_23 24 rfl 0 rfl ?_
        refine s_call_i (rn_V (As := []) C (ct_at hR hA (ct_on (ct_X2_size g TA a0))) (rv_on C hR (q := vw_1) rfl) (lw_V q561 q526 q527 q102 q528) ⟨rfl, nv_X2_size⟩ ⟨by decide, by decide⟩ rfl (bl rfl) dX2_dependsOn_24) 27 rfl (fun x9 => ?_)
        refine s_icmp_ge C dX2_dependsOn_27 61 30 (by decide) rfl ?_ ?_
        · refine s_r ?_
          refine s_lv [0, 1, 2] rfl ?_
          exact hx8 s6.1
        · refine s_iload_n C dX2_dependsOn_30 31 rfl 1 rfl ?_
          refine s_iload_n C dX2_dependsOn_31 32 rfl 2 rfl ?_
          refine s_iload C dX2_dependsOn_32 34 rfl 3 rfl ?_
          refine s_call_i (rn_SN (As := [.int s3.1, .int s6.2]) C (ct_at hR hA (ct_X1_has g TA s3.1 s6.2)) q688 q639 q101 q640 nv_X1_has ⟨by decide, by decide⟩ rfl (bl rfl) dX2_dependsOn_34) 37 rfl (fun x10 => ?_)
          refine s_cut (J := 53) (LJ := (fun (v11 : Int32) => [(0, .ref a0), (3, .int s3.1), (4, .int s6.2)])) (SJ := (fun (v11 : Int32) => [.int v11, .int s6.1])) (fun v11 => ?_) (fun _ _ hK12 => ?_)
          · refine s_ior C dX2_dependsOn_53 54 rfl ?_
            refine s_topi (fun x15 => ?_)
            refine s_istore_n C dX2_dependsOn_54 rfl (by decide) 55 rfl [(2, .int x15), (0, .ref a0), (3, .int s3.1), (4, .int s6.2)] rfl ?_
            refine s_iinc C dX2_dependsOn_55 (s6.2 + 1) rfl 3 rfl (by decide) 58 rfl [(4, .int (s6.2 + 1)), (2, .int x15), (0, .ref a0), (3, .int s3.1)] rfl ?_
            refine s_goto C dX2_dependsOn_58 21 (by decide) ?_
            refine s_r ?_
            refine s_lv [2, 1, 3, 0] rfl ?_
            exact hk7 (x15, s6.2 + 1)
          · refine s_if_eq C dX2_dependsOn_37 52 40 (by decide) rfl ?_ ?_
            · refine s_iconst (v := 0) C dX2_dependsOn_52 (by decide) 53 rfl ?_
              refine s_r ?_
              refine s_lv [0, 2, 3] rfl ?_
              exact hK12 0
            · refine s_aload_n C dX2_dependsOn_40 41 rfl 0 rfl ?_
              refine s_iload C dX2_dependsOn_41 43 rfl 3 rfl ?_
              refine s_call_r (rn_V (As := [.int s6.2]) C (ct_at hR hA (ct_on (ct_X2_part g TA a0 s6.2))) (rv_on C hR (q := vw_1) rfl) (lw_V q562 q563 q564 q102 q565) ⟨rfl, nv_X2_part⟩ ⟨by decide, by decide⟩ rfl (bl rfl) dX2_dependsOn_43) 46 rfl (fun x13 => ?_)
              refine s_call_i (rn_D (by
                  intro ci hci
                  simp only [List.mem_cons, List.not_mem_nil, or_false] at hci
                  rcases hci with rfl | rfl | rfl | rfl | rfl | rfl
                  · exact (rn_U (As := []) C (ct_at hR hA (ct_on (ct_X5_feeders g TA x13))) (rv_on C hR (q := vw_2) rfl) q678 q680 (va_Decl.of (C.w _ q679) (C.w _ q687)) (C.w _ q686) q679 q120 q687 ⟨by decide +kernel, by decide +kernel, (show (parseMethodDescriptor "()I").map (fun d => d.parameters.length) = some 0 by decide +kernel)⟩ ⟨by decide, by decide⟩ rfl (bl rfl) dX2_dependsOn_46)
                  · exact (rn_U (As := []) C (ct_at hR hA (ct_on (ct_X5_feeders g TA x13))) (rv_on C hR (q := vw_3) rfl) q678 q680 (va_Decl.of (C.w _ q679) (C.w _ q687)) (C.w _ q682) q679 q120 q687 ⟨by decide +kernel, by decide +kernel, (show (parseMethodDescriptor "()I").map (fun d => d.parameters.length) = some 0 by decide +kernel)⟩ ⟨by decide, by decide⟩ rfl (bl rfl) dX2_dependsOn_46)
                  · exact (rn_U (As := []) C (ct_at hR hA (ct_on (ct_X5_feeders g TA x13))) (rv_on C hR (q := vw_4) rfl) q678 q680 (va_Decl.of (C.w _ q679) (C.w _ q687)) (C.w _ q683) q679 q120 q687 ⟨by decide +kernel, by decide +kernel, (show (parseMethodDescriptor "()I").map (fun d => d.parameters.length) = some 0 by decide +kernel)⟩ ⟨by decide, by decide⟩ rfl (bl rfl) dX2_dependsOn_46)
                  · exact (rn_U (As := []) C (ct_at hR hA (ct_on (ct_X5_feeders g TA x13))) (rv_on C hR (q := vw_5) rfl) q678 q680 (va_Decl.of (C.w _ q679) (C.w _ q687)) (C.w _ q684) q679 q120 q687 ⟨by decide +kernel, by decide +kernel, (show (parseMethodDescriptor "()I").map (fun d => d.parameters.length) = some 0 by decide +kernel)⟩ ⟨by decide, by decide⟩ rfl (bl rfl) dX2_dependsOn_46)
                  · exact (rn_U (As := []) C (ct_at hR hA (ct_on (ct_X5_feeders g TA x13))) (rv_on C hR (q := vw_6) rfl) q678 q680 (va_Decl.of (C.w _ q679) (C.w _ q687)) (C.w _ q681) q679 q120 q687 ⟨by decide +kernel, by decide +kernel, (show (parseMethodDescriptor "()I").map (fun d => d.parameters.length) = some 0 by decide +kernel)⟩ ⟨by decide, by decide⟩ rfl (bl rfl) dX2_dependsOn_46)
                  · exact (rn_U (As := []) C (ct_at hR hA (ct_on (ct_X5_feeders g TA x13))) (rv_on C hR (q := vw_7) rfl) q678 q680 (va_Decl.of (C.w _ q679) (C.w _ q687)) (C.w _ q685) q679 q120 q687 ⟨by decide +kernel, by decide +kernel, (show (parseMethodDescriptor "()I").map (fun d => d.parameters.length) = some 0 by decide +kernel)⟩ ⟨by decide, by decide⟩ rfl (bl rfl) dX2_dependsOn_46))) 49 rfl (fun x14 => ?_)
              refine s_goto C dX2_dependsOn_49 53 (by decide) ?_
              refine s_r ?_
              refine s_lv [0, 2, 3] rfl ?_
              exact hK12 x14
theorem nv_X2_inCircles : yX2_inCircles.cls ≠ "java/lang/invoke/MethodHandle" ∧ yX2_inCircles.cls ≠ "java/lang/invoke/VarHandle" ∧ (parseMethodDescriptor yX2_inCircles.desc).map (fun d => d.parameters.length) = some 0 := by decide +kernel
theorem ct_X2_inCircles {l : Launch} (g : sm_G) (TA : Nat → Prop) (a0 : Nat) : sm_CT l g (so_R g TA) (so_A g TA) yX2_inCircles cX2_inCircles 3 (some .int) 5 109 [.ref a0] em_i (f_X2_inCircles g a0) := by
  refine sm_of (own := "PatchCords$Panel") rfl rfl (bl rfl) (fun Y C hR hA hl hm => ?_)
  subst hl
  refine s_lv (L' := [(0, .ref a0)]) [0] rfl ?_
  refine s_top ?_
  unfold f_X2_inCircles
  refine s_iconst (v := 0) C dX2_inCircles_0 (by decide) 1 rfl ?_
  refine s_istore_n C dX2_inCircles_1 rfl (by decide) 2 rfl [(1, .int 0), (0, .ref a0)] rfl ?_
  refine s_iconst (v := 0) C dX2_inCircles_2 (by decide) 3 rfl ?_
  refine s_istore_n C dX2_inCircles_3 rfl (by decide) 4 rfl [(2, .int 0), (1, .int 0), (0, .ref a0)] rfl ?_
  refine s_lv [2, 1, 0] rfl ?_
  refine s_loop (fun (s1 : Int32 × Int32) => [(0, .ref a0), (1, .int s1.1), (2, .int s1.2)]) (fun (v10 : Int32) => [(1, .int v10)]) 40 (0, 0) rfl (fun v10 => ?_) (fun _ s1 hk2 hx3 => ?_)
  · refine s_iload_n C dX2_inCircles_40 41 rfl 0 rfl ?_
    exact s_iret C rfl rfl dX2_inCircles_41
  · refine s_iload_n C dX2_inCircles_4 5 rfl 2 rfl ?_
    refine s_aload_n C dX2_inCircles_5 6 rfl 0 rfl ?_
    refine s_call_i (rn_V (As := []) C (ct_at hR hA (ct_on (ct_X2_size g TA a0))) (rv_on C hR (q := vw_1) rfl) (lw_V q561 q526 q527 q102 q528) ⟨rfl, nv_X2_size⟩ ⟨by decide, by decide⟩ rfl (bl rfl) dX2_inCircles_6) 9 rfl (fun x4 => ?_)
    refine s_icmp_ge C dX2_inCircles_9 40 12 (by decide) rfl ?_ ?_
    · refine s_r ?_
      refine s_lv [1] rfl ?_
      exact hx3 s1.1
    · refine s_iload_n C dX2_inCircles_12 13 rfl 1 rfl ?_
      refine s_aload_n C dX2_inCircles_13 14 rfl 0 rfl ?_
      refine s_iload_n C dX2_inCircles_14 15 rfl 2 rfl ?_
      refine s_call_i (rn_V (As := [.int s1.2]) C (ct_at hR hA (ct_on (ct_X2_dependsOn g TA a0 s1.2))) (rv_on C hR (q := vw_1) rfl) (lw_V q674 q675 q676 q102 q677) ⟨rfl, nv_X2_dependsOn⟩ ⟨by decide, by decide⟩ rfl (bl rfl) dX2_inCircles_15) 18 rfl (fun x5 => ?_)
      refine s_iload_n C dX2_inCircles_18 19 rfl 2 rfl ?_
      refine s_call_i (rn_SN (As := [.int x5, .int s1.2]) C (ct_at hR hA (ct_X1_has g TA x5 s1.2)) q688 q639 q101 q640 nv_X1_has ⟨by decide, by decide⟩ rfl (bl rfl) dX2_inCircles_19) 22 rfl (fun x6 => ?_)
      refine s_cut (J := 32) (LJ := (fun (v7 : Int32) => [(0, .ref a0), (2, .int s1.2)])) (SJ := (fun (v7 : Int32) => [.int v7, .int s1.1])) (fun v7 => ?_) (fun _ _ hK8 => ?_)
      · refine s_ior C dX2_inCircles_32 33 rfl ?_
        refine s_topi (fun x9 => ?_)
        refine s_istore_n C dX2_inCircles_33 rfl (by decide) 34 rfl [(1, .int x9), (0, .ref a0), (2, .int s1.2)] rfl ?_
        refine s_iinc C dX2_inCircles_34 (s1.2 + 1) rfl 2 rfl (by decide) 37 rfl [(2, .int (s1.2 + 1)), (1, .int x9), (0, .ref a0)] rfl ?_
        refine s_goto C dX2_inCircles_37 4 (by decide) ?_
        refine s_r ?_
        refine s_lv [2, 1, 0] rfl ?_
        exact hk2 (x9, s1.2 + 1)
      · refine s_if_eq C dX2_inCircles_22 31 25 (by decide) rfl ?_ ?_
        · refine s_iconst (v := 0) C dX2_inCircles_31 (by decide) 32 rfl ?_
          refine s_r ?_
          refine s_lv [0, 2] rfl ?_
          exact hK8 0
        · refine s_iconst (v := 1) C dX2_inCircles_25 (by decide) 26 rfl ?_
          refine s_iload_n C dX2_inCircles_26 27 rfl 2 rfl ?_
          refine s_ishl C dX2_inCircles_27 28 rfl ?_
          refine s_goto C dX2_inCircles_28 32 (by decide) ?_
          refine s_r ?_
          refine s_lv [0, 2] rfl ?_
          exact hK8 ((1 : Int32) <<< (s1.2 &&& 31))
theorem nv_X1_inCircles : yX1_inCircles.cls ≠ "java/lang/invoke/MethodHandle" ∧ yX1_inCircles.cls ≠ "java/lang/invoke/VarHandle" ∧ (parseMethodDescriptor yX1_inCircles.desc).map (fun d => d.parameters.length) = some 0 := by decide +kernel
theorem ct_X1_inCircles {l : Launch} (g : sm_G) (TA : Nat → Prop) (a0 : Nat) : sm_CT l g (so_R g TA) (so_A g TA) yX1_inCircles cX1_inCircles 1 (some .int) 6 131 [.ref a0] em_i (f_X1_inCircles g a0) := by
  refine sm_of (own := "PatchCords") rfl rfl (bl rfl) (fun Y C hR hA hl hm => ?_)
  subst hl
  refine s_lv (L' := [(0, .ref a0)]) [0] rfl ?_
  refine s_top ?_
  unfold f_X1_inCircles
  refine s_aload_n C dX1_inCircles_0 1 rfl 0 rfl ?_
  refine s_getR C hR fd_PatchCords_panel (Or.inl q273) dX1_inCircles_1 4 rfl (fun x1 => ?_)
  refine s_call_i (rn_V (As := []) C (ct_at hR hA (ct_on (ct_X2_inCircles g TA x1))) (rv_on C hR (q := vw_1) rfl) (lw_V q670 q671 q672 q102 q673) ⟨rfl, nv_X2_inCircles⟩ ⟨by decide, by decide⟩ rfl (bl rfl) dX1_inCircles_4) 7 rfl (fun x2 => ?_)
  exact s_iret C rfl rfl dX1_inCircles_7
theorem nv_X2_ends : yX2_ends.cls ≠ "java/lang/invoke/MethodHandle" ∧ yX2_ends.cls ≠ "java/lang/invoke/VarHandle" ∧ (parseMethodDescriptor yX2_ends.desc).map (fun d => d.parameters.length) = some 0 := by decide +kernel
theorem ct_X2_ends {l : Launch} (g : sm_G) (TA : Nat → Prop) (a0 : Nat) : sm_CT l g (so_R g TA) (so_A g TA) yX2_ends cX2_ends 3 (some .int) 4 85 [.ref a0] em_i (f_X2_ends g a0) := by
  refine sm_of (own := "PatchCords$Panel") rfl rfl (bl rfl) (fun Y C hR hA hl hm => ?_)
  subst hl
  refine s_lv (L' := [(0, .ref a0)]) [0] rfl ?_
  refine s_top ?_
  unfold f_X2_ends
  refine s_iconst (v := 1) C dX2_ends_0 (by decide) 1 rfl ?_
  refine s_aload_n C dX2_ends_1 2 rfl 0 rfl ?_
  refine s_call_i (rn_V (As := []) C (ct_at hR hA (ct_on (ct_X2_size g TA a0))) (rv_on C hR (q := vw_1) rfl) (lw_V q561 q526 q527 q102 q528) ⟨rfl, nv_X2_size⟩ ⟨by decide, by decide⟩ rfl (bl rfl) dX2_ends_2) 5 rfl (fun x1 => ?_)
  refine s_ishl C dX2_ends_5 6 rfl ?_
  refine s_iconst (v := 1) C dX2_ends_6 (by decide) 7 rfl ?_
  refine s_isub C dX2_ends_7 8 rfl ?_
  refine s_topi (fun x2 => ?_)
  refine s_istore_n C dX2_ends_8 rfl (by decide) 9 rfl [(1, .int x2), (0, .ref a0)] rfl ?_
  refine s_iconst (v := 0) C dX2_ends_9 (by decide) 10 rfl ?_
  refine s_istore_n C dX2_ends_10 rfl (by decide) 11 rfl [(2, .int 0), (1, .int x2), (0, .ref a0)] rfl ?_
  refine s_lv [2, 1, 0] rfl ?_
  refine s_loop (fun (s3 : Int32 × Int32) => [(0, .ref a0), (1, .int s3.1), (2, .int s3.2)]) (fun (v10 : Int32) => [(1, .int v10)]) 38 (x2, 0) rfl (fun v10 => ?_) (fun _ s3 hk4 hx5 => ?_)
  · refine s_iload_n C dX2_ends_38 39 rfl 0 rfl ?_
    exact s_iret C rfl rfl dX2_ends_39
  · refine s_iload_n C dX2_ends_11 12 rfl 2 rfl ?_
    refine s_aload_n C dX2_ends_12 13 rfl 0 rfl ?_
    refine s_call_i (rn_V (As := []) C (ct_at hR hA (ct_on (ct_X2_size g TA a0))) (rv_on C hR (q := vw_1) rfl) (lw_V q561 q526 q527 q102 q528) ⟨rfl, nv_X2_size⟩ ⟨by decide, by decide⟩ rfl (bl rfl) dX2_ends_13) 16 rfl (fun x6 => ?_)
    refine s_icmp_ge C dX2_ends_16 38 19 (by decide) rfl ?_ ?_
    · refine s_r ?_
      refine s_lv [1] rfl ?_
      exact hx5 s3.1
    · refine s_iload_n C dX2_ends_19 20 rfl 1 rfl ?_
      refine s_aload_n C dX2_ends_20 21 rfl 0 rfl ?_
      refine s_iload_n C dX2_ends_21 22 rfl 2 rfl ?_
      refine s_call_r (rn_V (As := [.int s3.2]) C (ct_at hR hA (ct_on (ct_X2_part g TA a0 s3.2))) (rv_on C hR (q := vw_1) rfl) (lw_V q562 q563 q564 q102 q565) ⟨rfl, nv_X2_part⟩ ⟨by decide, by decide⟩ rfl (bl rfl) dX2_ends_22) 25 rfl (fun x7 => ?_)
      refine s_call_i (rn_D (by
          intro ci hci
          simp only [List.mem_cons, List.not_mem_nil, or_false] at hci
          rcases hci with rfl | rfl | rfl | rfl | rfl | rfl
          · exact (rn_U (As := []) C (ct_at hR hA (ct_on (ct_X5_feeders g TA x7))) (rv_on C hR (q := vw_2) rfl) q678 q680 (va_Decl.of (C.w _ q679) (C.w _ q687)) (C.w _ q686) q679 q120 q687 ⟨by decide +kernel, by decide +kernel, (show (parseMethodDescriptor "()I").map (fun d => d.parameters.length) = some 0 by decide +kernel)⟩ ⟨by decide, by decide⟩ rfl (bl rfl) dX2_ends_25)
          · exact (rn_U (As := []) C (ct_at hR hA (ct_on (ct_X5_feeders g TA x7))) (rv_on C hR (q := vw_3) rfl) q678 q680 (va_Decl.of (C.w _ q679) (C.w _ q687)) (C.w _ q682) q679 q120 q687 ⟨by decide +kernel, by decide +kernel, (show (parseMethodDescriptor "()I").map (fun d => d.parameters.length) = some 0 by decide +kernel)⟩ ⟨by decide, by decide⟩ rfl (bl rfl) dX2_ends_25)
          · exact (rn_U (As := []) C (ct_at hR hA (ct_on (ct_X5_feeders g TA x7))) (rv_on C hR (q := vw_4) rfl) q678 q680 (va_Decl.of (C.w _ q679) (C.w _ q687)) (C.w _ q683) q679 q120 q687 ⟨by decide +kernel, by decide +kernel, (show (parseMethodDescriptor "()I").map (fun d => d.parameters.length) = some 0 by decide +kernel)⟩ ⟨by decide, by decide⟩ rfl (bl rfl) dX2_ends_25)
          · exact (rn_U (As := []) C (ct_at hR hA (ct_on (ct_X5_feeders g TA x7))) (rv_on C hR (q := vw_5) rfl) q678 q680 (va_Decl.of (C.w _ q679) (C.w _ q687)) (C.w _ q684) q679 q120 q687 ⟨by decide +kernel, by decide +kernel, (show (parseMethodDescriptor "()I").map (fun d => d.parameters.length) = some 0 by decide +kernel)⟩ ⟨by decide, by decide⟩ rfl (bl rfl) dX2_ends_25)
          · exact (rn_U (As := []) C (ct_at hR hA (ct_on (ct_X5_feeders g TA x7))) (rv_on C hR (q := vw_6) rfl) q678 q680 (va_Decl.of (C.w _ q679) (C.w _ q687)) (C.w _ q681) q679 q120 q687 ⟨by decide +kernel, by decide +kernel, (show (parseMethodDescriptor "()I").map (fun d => d.parameters.length) = some 0 by decide +kernel)⟩ ⟨by decide, by decide⟩ rfl (bl rfl) dX2_ends_25)
          · exact (rn_U (As := []) C (ct_at hR hA (ct_on (ct_X5_feeders g TA x7))) (rv_on C hR (q := vw_7) rfl) q678 q680 (va_Decl.of (C.w _ q679) (C.w _ q687)) (C.w _ q685) q679 q120 q687 ⟨by decide +kernel, by decide +kernel, (show (parseMethodDescriptor "()I").map (fun d => d.parameters.length) = some 0 by decide +kernel)⟩ ⟨by decide, by decide⟩ rfl (bl rfl) dX2_ends_25))) 28 rfl (fun x8 => ?_)
      refine s_iconst (v := (-1)) C dX2_ends_28 (by decide) 29 rfl ?_
      refine s_ixor C dX2_ends_29 30 rfl ?_
      refine s_iand C dX2_ends_30 31 rfl ?_
      refine s_topi (fun x9 => ?_)
      refine s_istore_n C dX2_ends_31 rfl (by decide) 32 rfl [(1, .int x9), (0, .ref a0), (2, .int s3.2)] rfl ?_
      refine s_iinc C dX2_ends_32 (s3.2 + 1) rfl 2 rfl (by decide) 35 rfl [(2, .int (s3.2 + 1)), (1, .int x9), (0, .ref a0)] rfl ?_
      refine s_goto C dX2_ends_35 11 (by decide) ?_
      refine s_r ?_
      refine s_lv [2, 1, 0] rfl ?_
      exact hk4 (x9, s3.2 + 1)
theorem nv_X1_ends : yX1_ends.cls ≠ "java/lang/invoke/MethodHandle" ∧ yX1_ends.cls ≠ "java/lang/invoke/VarHandle" ∧ (parseMethodDescriptor yX1_ends.desc).map (fun d => d.parameters.length) = some 0 := by decide +kernel
theorem ct_X1_ends {l : Launch} (g : sm_G) (TA : Nat → Prop) (a0 : Nat) : sm_CT l g (so_R g TA) (so_A g TA) yX1_ends cX1_ends 1 (some .int) 5 107 [.ref a0] em_i (f_X1_ends g a0) := by
  refine sm_of (own := "PatchCords") rfl rfl (bl rfl) (fun Y C hR hA hl hm => ?_)
  subst hl
  refine s_lv (L' := [(0, .ref a0)]) [0] rfl ?_
  refine s_top ?_
  unfold f_X1_ends
  refine s_aload_n C dX1_ends_0 1 rfl 0 rfl ?_
  refine s_getR C hR fd_PatchCords_panel (Or.inl q273) dX1_ends_1 4 rfl (fun x1 => ?_)
  refine s_call_i (rn_V (As := []) C (ct_at hR hA (ct_on (ct_X2_ends g TA x1))) (rv_on C hR (q := vw_1) rfl) (lw_V q693 q694 q695 q102 q696) ⟨rfl, nv_X2_ends⟩ ⟨by decide, by decide⟩ rfl (bl rfl) dX1_ends_4) 7 rfl (fun x2 => ?_)
  exact s_iret C rfl rfl dX1_ends_7
theorem nv_X1_recorded : yX1_recorded.cls ≠ "java/lang/invoke/MethodHandle" ∧ yX1_recorded.cls ≠ "java/lang/invoke/VarHandle" ∧ (parseMethodDescriptor yX1_recorded.desc).map (fun d => d.parameters.length) = some 0 := by decide +kernel
theorem ct_X1_recorded {l : Launch} (g : sm_G) (TA : Nat → Prop) (a0 : Nat) : sm_CT l g (so_R g TA) (so_A g TA) yX1_recorded cX1_recorded 1 (some .int) 0 0 [.ref a0] em_i (f_X1_recorded g a0) := by
  refine sm_of (own := "PatchCords") rfl rfl (bl rfl) (fun Y C hR hA hl hm => ?_)
  subst hl
  refine s_lv (L' := [(0, .ref a0)]) [0] rfl ?_
  refine s_top ?_
  unfold f_X1_recorded
  refine s_aload_n C dX1_recorded_0 1 rfl 0 rfl ?_
  refine s_getR C hR fd_PatchCords_panel (Or.inl q273) dX1_recorded_1 4 rfl (fun x1 => ?_)
  refine s_getI C hR fd_PatchCords_Panel_recorded (Or.inr (Or.inl ⟨_, q200⟩)) dX1_recorded_4 7 rfl (fun x2 => ?_)
  exact s_iret C rfl rfl dX1_recorded_7
theorem nv_X1_records : yX1_records.cls ≠ "java/lang/invoke/MethodHandle" ∧ yX1_records.cls ≠ "java/lang/invoke/VarHandle" ∧ (parseMethodDescriptor yX1_records.desc).map (fun d => d.parameters.length) = some 0 := by decide +kernel
theorem ct_X1_records {l : Launch} (g : sm_G) (TA : Nat → Prop) (a0 : Nat) : sm_CT l g (so_R g TA) (so_A g TA) yX1_records cX1_records 1 (some .int) 0 0 [.ref a0] em_i (f_X1_records g a0) := by
  refine sm_of (own := "PatchCords") rfl rfl (bl rfl) (fun Y C hR hA hl hm => ?_)
  subst hl
  refine s_lv (L' := [(0, .ref a0)]) [0] rfl ?_
  refine s_top ?_
  unfold f_X1_records
  refine s_aload_n C dX1_records_0 1 rfl 0 rfl ?_
  refine s_getR C hR fd_PatchCords_panel (Or.inl q273) dX1_records_1 4 rfl (fun x1 => ?_)
  refine s_getI C hR fd_PatchCords_Panel_recordCount (Or.inr (Or.inl ⟨_, q202⟩)) dX1_records_4 7 rfl (fun x2 => ?_)
  exact s_iret C rfl rfl dX1_records_7
theorem nv_X1_crossings : yX1_crossings.cls ≠ "java/lang/invoke/MethodHandle" ∧ yX1_crossings.cls ≠ "java/lang/invoke/VarHandle" ∧ (parseMethodDescriptor yX1_crossings.desc).map (fun d => d.parameters.length) = some 0 := by decide +kernel
theorem ct_X1_crossings {l : Launch} (g : sm_G) (TA : Nat → Prop) (a0 : Nat) : sm_CT l g (so_R g TA) (so_A g TA) yX1_crossings cX1_crossings 1 (some .int) 0 0 [.ref a0] em_i (f_X1_crossings g a0) := by
  refine sm_of (own := "PatchCords") rfl rfl (bl rfl) (fun Y C hR hA hl hm => ?_)
  subst hl
  refine s_lv (L' := [(0, .ref a0)]) [0] rfl ?_
  refine s_top ?_
  unfold f_X1_crossings
  refine s_aload_n C dX1_crossings_0 1 rfl 0 rfl ?_
  refine s_getR C hR fd_PatchCords_panel (Or.inl q273) dX1_crossings_1 4 rfl (fun x1 => ?_)
  refine s_getI C hR fd_PatchCords_Panel_crossings (Or.inr (Or.inl ⟨_, q204⟩)) dX1_crossings_4 7 rfl (fun x2 => ?_)
  exact s_iret C rfl rfl dX1_crossings_7
theorem nv_X1_beat : yX1_beat.cls ≠ "java/lang/invoke/MethodHandle" ∧ yX1_beat.cls ≠ "java/lang/invoke/VarHandle" ∧ (parseMethodDescriptor yX1_beat.desc).map (fun d => d.parameters.length) = some 0 := by decide +kernel
theorem ct_X1_beat {l : Launch} (g : sm_G) (TA : Nat → Prop) (a0 : Nat) : sm_CT l g (so_R g TA) (so_A g TA) yX1_beat cX1_beat 1 (some .int) 0 0 [.ref a0] em_i (f_X1_beat g a0) := by
  refine sm_of (own := "PatchCords") rfl rfl (bl rfl) (fun Y C hR hA hl hm => ?_)
  subst hl
  refine s_lv (L' := [(0, .ref a0)]) [0] rfl ?_
  refine s_top ?_
  unfold f_X1_beat
  refine s_aload_n C dX1_beat_0 1 rfl 0 rfl ?_
  refine s_getR C hR fd_PatchCords_panel (Or.inl q273) dX1_beat_1 4 rfl (fun x1 => ?_)
  refine s_getI C hR fd_PatchCords_Panel_beat (Or.inr (Or.inl ⟨_, q207⟩)) dX1_beat_4 7 rfl (fun x2 => ?_)
  exact s_iret C rfl rfl dX1_beat_7
theorem nv_X2_meanRecord : yX2_meanRecord.cls ≠ "java/lang/invoke/MethodHandle" ∧ yX2_meanRecord.cls ≠ "java/lang/invoke/VarHandle" ∧ (parseMethodDescriptor yX2_meanRecord.desc).map (fun d => d.parameters.length) = some 0 := by decide +kernel
theorem ct_X2_meanRecord {l : Launch} (g : sm_G) (TA : Nat → Prop) (a0 : Nat) : sm_CT l g (so_R g TA) (so_A g TA) yX2_meanRecord cX2_meanRecord 3 (some .double) 0 0 [.ref a0] em_d (f_X2_meanRecord g a0) := by
  refine sm_of (own := "PatchCords$Panel") rfl rfl (bl rfl) (fun Y C hR hA hl hm => ?_)
  subst hl
  refine s_lv (L' := [(0, .ref a0)]) [0] rfl ?_
  refine s_top ?_
  unfold f_X2_meanRecord
  refine s_iconst (v := 0) C dX2_meanRecord_0 (by decide) 1 rfl ?_
  refine s_istore_n C dX2_meanRecord_1 rfl (by decide) 2 rfl [(1, .int 0), (0, .ref a0)] rfl ?_
  refine s_iconst (v := 0) C dX2_meanRecord_2 (by decide) 3 rfl ?_
  refine s_istore_n C dX2_meanRecord_3 rfl (by decide) 4 rfl [(2, .int 0), (1, .int 0), (0, .ref a0)] rfl ?_
  refine s_lv [2, 1, 0] rfl ?_
  refine s_loop (fun (s1 : Int32 × Int32) => [(0, .ref a0), (1, .int s1.1), (2, .int s1.2)]) (fun (v8 : Int32) => [(0, .ref a0), (1, .int v8)]) 27 (0, 0) rfl (fun v8 => ?_) (fun _ s1 hk2 hx3 => ?_)
  · refine s_aload_n C dX2_meanRecord_27 28 rfl 0 rfl ?_
    refine s_getI C hR fd_PatchCords_Panel_recordCount (Or.inl q201) dX2_meanRecord_28 31 rfl (fun x9 => ?_)
    refine s_cut (J := 46) (LJ := (fun (v10 : UInt64) => [])) (SJ := (fun (v10 : UInt64) => [.double v10])) (fun v10 => ?_) (fun _ _ hK11 => ?_)
    · exact s_dret C rfl dX2_meanRecord_46
    · refine s_if_ne C dX2_meanRecord_31 38 34 (by decide) rfl ?_ ?_
      · refine s_dconst0 C dX2_meanRecord_34 35 rfl ?_
        refine s_goto C dX2_meanRecord_35 46 (by decide) ?_
        refine s_r ?_
        refine s_lv [] rfl ?_
        exact hK11 FP.dconst0
      · refine s_iload_n C dX2_meanRecord_38 39 rfl 1 rfl ?_
        refine s_i2d C dX2_meanRecord_39 40 rfl ?_
        refine s_aload_n C dX2_meanRecord_40 41 rfl 0 rfl ?_
        refine s_getI C hR fd_PatchCords_Panel_recordCount (Or.inl q201) dX2_meanRecord_41 44 rfl (fun x12 => ?_)
        refine s_i2d C dX2_meanRecord_44 45 rfl ?_
        refine s_ddiv C dX2_meanRecord_45 46 rfl (fun x13 => ?_)
        refine s_r ?_
        refine s_lv [] rfl ?_
        exact hK11 x13
  · refine s_iload_n C dX2_meanRecord_4 5 rfl 2 rfl ?_
    refine s_aload_n C dX2_meanRecord_5 6 rfl 0 rfl ?_
    refine s_getI C hR fd_PatchCords_Panel_recordCount (Or.inl q201) dX2_meanRecord_6 9 rfl (fun x4 => ?_)
    refine s_icmp_ge C dX2_meanRecord_9 27 12 (by decide) rfl ?_ ?_
    · refine s_r ?_
      refine s_lv [0, 1] rfl ?_
      exact hx3 s1.1
    · refine s_iload_n C dX2_meanRecord_12 13 rfl 1 rfl ?_
      refine s_aload_n C dX2_meanRecord_13 14 rfl 0 rfl ?_
      refine s_getR C hR fd_PatchCords_Panel_records (Or.inl q189) dX2_meanRecord_14 17 rfl (fun x5 => ?_)
      refine s_iload_n C dX2_meanRecord_17 18 rfl 2 rfl ?_
      refine s_iald C hR dX2_meanRecord_18 19 rfl (fun x6 => ?_)
      refine s_iadd C dX2_meanRecord_19 20 rfl ?_
      refine s_topi (fun x7 => ?_)
      refine s_istore_n C dX2_meanRecord_20 rfl (by decide) 21 rfl [(1, .int x7), (0, .ref a0), (2, .int s1.2)] rfl ?_
      refine s_iinc C dX2_meanRecord_21 (s1.2 + 1) rfl 2 rfl (by decide) 24 rfl [(2, .int (s1.2 + 1)), (1, .int x7), (0, .ref a0)] rfl ?_
      refine s_goto C dX2_meanRecord_24 4 (by decide) ?_
      refine s_r ?_
      refine s_lv [2, 1, 0] rfl ?_
      exact hk2 (x7, s1.2 + 1)
