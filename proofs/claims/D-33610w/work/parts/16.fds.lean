/-! FIELDS BY THEIR NAMES; casts -/
theorem fd_AbstractList_modCount : sm_fd [10] 0 "java/util/AbstractList" "modCount" "I" false .int := fd_c cd_10 (by decide) rfl (by decide) (fd_n)
theorem fd_AbstractStringBuilder_coder : sm_fd [11] 1 "java/lang/AbstractStringBuilder" "coder" "B" false .byte := fd_c cd_11 (by decide) rfl (by decide) (fd_n)
theorem fd_AbstractStringBuilder_count : sm_fd [11] 3 "java/lang/AbstractStringBuilder" "count" "I" false .int := fd_c cd_11 (by decide) rfl (by decide) (fd_n)
theorem fd_AbstractStringBuilder_maybeLatin1 : sm_fd [11] 2 "java/lang/AbstractStringBuilder" "maybeLatin1" "Z" false .boolean := fd_c cd_11 (by decide) rfl (by decide) (fd_n)
theorem fd_AbstractStringBuilder_value : sm_fd [11] 0 "java/lang/AbstractStringBuilder" "value" "[B" false (.array .byte) := fd_c cd_11 (by decide) rfl (by decide) (fd_n)
theorem fd_ArrayList_elementData : sm_fd [10] 1 "java/util/ArrayList" "elementData" "[Ljava/lang/Object;" false (.array (.object "java/lang/Object")) := fd_c cd_10 (by decide) rfl (by decide) (fd_n)
theorem fd_ArrayList_size : sm_fd [10] 2 "java/util/ArrayList" "size" "I" false .int := fd_c cd_10 (by decide) rfl (by decide) (fd_n)
theorem fd_PatchCordsModel_before : sm_fd [12] 11 "PatchCordsModel" "before" "[I" true (.array .int) := fd_c cd_12 (by decide) rfl (by decide) (fd_n)
theorem fd_PatchCordsModel_history : sm_fd [12] 2 "PatchCordsModel" "history" "[I" true (.array .int) := fd_c cd_12 (by decide) rfl (by decide) (fd_n)
theorem fd_PatchCordsModel_inputRead : sm_fd [12] 19 "PatchCordsModel" "inputRead" "I" false .int := fd_c cd_12 (by decide) rfl (by decide) (fd_n)
theorem fd_PatchCordsModel_isTaken : sm_fd [12] 5 "PatchCordsModel" "isTaken" "Z" false .boolean := fd_c cd_12 (by decide) rfl (by decide) (fd_n)
theorem fd_PatchCordsModel_item : sm_fd [12] 16 "PatchCordsModel" "item" "I" false .int := fd_c cd_12 (by decide) rfl (by decide) (fd_n)
theorem fd_PatchCordsModel_kept : sm_fd [12] 6 "PatchCordsModel" "kept" "[I" true (.array .int) := fd_c cd_12 (by decide) rfl (by decide) (fd_n)
theorem fd_PatchCordsModel_levels : sm_fd [12] 7 "PatchCordsModel" "levels" "[I" true (.array .int) := fd_c cd_12 (by decide) rfl (by decide) (fd_n)
theorem fd_PatchCordsModel_number : sm_fd [12] 15 "PatchCordsModel" "number" "I" false .int := fd_c cd_12 (by decide) rfl (by decide) (fd_n)
theorem fd_PatchCordsModel_one : sm_fd [12] 17 "PatchCordsModel" "one" "I" false .int := fd_c cd_12 (by decide) rfl (by decide) (fd_n)
theorem fd_PatchCordsModel_other : sm_fd [12] 18 "PatchCordsModel" "other" "I" false .int := fd_c cd_12 (by decide) rfl (by decide) (fd_n)
theorem fd_PatchCordsModel_outs : sm_fd [12] 8 "PatchCordsModel" "outs" "[I" true (.array .int) := fd_c cd_12 (by decide) rfl (by decide) (fd_n)
theorem fd_PatchCordsModel_over : sm_fd [12] 9 "PatchCordsModel" "over" "I" false .int := fd_c cd_12 (by decide) rfl (by decide) (fd_n)
theorem fd_PatchCordsModel_rates : sm_fd [12] 10 "PatchCordsModel" "rates" "[I" true (.array .int) := fd_c cd_12 (by decide) rfl (by decide) (fd_n)
theorem fd_PatchCordsModel_reading : sm_fd [12] 14 "PatchCordsModel" "reading" "I" false .int := fd_c cd_12 (by decide) rfl (by decide) (fd_n)
theorem fd_PatchCordsModel_savedStates : sm_fd [12] 3 "PatchCordsModel" "savedStates" "I" false .int := fd_c cd_12 (by decide) rfl (by decide) (fd_n)
theorem fd_PatchCordsModel_snapshot : sm_fd [12] 4 "PatchCordsModel" "snapshot" "[I" true (.array .int) := fd_c cd_12 (by decide) rfl (by decide) (fd_n)
theorem fd_PatchCordsModel_state : sm_fd [12] 1 "PatchCordsModel" "state" "[I" true (.array .int) := fd_c cd_12 (by decide) rfl (by decide) (fd_n)
theorem fd_PatchCordsModel_text : sm_fd [12] 12 "PatchCordsModel" "text" "[I" true (.array .int) := fd_c cd_12 (by decide) rfl (by decide) (fd_n)
theorem fd_PatchCordsModel_textLength : sm_fd [12] 13 "PatchCordsModel" "textLength" "I" false .int := fd_c cd_12 (by decide) rfl (by decide) (fd_n)
theorem fd_PatchCordsModel_thrown : sm_fd [12] 0 "PatchCordsModel" "thrown" "I" false .int := fd_c cd_12 (by decide) rfl (by decide) (fd_n)
theorem fd_PatchCords_Integrator_before : sm_fd [3] 6 "PatchCords$Integrator" "before" "I" false .int := fd_c cd_3 (by decide) rfl (by decide) (fd_n)
theorem fd_PatchCords_Integrator_charge : sm_fd [3] 5 "PatchCords$Integrator" "charge" "I" false .int := fd_c cd_3 (by decide) rfl (by decide) (fd_n)
theorem fd_PatchCords_Integrator_initial : sm_fd [3] 3 "PatchCords$Integrator" "initial" "I" false .int := fd_c cd_3 (by decide) rfl (by decide) (fd_n)
theorem fd_PatchCords_Integrator_rate : sm_fd [3] 7 "PatchCords$Integrator" "rate" "I" false .int := fd_c cd_3 (by decide) rfl (by decide) (fd_n)
theorem fd_PatchCords_Integrator_speed : sm_fd [3] 4 "PatchCords$Integrator" "speed" "I" false .int := fd_c cd_3 (by decide) rfl (by decide) (fd_n)
theorem fd_PatchCords_Item_input : sm_fd [9] 3 "PatchCords$Item" "input" "I" true .int := fd_c cd_9 (by decide) rfl (by decide) (fd_n)
theorem fd_PatchCords_Item_one : sm_fd [9] 1 "PatchCords$Item" "one" "I" true .int := fd_c cd_9 (by decide) rfl (by decide) (fd_n)
theorem fd_PatchCords_Item_other : sm_fd [9] 2 "PatchCords$Item" "other" "I" true .int := fd_c cd_9 (by decide) rfl (by decide) (fd_n)
theorem fd_PatchCords_Item_sign : sm_fd [9] 0 "PatchCords$Item" "sign" "C" true .char := fd_c cd_9 (by decide) rfl (by decide) (fd_n)
theorem fd_PatchCords_Panel_beat : sm_fd [1] 13 "PatchCords$Panel" "beat" "I" false .int := fd_c cd_1 (by decide) rfl (by decide) (fd_n)
theorem fd_PatchCords_Panel_crossings : sm_fd [1] 11 "PatchCords$Panel" "crossings" "I" false .int := fd_c cd_1 (by decide) rfl (by decide) (fd_n)
theorem fd_PatchCords_Panel_guarded : sm_fd [1] 6 "PatchCords$Panel" "guarded" "Z" false .boolean := fd_c cd_1 (by decide) rfl (by decide) (fd_n)
theorem fd_PatchCords_Panel_in : sm_fd [1] 3 "PatchCords$Panel" "in" "[I" true (.array .int) := fd_c cd_1 (by decide) rfl (by decide) (fd_n)
theorem fd_PatchCords_Panel_latestCrossing : sm_fd [1] 12 "PatchCords$Panel" "latestCrossing" "I" false .int := fd_c cd_1 (by decide) rfl (by decide) (fd_n)
theorem fd_PatchCords_Panel_mode : sm_fd [1] 7 "PatchCords$Panel" "mode" "I" false .int := fd_c cd_1 (by decide) rfl (by decide) (fd_n)
theorem fd_PatchCords_Panel_order : sm_fd [1] 1 "PatchCords$Panel" "order" "[I" true (.array .int) := fd_c cd_1 (by decide) rfl (by decide) (fd_n)
theorem fd_PatchCords_Panel_outputs : sm_fd [1] 2 "PatchCords$Panel" "outputs" "[I" true (.array .int) := fd_c cd_1 (by decide) rfl (by decide) (fd_n)
theorem fd_PatchCords_Panel_parts : sm_fd [1] 0 "PatchCords$Panel" "parts" "Ljava/util/ArrayList;" true (.object "java/util/ArrayList") := fd_c cd_1 (by decide) rfl (by decide) (fd_n)
theorem fd_PatchCords_Panel_recordCount : sm_fd [1] 10 "PatchCords$Panel" "recordCount" "I" false .int := fd_c cd_1 (by decide) rfl (by decide) (fd_n)
theorem fd_PatchCords_Panel_recorded : sm_fd [1] 9 "PatchCords$Panel" "recorded" "I" false .int := fd_c cd_1 (by decide) rfl (by decide) (fd_n)
theorem fd_PatchCords_Panel_records : sm_fd [1] 4 "PatchCords$Panel" "records" "[I" true (.array .int) := fd_c cd_1 (by decide) rfl (by decide) (fd_n)
theorem fd_PatchCords_Panel_steps : sm_fd [1] 8 "PatchCords$Panel" "steps" "I" false .int := fd_c cd_1 (by decide) rfl (by decide) (fd_n)
theorem fd_PatchCords_Panel_way : sm_fd [1] 5 "PatchCords$Panel" "way" "LPatchCords$Way;" false (.object "PatchCords$Way") := fd_c cd_1 (by decide) rfl (by decide) (fd_n)
theorem fd_PatchCords_Part_cords : sm_fd [2, 3, 4, 5, 6, 7] 0 "PatchCords$Part" "cords" "[I" true (.array .int) := fd_c cd_2 (by decide) rfl (by decide) (fd_c cd_3 (by decide) rfl (by decide) (fd_c cd_4 (by decide) rfl (by decide) (fd_c cd_5 (by decide) rfl (by decide) (fd_c cd_6 (by decide) rfl (by decide) (fd_c cd_7 (by decide) rfl (by decide) (fd_n))))))
theorem fd_PatchCords_Part_peak : sm_fd [2, 3, 4, 5, 6, 7] 1 "PatchCords$Part" "peak" "I" false .int := fd_c cd_2 (by decide) rfl (by decide) (fd_c cd_3 (by decide) rfl (by decide) (fd_c cd_4 (by decide) rfl (by decide) (fd_c cd_5 (by decide) rfl (by decide) (fd_c cd_6 (by decide) rfl (by decide) (fd_c cd_7 (by decide) rfl (by decide) (fd_n))))))
theorem fd_PatchCords_Pot_factor : sm_fd [4] 2 "PatchCords$Pot" "factor" "I" false .int := fd_c cd_4 (by decide) rfl (by decide) (fd_n)
theorem fd_PatchCords_Reader_at : sm_fd [8] 2 "PatchCords$Reader" "at" "I" false .int := fd_c cd_8 (by decide) rfl (by decide) (fd_n)
theorem fd_PatchCords_Reader_failed : sm_fd [8] 3 "PatchCords$Reader" "failed" "Z" false .boolean := fd_c cd_8 (by decide) rfl (by decide) (fd_n)
theorem fd_PatchCords_Reader_items : sm_fd [8] 1 "PatchCords$Reader" "items" "Ljava/util/ArrayList;" true (.object "java/util/ArrayList") := fd_c cd_8 (by decide) rfl (by decide) (fd_n)
theorem fd_PatchCords_Reader_source : sm_fd [8] 0 "PatchCords$Reader" "source" "Ljava/lang/StringBuilder;" true (.object "java/lang/StringBuilder") := fd_c cd_8 (by decide) rfl (by decide) (fd_n)
theorem fd_PatchCords_Steady_voltage : sm_fd [7] 2 "PatchCords$Steady" "voltage" "I" false .int := fd_c cd_7 (by decide) rfl (by decide) (fd_n)
theorem fd_PatchCords_Weighted_heavy : sm_fd [2, 3] 2 "PatchCords$Weighted" "heavy" "I" false .int := fd_c cd_2 (by decide) rfl (by decide) (fd_c cd_3 (by decide) rfl (by decide) (fd_n))
theorem fd_PatchCords_kept : sm_fd [0] 1 "PatchCords" "kept" "LPatchCords$Panel;" false (.object "PatchCords$Panel") := fd_c cd_0 (by decide) rfl (by decide) (fd_n)
theorem fd_PatchCords_panel : sm_fd [0] 0 "PatchCords" "panel" "LPatchCords$Panel;" false (.object "PatchCords$Panel") := fd_c cd_0 (by decide) rfl (by decide) (fd_n)
theorem fd_PatchCords_saved : sm_fd [0] 2 "PatchCords" "saved" "Ljava/util/ArrayList;" true (.object "java/util/ArrayList") := fd_c cd_0 (by decide) rfl (by decide) (fd_n)
theorem fd_PatchCords_text : sm_fd [0] 3 "PatchCords" "text" "Ljava/lang/StringBuilder;" true (.object "java/lang/StringBuilder") := fd_c cd_0 (by decide) rfl (by decide) (fd_n)
theorem ca_PatchCords_Integrator : ∀ ci ∈ ([3] : List Nat), ∃ q : vw_C, vwCl[ci]? = some q ∧ (Cond.castable q.1 "PatchCords$Integrator" ∈ lw_tbl ∨ q.1 = "PatchCords$Integrator") := by
  intro ci hci
  simp only [List.mem_cons, List.not_mem_nil, or_false] at hci
  rcases hci with rfl
  · exact ⟨vw_3, rfl, Or.inr rfl⟩
theorem ca_PatchCords_Item : ∀ ci ∈ ([9] : List Nat), ∃ q : vw_C, vwCl[ci]? = some q ∧ (Cond.castable q.1 "PatchCords$Item" ∈ lw_tbl ∨ q.1 = "PatchCords$Item") := by
  intro ci hci
  simp only [List.mem_cons, List.not_mem_nil, or_false] at hci
  rcases hci with rfl
  · exact ⟨vw_9, rfl, Or.inr rfl⟩
theorem ca_PatchCords_Panel : ∀ ci ∈ ([1] : List Nat), ∃ q : vw_C, vwCl[ci]? = some q ∧ (Cond.castable q.1 "PatchCords$Panel" ∈ lw_tbl ∨ q.1 = "PatchCords$Panel") := by
  intro ci hci
  simp only [List.mem_cons, List.not_mem_nil, or_false] at hci
  rcases hci with rfl
  · exact ⟨vw_1, rfl, Or.inr rfl⟩
theorem ca_PatchCords_Part : ∀ ci ∈ ([2, 3, 4, 5, 6, 7] : List Nat), ∃ q : vw_C, vwCl[ci]? = some q ∧ (Cond.castable q.1 "PatchCords$Part" ∈ lw_tbl ∨ q.1 = "PatchCords$Part") := by
  intro ci hci
  simp only [List.mem_cons, List.not_mem_nil, or_false] at hci
  rcases hci with rfl | rfl | rfl | rfl | rfl | rfl
  · exact ⟨vw_2, rfl, Or.inl q2396⟩
  · exact ⟨vw_3, rfl, Or.inl q2392⟩
  · exact ⟨vw_4, rfl, Or.inl q2393⟩
  · exact ⟨vw_5, rfl, Or.inl q2394⟩
  · exact ⟨vw_6, rfl, Or.inl q2391⟩
  · exact ⟨vw_7, rfl, Or.inl q2395⟩
theorem ca_PatchCords_Pot : ∀ ci ∈ ([4] : List Nat), ∃ q : vw_C, vwCl[ci]? = some q ∧ (Cond.castable q.1 "PatchCords$Pot" ∈ lw_tbl ∨ q.1 = "PatchCords$Pot") := by
  intro ci hci
  simp only [List.mem_cons, List.not_mem_nil, or_false] at hci
  rcases hci with rfl
  · exact ⟨vw_4, rfl, Or.inr rfl⟩
theorem ca_PatchCords_Steady : ∀ ci ∈ ([7] : List Nat), ∃ q : vw_C, vwCl[ci]? = some q ∧ (Cond.castable q.1 "PatchCords$Steady" ∈ lw_tbl ∨ q.1 = "PatchCords$Steady") := by
  intro ci hci
  simp only [List.mem_cons, List.not_mem_nil, or_false] at hci
  rcases hci with rfl
  · exact ⟨vw_7, rfl, Or.inr rfl⟩
theorem ca_PatchCords_Weighted : ∀ ci ∈ ([2, 3] : List Nat), ∃ q : vw_C, vwCl[ci]? = some q ∧ (Cond.castable q.1 "PatchCords$Weighted" ∈ lw_tbl ∨ q.1 = "PatchCords$Weighted") := by
  intro ci hci
  simp only [List.mem_cons, List.not_mem_nil, or_false] at hci
  rcases hci with rfl | rfl
  · exact ⟨vw_2, rfl, Or.inl q2398⟩
  · exact ⟨vw_3, rfl, Or.inl q2397⟩
theorem io_Integrator : ∀ ci ∈ ([2, 3, 4, 5, 6, 7] : List Nat), ∃ q : vw_C, vwCl[ci]? = some q ∧ (ci ∈ ([3] : List Nat) → Cond.castable q.1 "PatchCords$Integrator" ∈ lw_tbl ∨ q.1 = "PatchCords$Integrator") ∧ (ci ∉ ([3] : List Nat) → (q.1, "PatchCords$Integrator") ∈ sm_nc) := by
  intro ci hci
  simp only [List.mem_cons, List.not_mem_nil, or_false] at hci
  rcases hci with rfl | rfl | rfl | rfl | rfl | rfl
  · exact ⟨vw_2, rfl, fun h => absurd h (by decide), fun _ => by decide +kernel⟩
  · exact ⟨vw_3, rfl, fun _ => Or.inr rfl, fun h => absurd (by decide) h⟩
  · exact ⟨vw_4, rfl, fun h => absurd h (by decide), fun _ => by decide +kernel⟩
  · exact ⟨vw_5, rfl, fun h => absurd h (by decide), fun _ => by decide +kernel⟩
  · exact ⟨vw_6, rfl, fun h => absurd h (by decide), fun _ => by decide +kernel⟩
  · exact ⟨vw_7, rfl, fun h => absurd h (by decide), fun _ => by decide +kernel⟩
theorem io_Pot : ∀ ci ∈ ([2, 3, 4, 5, 6, 7] : List Nat), ∃ q : vw_C, vwCl[ci]? = some q ∧ (ci ∈ ([4] : List Nat) → Cond.castable q.1 "PatchCords$Pot" ∈ lw_tbl ∨ q.1 = "PatchCords$Pot") ∧ (ci ∉ ([4] : List Nat) → (q.1, "PatchCords$Pot") ∈ sm_nc) := by
  intro ci hci
  simp only [List.mem_cons, List.not_mem_nil, or_false] at hci
  rcases hci with rfl | rfl | rfl | rfl | rfl | rfl
  · exact ⟨vw_2, rfl, fun h => absurd h (by decide), fun _ => by decide +kernel⟩
  · exact ⟨vw_3, rfl, fun h => absurd h (by decide), fun _ => by decide +kernel⟩
  · exact ⟨vw_4, rfl, fun _ => Or.inr rfl, fun h => absurd (by decide) h⟩
  · exact ⟨vw_5, rfl, fun h => absurd h (by decide), fun _ => by decide +kernel⟩
  · exact ⟨vw_6, rfl, fun h => absurd h (by decide), fun _ => by decide +kernel⟩
  · exact ⟨vw_7, rfl, fun h => absurd h (by decide), fun _ => by decide +kernel⟩
theorem io_Steady : ∀ ci ∈ ([2, 3, 4, 5, 6, 7] : List Nat), ∃ q : vw_C, vwCl[ci]? = some q ∧ (ci ∈ ([7] : List Nat) → Cond.castable q.1 "PatchCords$Steady" ∈ lw_tbl ∨ q.1 = "PatchCords$Steady") ∧ (ci ∉ ([7] : List Nat) → (q.1, "PatchCords$Steady") ∈ sm_nc) := by
  intro ci hci
  simp only [List.mem_cons, List.not_mem_nil, or_false] at hci
  rcases hci with rfl | rfl | rfl | rfl | rfl | rfl
  · exact ⟨vw_2, rfl, fun h => absurd h (by decide), fun _ => by decide +kernel⟩
  · exact ⟨vw_3, rfl, fun h => absurd h (by decide), fun _ => by decide +kernel⟩
  · exact ⟨vw_4, rfl, fun h => absurd h (by decide), fun _ => by decide +kernel⟩
  · exact ⟨vw_5, rfl, fun h => absurd h (by decide), fun _ => by decide +kernel⟩
  · exact ⟨vw_6, rfl, fun h => absurd h (by decide), fun _ => by decide +kernel⟩
  · exact ⟨vw_7, rfl, fun _ => Or.inr rfl, fun h => absurd (by decide) h⟩
theorem io_Weighted : ∀ ci ∈ ([2, 3, 4, 5, 6, 7] : List Nat), ∃ q : vw_C, vwCl[ci]? = some q ∧ (ci ∈ ([2, 3] : List Nat) → Cond.castable q.1 "PatchCords$Weighted" ∈ lw_tbl ∨ q.1 = "PatchCords$Weighted") ∧ (ci ∉ ([2, 3] : List Nat) → (q.1, "PatchCords$Weighted") ∈ sm_nc) := by
  intro ci hci
  simp only [List.mem_cons, List.not_mem_nil, or_false] at hci
  rcases hci with rfl | rfl | rfl | rfl | rfl | rfl
  · exact ⟨vw_2, rfl, fun _ => Or.inl q2398, fun h => absurd (by decide) h⟩
  · exact ⟨vw_3, rfl, fun _ => Or.inl q2397, fun h => absurd (by decide) h⟩
  · exact ⟨vw_4, rfl, fun h => absurd h (by decide), fun _ => by decide +kernel⟩
  · exact ⟨vw_5, rfl, fun h => absurd h (by decide), fun _ => by decide +kernel⟩
  · exact ⟨vw_6, rfl, fun h => absurd h (by decide), fun _ => by decide +kernel⟩
  · exact ⟨vw_7, rfl, fun h => absurd h (by decide), fun _ => by decide +kernel⟩
