/-! .. AND THAT THE STORE's FOLLOW THEM -/
theorem rf_X4_thrown {c : TC} (H : tw_ok c) (g : sm_G) : Rf c (f_X4_thrown g c.1) (t_X4_thrown) := by
  unfold f_X4_thrown t_X4_thrown
  refine rf_gi (fun _ => rfl) (fun x1 => ?_)
  exact rf_r
theorem rf_X4_within {c : TC} (H : tw_ok c) (g : sm_G) (p0 : Int32) (p1 : Int32) (p2 : Int32) : Rf c (f_X4_within g p0 p1 p2) (t_X4_within p0 p1 p2) := by
  unfold f_X4_within t_X4_within
  refine rf_cut (fun v1 => ?_) ?_
  · refine rf_z (fun _ => ?_)
    exact rf_r
  · refine rf_ite ?_ ?_
    · exact rf_r
    · refine rf_ite ?_ ?_
      · exact rf_r
      · exact rf_r
theorem rf_X4_canPut {c : TC} (H : tw_ok c) (g : sm_G) : Rf c (f_X4_canPut g c.1) (t_X4_canPut) := by
  unfold f_X4_canPut t_X4_canPut
  refine rf_gr (fun _ => rfl) ?_
  refine rf_ai H (by decide) (fun x2 => ?_)
  refine rf_cut (fun v3 => ?_) ?_
  · refine rf_z (fun _ => ?_)
    exact rf_r
  · refine rf_ite ?_ ?_
    · exact rf_r
    · exact rf_r
theorem rf_X4_saves {c : TC} (H : tw_ok c) (g : sm_G) : Rf c (f_X4_saves g c.1) (t_X4_saves) := by
  unfold f_X4_saves t_X4_saves
  refine rf_gi (fun _ => rfl) (fun x1 => ?_)
  refine rf_cut (fun v2 => ?_) ?_
  · refine rf_loop (fun v19 => ?_) (fun s12 => ?_)
    · refine rf_gi (fun _ => rfl) (fun x20 => ?_)
      refine rf_pf H (fun _ _ => rfl) (by decide) ?_
      exact rf_r
    · refine rf_ite ?_ ?_
      · exact rf_r
      · refine rf_gr (fun _ => rfl) ?_
        refine rf_gi (fun _ => rfl) (fun x16 => ?_)
        refine rf_gr (fun _ => rfl) ?_
        refine rf_ai H (by decide) (fun x18 => ?_)
        refine rf_pa H (by decide) ?_
        exact rf_r
  · refine rf_ite ?_ ?_
    · refine rf_loop (fun v10 => ?_) (fun s4 => ?_)
      · refine rf_gi (fun _ => rfl) (fun x11 => ?_)
        refine rf_pf H (fun _ _ => rfl) (by decide) ?_
        exact rf_r
      · refine rf_ite ?_ ?_
        · exact rf_r
        · refine rf_gr (fun _ => rfl) ?_
          refine rf_gr (fun _ => rfl) ?_
          refine rf_ai H (by decide) (fun x9 => ?_)
          refine rf_pa H (by decide) ?_
          exact rf_r
    · exact rf_r
theorem rf_X4_puts {c : TC} (H : tw_ok c) (g : sm_G) (p0 : Int32) (p1 : Int32) (p2 : Int32) : Rf c (f_X4_puts g c.1 p0 p1 p2) (t_X4_puts p0 p1 p2) := by
  unfold f_X4_puts t_X4_puts
  refine rf_gr (fun _ => rfl) ?_
  refine rf_pa H (by decide) ?_
  exact rf_r
theorem rf_X4_putsUp {c : TC} (H : tw_ok c) (g : sm_G) (p0 : Int32) : Rf c (f_X4_putsUp g c.1 p0) (t_X4_putsUp p0) := by
  unfold f_X4_putsUp t_X4_putsUp
  refine rf_gr (fun _ => rfl) ?_
  refine rf_ai H (by decide) (fun x2 => ?_)
  refine rf_gr (fun _ => rfl) ?_
  refine rf_ai H (by decide) (fun x4 => ?_)
  refine rf_pa H (by decide) ?_
  refine rf_on (rf_X4_puts H g x2 0 p0) (fun _ => ?_)
  refine rf_cut (fun v6 => ?_) ?_
  · refine rf_on (rf_X4_puts H g x2 1 v6) (fun _ => ?_)
    refine rf_on (rf_X4_puts H g x2 2 100) (fun _ => ?_)
    refine rf_on (rf_X4_puts H g x2 3 0) (fun _ => ?_)
    refine rf_on (rf_X4_puts H g x2 4 0) (fun _ => ?_)
    refine rf_loop (fun v17 => ?_) (fun s12 => ?_)
    · exact rf_r
    · refine rf_ite ?_ ?_
      · exact rf_r
      · refine rf_on (rf_X4_puts H g x2 (5 + s12) (-1)) (fun _ => ?_)
        refine rf_on (rf_X4_puts H g x2 (9 + s12) 1) (fun _ => ?_)
        exact rf_r
  · refine rf_ite ?_ ?_
    · exact rf_r
    · refine rf_ite ?_ ?_
      · exact rf_r
      · exact rf_r
theorem rf_X4_put {c : TC} (H : tw_ok c) (g : sm_G) (p0 : Int32) : Rf c (f_X4_put g c.1 p0) (t_X4_put p0) := by
  unfold f_X4_put t_X4_put
  refine rf_b (rf_X4_within H g p0 0 5) (fun x1 => ?_)
  refine rf_cut (fun v2 => ?_) ?_
  · refine rf_pf H (fun _ _ => rfl) (by decide) ?_
    refine rf_gi (fun _ => rfl) (fun x5 => ?_)
    refine rf_ite ?_ ?_
    · refine rf_on (rf_X4_saves H g) (fun _ => ?_)
      refine rf_on (rf_X4_putsUp H g p0) (fun x7 => ?_)
      exact rf_r
    · exact rf_r
  · refine rf_ite ?_ ?_
    · exact rf_r
    · refine rf_on (rf_X4_canPut H g) (fun x4 => ?_)
      refine rf_ite ?_ ?_
      · exact rf_r
      · exact rf_r
theorem rf_X4_isModule {c : TC} (H : tw_ok c) (g : sm_G) (p0 : Int32) : Rf c (f_X4_isModule g c.1 p0) (t_X4_isModule p0) := by
  unfold f_X4_isModule t_X4_isModule
  refine rf_gr (fun _ => rfl) ?_
  refine rf_ai H (by decide) (fun x2 => ?_)
  refine rf_b (rf_X4_within H g p0 0 (x2 - 1)) (fun x3 => ?_)
  refine rf_z (fun _ => ?_)
  exact rf_r
theorem rf_X4_of {c : TC} (H : tw_ok c) (g : sm_G) (p0 : Int32) (p1 : Int32) : Rf c (f_X4_of g c.1 p0 p1) (t_X4_of p0 p1) := by
  unfold f_X4_of t_X4_of
  refine rf_gr (fun _ => rfl) ?_
  refine rf_ai H (by decide) (fun x2 => ?_)
  exact rf_r
theorem rf_X4_kind {c : TC} (H : tw_ok c) (g : sm_G) (p0 : Int32) : Rf c (f_X4_kind g c.1 p0) (t_X4_kind p0) := by
  unfold f_X4_kind t_X4_kind
  refine rf_on (rf_X4_of H g p0 0) (fun x1 => ?_)
  exact rf_r
theorem rf_X4_isWeighted {c : TC} (H : tw_ok c) (g : sm_G) (p0 : Int32) : Rf c (f_X4_isWeighted g c.1 p0) (t_X4_isWeighted p0) := by
  unfold f_X4_isWeighted t_X4_isWeighted
  refine rf_on (rf_X4_kind H g p0) (fun x1 => ?_)
  refine rf_cut (fun v2 => ?_) ?_
  · refine rf_z (fun _ => ?_)
    exact rf_r
  · refine rf_ite ?_ ?_
    · exact rf_r
    · refine rf_on (rf_X4_kind H g p0) (fun x4 => ?_)
      refine rf_ite ?_ ?_
      · exact rf_r
      · exact rf_r
theorem rf_X4_inputsOfKind {c : TC} (H : tw_ok c) (g : sm_G) (p0 : Int32) : Rf c (f_X4_inputsOfKind g p0) (t_X4_inputsOfKind p0) := by
  unfold f_X4_inputsOfKind t_X4_inputsOfKind
  refine rf_cut (fun v1 => ?_) ?_
  · exact rf_r
  · refine rf_ite ?_ ?_
    · exact rf_r
    · refine rf_ite ?_ ?_
      · exact rf_r
      · refine rf_ite ?_ ?_
        · exact rf_r
        · exact rf_r
theorem rf_X4_isInput {c : TC} (H : tw_ok c) (g : sm_G) (p0 : Int32) (p1 : Int32) : Rf c (f_X4_isInput g c.1 p0 p1) (t_X4_isInput p0 p1) := by
  unfold f_X4_isInput t_X4_isInput
  refine rf_on (rf_X4_isModule H g p0) (fun x1 => ?_)
  refine rf_cut (fun v2 => ?_) ?_
  · refine rf_z (fun _ => ?_)
    exact rf_r
  · refine rf_ite ?_ ?_
    · exact rf_r
    · refine rf_on (rf_X4_kind H g p0) (fun x4 => ?_)
      refine rf_b (rf_X4_inputsOfKind H g x4) (fun x5 => ?_)
      refine rf_b (rf_X4_within H g p1 0 (x5 - 1)) (fun x6 => ?_)
      refine rf_ite ?_ ?_
      · exact rf_r
      · exact rf_r
theorem rf_X4_whyNoWeight {c : TC} (H : tw_ok c) (g : sm_G) (p0 : Int32) (p1 : Int32) : Rf c (f_X4_whyNoWeight g c.1 p0 p1) (t_X4_whyNoWeight p0 p1) := by
  unfold f_X4_whyNoWeight t_X4_whyNoWeight
  refine rf_on (rf_X4_isModule H g p0) (fun x1 => ?_)
  refine rf_cut (fun v2 => ?_) ?_
  · exact rf_r
  · refine rf_ite ?_ ?_
    · exact rf_r
    · refine rf_b (rf_X4_within H g p1 0 3) (fun x4 => ?_)
      refine rf_ite ?_ ?_
      · exact rf_r
      · refine rf_on (rf_X4_isWeighted H g p0) (fun x5 => ?_)
        refine rf_ite ?_ ?_
        · refine rf_on (rf_X4_isInput H g p0 p1) (fun x6 => ?_)
          refine rf_ite ?_ ?_
          · exact rf_r
          · exact rf_r
        · exact rf_r
theorem rf_X4_turnWeight {c : TC} (H : tw_ok c) (g : sm_G) (p0 : Int32) (p1 : Int32) : Rf c (f_X4_turnWeight g c.1 p0 p1) (t_X4_turnWeight p0 p1) := by
  unfold f_X4_turnWeight t_X4_turnWeight
  refine rf_on (rf_X4_whyNoWeight H g p0 p1) (fun x1 => ?_)
  refine rf_pf H (fun _ _ => rfl) (by decide) ?_
  refine rf_gi (fun _ => rfl) (fun x2 => ?_)
  refine rf_ite ?_ ?_
  · refine rf_on (rf_X4_saves H g) (fun _ => ?_)
    refine rf_on (rf_X4_of H g p0 (9 + p1)) (fun x4 => ?_)
    refine rf_on (rf_X4_puts H g p0 (9 + p1) (11 - x4)) (fun _ => ?_)
    refine rf_on (rf_X4_of H g p0 (9 + p1)) (fun x6 => ?_)
    exact rf_r
  · exact rf_r
theorem rf_X4_hasVoltage {c : TC} (H : tw_ok c) (g : sm_G) (p0 : Int32) : Rf c (f_X4_hasVoltage g c.1 p0) (t_X4_hasVoltage p0) := by
  unfold f_X4_hasVoltage t_X4_hasVoltage
  refine rf_on (rf_X4_kind H g p0) (fun x1 => ?_)
  refine rf_cut (fun v2 => ?_) ?_
  · refine rf_z (fun _ => ?_)
    exact rf_r
  · refine rf_ite ?_ ?_
    · exact rf_r
    · refine rf_on (rf_X4_kind H g p0) (fun x4 => ?_)
      refine rf_ite ?_ ?_
      · exact rf_r
      · exact rf_r
theorem rf_X4_whyNoVoltage {c : TC} (H : tw_ok c) (g : sm_G) (p0 : Int32) (p1 : Int32) : Rf c (f_X4_whyNoVoltage g c.1 p0 p1) (t_X4_whyNoVoltage p0 p1) := by
  unfold f_X4_whyNoVoltage t_X4_whyNoVoltage
  refine rf_on (rf_X4_isModule H g p0) (fun x1 => ?_)
  refine rf_cut (fun v2 => ?_) ?_
  · exact rf_r
  · refine rf_ite ?_ ?_
    · exact rf_r
    · refine rf_on (rf_X4_hasVoltage H g p0) (fun x4 => ?_)
      refine rf_ite ?_ ?_
      · exact rf_r
      · refine rf_b (rf_X4_within H g p1 (-10000) 10000) (fun x5 => ?_)
        refine rf_ite ?_ ?_
        · exact rf_r
        · exact rf_r
theorem rf_X4_setsVoltage {c : TC} (H : tw_ok c) (g : sm_G) (p0 : Int32) (p1 : Int32) : Rf c (f_X4_setsVoltage g c.1 p0 p1) (t_X4_setsVoltage p0 p1) := by
  unfold f_X4_setsVoltage t_X4_setsVoltage
  refine rf_on (rf_X4_of H g p0 1) (fun x1 => ?_)
  refine rf_on (rf_X4_puts H g p0 1 p1) (fun _ => ?_)
  refine rf_on (rf_X4_kind H g p0) (fun x3 => ?_)
  refine rf_cut (fun v4 => ?_) ?_
  · exact rf_r
  · refine rf_ite ?_ ?_
    · refine rf_gr (fun _ => rfl) ?_
      refine rf_ai H (by decide) (fun x7 => ?_)
      refine rf_ite ?_ ?_
      · refine rf_on (rf_X4_puts H g p0 3 (1000 * p1)) (fun _ => ?_)
        exact rf_r
      · exact rf_r
    · exact rf_r
theorem rf_X4_setVoltage {c : TC} (H : tw_ok c) (g : sm_G) (p0 : Int32) (p1 : Int32) : Rf c (f_X4_setVoltage g c.1 p0 p1) (t_X4_setVoltage p0 p1) := by
  unfold f_X4_setVoltage t_X4_setVoltage
  refine rf_on (rf_X4_whyNoVoltage H g p0 p1) (fun x1 => ?_)
  refine rf_pf H (fun _ _ => rfl) (by decide) ?_
  refine rf_gi (fun _ => rfl) (fun x2 => ?_)
  refine rf_ite ?_ ?_
  · refine rf_on (rf_X4_saves H g) (fun _ => ?_)
    refine rf_on (rf_X4_setsVoltage H g p0 p1) (fun x4 => ?_)
    exact rf_r
  · exact rf_r
theorem rf_X4_whyNoFactor {c : TC} (H : tw_ok c) (g : sm_G) (p0 : Int32) (p1 : Int32) : Rf c (f_X4_whyNoFactor g c.1 p0 p1) (t_X4_whyNoFactor p0 p1) := by
  unfold f_X4_whyNoFactor t_X4_whyNoFactor
  refine rf_on (rf_X4_isModule H g p0) (fun x1 => ?_)
  refine rf_cut (fun v2 => ?_) ?_
  · exact rf_r
  · refine rf_ite ?_ ?_
    · exact rf_r
    · refine rf_on (rf_X4_kind H g p0) (fun x4 => ?_)
      refine rf_ite ?_ ?_
      · refine rf_b (rf_X4_within H g p1 0 1000) (fun x5 => ?_)
        refine rf_ite ?_ ?_
        · exact rf_r
        · exact rf_r
      · exact rf_r
theorem rf_X4_setsFactor {c : TC} (H : tw_ok c) (g : sm_G) (p0 : Int32) (p1 : Int32) : Rf c (f_X4_setsFactor g c.1 p0 p1) (t_X4_setsFactor p0 p1) := by
  unfold f_X4_setsFactor t_X4_setsFactor
  refine rf_on (rf_X4_of H g p0 1) (fun x1 => ?_)
  refine rf_on (rf_X4_puts H g p0 1 p1) (fun _ => ?_)
  exact rf_r
theorem rf_X4_setFactor {c : TC} (H : tw_ok c) (g : sm_G) (p0 : Int32) (p1 : Int32) : Rf c (f_X4_setFactor g c.1 p0 p1) (t_X4_setFactor p0 p1) := by
  unfold f_X4_setFactor t_X4_setFactor
  refine rf_on (rf_X4_whyNoFactor H g p0 p1) (fun x1 => ?_)
  refine rf_pf H (fun _ _ => rfl) (by decide) ?_
  refine rf_gi (fun _ => rfl) (fun x2 => ?_)
  refine rf_ite ?_ ?_
  · refine rf_on (rf_X4_saves H g) (fun _ => ?_)
    refine rf_on (rf_X4_setsFactor H g p0 p1) (fun x4 => ?_)
    exact rf_r
  · exact rf_r
theorem rf_X4_setSpeed {c : TC} (H : tw_ok c) (g : sm_G) (p0 : Int32) (p1 : Int32) : Rf c (f_X4_setSpeed g c.1 p0 p1) (t_X4_setSpeed p0 p1) := by
  unfold f_X4_setSpeed t_X4_setSpeed
  refine rf_on (rf_X4_isModule H g p0) (fun x1 => ?_)
  refine rf_cut (fun v2 => ?_) ?_
  · refine rf_pf H (fun _ _ => rfl) (by decide) ?_
    refine rf_gi (fun _ => rfl) (fun x6 => ?_)
    refine rf_ite ?_ ?_
    · refine rf_on (rf_X4_saves H g) (fun _ => ?_)
      refine rf_on (rf_X4_of H g p0 2) (fun x8 => ?_)
      refine rf_on (rf_X4_puts H g p0 2 p1) (fun _ => ?_)
      exact rf_r
    · exact rf_r
  · refine rf_ite ?_ ?_
    · exact rf_r
    · refine rf_on (rf_X4_kind H g p0) (fun x4 => ?_)
      refine rf_ite ?_ ?_
      · refine rf_b (rf_X4_within H g p1 1 1000) (fun x5 => ?_)
        refine rf_ite ?_ ?_
        · exact rf_r
        · exact rf_r
      · exact rf_r
theorem rf_X4_feedersOf {c : TC} (H : tw_ok c) (g : sm_G) (p0 : Int32) : Rf c (f_X4_feedersOf g c.1 p0) (t_X4_feedersOf p0) := by
  unfold f_X4_feedersOf t_X4_feedersOf
  refine rf_loop (fun v9 => ?_) (fun s1 => ?_)
  · exact rf_r
  · refine rf_ite ?_ ?_
    · exact rf_r
    · refine rf_on (rf_X4_of H g p0 (5 + s1.2)) (fun x4 => ?_)
      refine rf_cut (fun v5 => ?_) ?_
      · refine rf_rb (fun x8 => ?_)
        exact rf_r
      · refine rf_ite ?_ ?_
        · exact rf_r
        · refine rf_on (rf_X4_of H g p0 (5 + s1.2)) (fun x7 => ?_)
          exact rf_r
theorem rf_X4_has {c : TC} (H : tw_ok c) (g : sm_G) (p0 : Int32) (p1 : Int32) : Rf c (f_X4_has g p0 p1) (t_X4_has p0 p1) := by
  unfold f_X4_has t_X4_has
  refine rf_cut (fun v1 => ?_) ?_
  · refine rf_z (fun _ => ?_)
    exact rf_r
  · refine rf_ite ?_ ?_
    · exact rf_r
    · exact rf_r
theorem rf_X4_depends {c : TC} (H : tw_ok c) (g : sm_G) (p0 : Int32) (p1 : Int32) : Rf c (f_X4_depends g c.1 p0 p1) (t_X4_depends p0 p1) := by
  unfold f_X4_depends t_X4_depends
  refine rf_cut (fun v1 => ?_) ?_
  · refine rf_loop (fun v22 => ?_) (fun s6 => ?_)
    · exact rf_r
    · refine rf_ite ?_ ?_
      · exact rf_r
      · refine rf_loop (fun v21 => ?_) (fun s9 => ?_)
        · exact rf_r
        · refine rf_gr (fun _ => rfl) ?_
          refine rf_ai H (by decide) (fun x13 => ?_)
          refine rf_ite ?_ ?_
          · exact rf_r
          · refine rf_b (rf_X4_has H g s6.2 s9.2) (fun x14 => ?_)
            refine rf_cut (fun v15 => ?_) ?_
            · refine rf_rb (fun x20 => ?_)
              exact rf_r
            · refine rf_ite ?_ ?_
              · exact rf_r
              · refine rf_ite ?_ ?_
                · refine rf_on (rf_X4_kind H g s9.2) (fun x18 => ?_)
                  refine rf_ite ?_ ?_
                  · exact rf_r
                  · refine rf_on (rf_X4_feedersOf H g s9.2) (fun x19 => ?_)
                    exact rf_r
                · refine rf_on (rf_X4_feedersOf H g s9.2) (fun x17 => ?_)
                  exact rf_r
  · refine rf_ite ?_ ?_
    · refine rf_on (rf_X4_kind H g p0) (fun x4 => ?_)
      refine rf_ite ?_ ?_
      · exact rf_r
      · refine rf_on (rf_X4_feedersOf H g p0) (fun x5 => ?_)
        exact rf_r
    · refine rf_on (rf_X4_feedersOf H g p0) (fun x3 => ?_)
      exact rf_r
theorem rf_X4_circles {c : TC} (H : tw_ok c) (g : sm_G) (p0 : Int32) (p1 : Int32) : Rf c (f_X4_circles g c.1 p0 p1) (t_X4_circles p0 p1) := by
  unfold f_X4_circles t_X4_circles
  refine rf_on (rf_X4_kind H g p0) (fun x1 => ?_)
  refine rf_ite ?_ ?_
  · exact rf_r
  · refine rf_on (rf_X4_kind H g p1) (fun x2 => ?_)
    refine rf_ite ?_ ?_
    · exact rf_r
    · refine rf_cut (fun v3 => ?_) ?_
      · refine rf_z (fun _ => ?_)
        exact rf_r
      · refine rf_ite ?_ ?_
        · exact rf_r
        · refine rf_on (rf_X4_depends H g p0 0) (fun x5 => ?_)
          refine rf_b (rf_X4_has H g x5 p1) (fun x6 => ?_)
          refine rf_ite ?_ ?_
          · exact rf_r
          · exact rf_r
theorem rf_X4_whyNoJoin {c : TC} (H : tw_ok c) (g : sm_G) (p0 : Int32) (p1 : Int32) (p2 : Int32) : Rf c (f_X4_whyNoJoin g c.1 p0 p1 p2) (t_X4_whyNoJoin p0 p1 p2) := by
  unfold f_X4_whyNoJoin t_X4_whyNoJoin
  refine rf_on (rf_X4_isModule H g p0) (fun x1 => ?_)
  refine rf_cut (fun v2 => ?_) ?_
  · exact rf_r
  · refine rf_ite ?_ ?_
    · exact rf_r
    · refine rf_on (rf_X4_isInput H g p1 p2) (fun x4 => ?_)
      refine rf_ite ?_ ?_
      · exact rf_r
      · refine rf_on (rf_X4_circles H g p0 p1) (fun x5 => ?_)
        refine rf_ite ?_ ?_
        · exact rf_r
        · exact rf_r
theorem rf_X4_joins {c : TC} (H : tw_ok c) (g : sm_G) (p0 : Int32) (p1 : Int32) (p2 : Int32) : Rf c (f_X4_joins g c.1 p0 p1 p2) (t_X4_joins p0 p1 p2) := by
  unfold f_X4_joins t_X4_joins
  refine rf_on (rf_X4_of H g p1 (5 + p2)) (fun x1 => ?_)
  refine rf_on (rf_X4_puts H g p1 (5 + p2) p0) (fun _ => ?_)
  exact rf_r
theorem rf_X4_join {c : TC} (H : tw_ok c) (g : sm_G) (p0 : Int32) (p1 : Int32) (p2 : Int32) : Rf c (f_X4_join g c.1 p0 p1 p2) (t_X4_join p0 p1 p2) := by
  unfold f_X4_join t_X4_join
  refine rf_on (rf_X4_whyNoJoin H g p0 p1 p2) (fun x1 => ?_)
  refine rf_pf H (fun _ _ => rfl) (by decide) ?_
  refine rf_gi (fun _ => rfl) (fun x2 => ?_)
  refine rf_ite ?_ ?_
  · refine rf_on (rf_X4_saves H g) (fun _ => ?_)
    refine rf_on (rf_X4_joins H g p0 p1 p2) (fun x4 => ?_)
    exact rf_r
  · exact rf_r
theorem rf_X4_whyNoCord {c : TC} (H : tw_ok c) (g : sm_G) (p0 : Int32) (p1 : Int32) : Rf c (f_X4_whyNoCord g c.1 p0 p1) (t_X4_whyNoCord p0 p1) := by
  unfold f_X4_whyNoCord t_X4_whyNoCord
  refine rf_on (rf_X4_isInput H g p0 p1) (fun x1 => ?_)
  refine rf_cut (fun v2 => ?_) ?_
  · exact rf_r
  · refine rf_ite ?_ ?_
    · exact rf_r
    · refine rf_on (rf_X4_of H g p0 (5 + p1)) (fun x4 => ?_)
      refine rf_ite ?_ ?_
      · exact rf_r
      · exact rf_r
theorem rf_X4_takeOut {c : TC} (H : tw_ok c) (g : sm_G) (p0 : Int32) (p1 : Int32) : Rf c (f_X4_takeOut g c.1 p0 p1) (t_X4_takeOut p0 p1) := by
  unfold f_X4_takeOut t_X4_takeOut
  refine rf_on (rf_X4_whyNoCord H g p0 p1) (fun x1 => ?_)
  refine rf_pf H (fun _ _ => rfl) (by decide) ?_
  refine rf_gi (fun _ => rfl) (fun x2 => ?_)
  refine rf_ite ?_ ?_
  · refine rf_on (rf_X4_saves H g) (fun _ => ?_)
    refine rf_on (rf_X4_joins H g (-1) p0 p1) (fun x4 => ?_)
    exact rf_r
  · exact rf_r
theorem rf_X4_canPass {c : TC} (H : tw_ok c) (g : sm_G) (p0 : Int32) : Rf c (f_X4_canPass g c.1 p0) (t_X4_canPass p0) := by
  unfold f_X4_canPass t_X4_canPass
  refine rf_gr (fun _ => rfl) ?_
  refine rf_ai H (by decide) (fun x2 => ?_)
  refine rf_cut (fun v3 => ?_) ?_
  · refine rf_z (fun _ => ?_)
    exact rf_r
  · refine rf_ite ?_ ?_
    · exact rf_r
    · exact rf_r
theorem rf_X4_laysLevels {c : TC} (H : tw_ok c) (g : sm_G) : Rf c (f_X4_laysLevels g c.1) (t_X4_laysLevels) := by
  unfold f_X4_laysLevels t_X4_laysLevels
  refine rf_loop (fun v10 => ?_) (fun s1 => ?_)
  · refine rf_loop (fun v35 => ?_) (fun s11 => ?_)
    · exact rf_r
    · refine rf_ite ?_ ?_
      · exact rf_r
      · refine rf_loop (fun v34 => ?_) (fun s14 => ?_)
        · exact rf_r
        · refine rf_gr (fun _ => rfl) ?_
          refine rf_ai H (by decide) (fun x18 => ?_)
          refine rf_ite ?_ ?_
          · exact rf_r
          · refine rf_loop (fun v33 => ?_) (fun s19 => ?_)
            · exact rf_r
            · refine rf_ite ?_ ?_
              · exact rf_r
              · refine rf_on (rf_X4_hasVoltage H g s14.2) (fun x22 => ?_)
                refine rf_ite ?_ ?_
                · refine rf_on (rf_X4_of H g s14.2 (5 + s19.2)) (fun x23 => ?_)
                  refine rf_cut (fun v24 => ?_) ?_
                  · exact rf_r
                  · refine rf_ite ?_ ?_
                    · exact rf_r
                    · refine rf_gr (fun _ => rfl) ?_
                      refine rf_ai H (by decide) (fun x27 => ?_)
                      refine rf_gr (fun _ => rfl) ?_
                      refine rf_ai H (by decide) (fun x29 => ?_)
                      refine rf_ite ?_ ?_
                      · exact rf_r
                      · refine rf_gr (fun _ => rfl) ?_
                        refine rf_gr (fun _ => rfl) ?_
                        refine rf_ai H (by decide) (fun x32 => ?_)
                        refine rf_pa H (by decide) ?_
                        exact rf_r
                · exact rf_r
  · refine rf_gr (fun _ => rfl) ?_
    refine rf_ai H (by decide) (fun x5 => ?_)
    refine rf_ite ?_ ?_
    · exact rf_r
    · refine rf_gr (fun _ => rfl) ?_
      refine rf_on (rf_X4_hasVoltage H g s1) (fun x7 => ?_)
      refine rf_cut (fun v8 => ?_) ?_
      · refine rf_pa H (by decide) ?_
        exact rf_r
      · refine rf_ite ?_ ?_
        · exact rf_r
        · exact rf_r
theorem rf_X4_in {c : TC} (H : tw_ok c) (g : sm_G) (p0 : Int32) (p1 : Int32) : Rf c (f_X4_in g c.1 p0 p1) (t_X4_in p0 p1) := by
  unfold f_X4_in t_X4_in
  refine rf_on (rf_X4_of H g p0 (5 + p1)) (fun x1 => ?_)
  refine rf_cut (fun v2 => ?_) ?_
  · exact rf_r
  · refine rf_ite ?_ ?_
    · exact rf_r
    · refine rf_gr (fun _ => rfl) ?_
      refine rf_ai H (by decide) (fun x5 => ?_)
      exact rf_r
theorem rf_X4_weighted {c : TC} (H : tw_ok c) (g : sm_G) (p0 : Int32) : Rf c (f_X4_weighted g c.1 p0) (t_X4_weighted p0) := by
  unfold f_X4_weighted t_X4_weighted
  refine rf_loop (fun v7 => ?_) (fun s1 => ?_)
  · exact rf_r
  · refine rf_ite ?_ ?_
    · exact rf_r
    · refine rf_on (rf_X4_of H g p0 (9 + s1.2)) (fun x4 => ?_)
      refine rf_on (rf_X4_in H g p0 s1.2) (fun x5 => ?_)
      refine rf_rb (fun x6 => ?_)
      exact rf_r
theorem rf_X4_free {c : TC} (H : tw_ok c) (g : sm_G) (p0 : Int32) : Rf c (f_X4_free g c.1 p0) (t_X4_free p0) := by
  unfold f_X4_free t_X4_free
  refine rf_on (rf_X4_kind H g p0) (fun x1 => ?_)
  refine rf_cut (fun v2 => ?_) ?_
  · exact rf_r
  · refine rf_ite ?_ ?_
    · refine rf_on (rf_X4_weighted H g p0) (fun x14 => ?_)
      exact rf_r
    · refine rf_ite ?_ ?_
      · refine rf_on (rf_X4_of H g p0 3) (fun x13 => ?_)
        exact rf_r
      · refine rf_ite ?_ ?_
        · refine rf_on (rf_X4_in H g p0 0) (fun x11 => ?_)
          refine rf_on (rf_X4_of H g p0 1) (fun x12 => ?_)
          exact rf_r
        · refine rf_ite ?_ ?_
          · refine rf_on (rf_X4_in H g p0 0) (fun x9 => ?_)
            refine rf_on (rf_X4_in H g p0 1) (fun x10 => ?_)
            exact rf_r
          · refine rf_ite ?_ ?_
            · refine rf_on (rf_X4_in H g p0 0) (fun x5 => ?_)
              refine rf_on (rf_X4_in H g p0 1) (fun x6 => ?_)
              refine rf_ite ?_ ?_
              · refine rf_on (rf_X4_in H g p0 3) (fun x7 => ?_)
                exact rf_r
              · refine rf_on (rf_X4_in H g p0 2) (fun x8 => ?_)
                exact rf_r
            · refine rf_on (rf_X4_of H g p0 1) (fun x4 => ?_)
              exact rf_r
theorem rf_X4_held {c : TC} (H : tw_ok c) (g : sm_G) (p0 : Int32) (p1 : Int32) : Rf c (f_X4_held g p0 p1) (t_X4_held p0 p1) := by
  unfold f_X4_held t_X4_held
  refine rf_cut (fun v1 => ?_) ?_
  · exact rf_r
  · refine rf_ite ?_ ?_
    · refine rf_ite ?_ ?_
      · exact rf_r
      · exact rf_r
    · exact rf_r
theorem rf_X4_size {c : TC} (H : tw_ok c) (g : sm_G) (p0 : Int32) : Rf c (f_X4_size g p0) (t_X4_size p0) := by
  unfold f_X4_size t_X4_size
  refine rf_cut (fun v1 => ?_) ?_
  · exact rf_r
  · refine rf_ite ?_ ?_
    · exact rf_r
    · exact rf_r
theorem rf_X4_laysOuts {c : TC} (H : tw_ok c) (g : sm_G) : Rf c (f_X4_laysOuts g c.1) (t_X4_laysOuts) := by
  unfold f_X4_laysOuts t_X4_laysOuts
  refine rf_on (rf_X4_laysLevels H g) (fun _ => ?_)
  refine rf_pf H (fun _ _ => rfl) (by decide) ?_
  refine rf_loop (fun v28 => ?_) (fun s2 => ?_)
  · exact rf_r
  · refine rf_ite ?_ ?_
    · exact rf_r
    · refine rf_loop (fun v27 => ?_) (fun s5 => ?_)
      · exact rf_r
      · refine rf_gr (fun _ => rfl) ?_
        refine rf_ai H (by decide) (fun x9 => ?_)
        refine rf_ite ?_ ?_
        · exact rf_r
        · refine rf_gr (fun _ => rfl) ?_
          refine rf_ai H (by decide) (fun x11 => ?_)
          refine rf_cut (fun v12 => ?_) ?_
          · exact rf_r
          · refine rf_ite ?_ ?_
            · refine rf_on (rf_X4_free H g s5) (fun x14 => ?_)
              refine rf_gr (fun _ => rfl) ?_
              refine rf_b (rf_X4_held H g x14 10000) (fun x16 => ?_)
              refine rf_pa H (by decide) ?_
              refine rf_on (rf_X4_kind H g s5) (fun x17 => ?_)
              refine rf_cut (fun v18 => ?_) ?_
              · refine rf_gi (fun _ => rfl) (fun x24 => ?_)
                refine rf_cut (fun v25 => ?_) ?_
                · refine rf_pf H (fun _ _ => rfl) (by decide) ?_
                  exact rf_r
                · refine rf_ite ?_ ?_
                  · exact rf_r
                  · exact rf_r
              · refine rf_ite ?_ ?_
                · refine rf_on (rf_X4_of H g s5 3) (fun x22 => ?_)
                  refine rf_b (rf_X4_size H g x22) (fun x23 => ?_)
                  refine rf_ite ?_ ?_
                  · exact rf_r
                  · exact rf_r
                · refine rf_gr (fun _ => rfl) ?_
                  refine rf_ai H (by decide) (fun x21 => ?_)
                  refine rf_ite ?_ ?_
                  · exact rf_r
                  · exact rf_r
            · exact rf_r
theorem rf_X4_rate {c : TC} (H : tw_ok c) (g : sm_G) (p0 : Int32) : Rf c (f_X4_rate g c.1 p0) (t_X4_rate p0) := by
  unfold f_X4_rate t_X4_rate
  refine rf_on (rf_X4_weighted H g p0) (fun x1 => ?_)
  refine rf_on (rf_X4_of H g p0 2) (fun x2 => ?_)
  refine rf_dv (fun x3 => ?_)
  exact rf_r
theorem rf_X4_laysRates {c : TC} (H : tw_ok c) (g : sm_G) : Rf c (f_X4_laysRates g c.1) (t_X4_laysRates) := by
  unfold f_X4_laysRates t_X4_laysRates
  refine rf_loop (fun v11 => ?_) (fun s1 => ?_)
  · exact rf_r
  · refine rf_gr (fun _ => rfl) ?_
    refine rf_ai H (by decide) (fun x5 => ?_)
    refine rf_ite ?_ ?_
    · exact rf_r
    · refine rf_gr (fun _ => rfl) ?_
      refine rf_on (rf_X4_kind H g s1) (fun x7 => ?_)
      refine rf_cut (fun v8 => ?_) ?_
      · refine rf_pa H (by decide) ?_
        exact rf_r
      · refine rf_ite ?_ ?_
        · refine rf_on (rf_X4_rate H g s1) (fun x10 => ?_)
          exact rf_r
        · exact rf_r
theorem rf_X4_charges {c : TC} (H : tw_ok c) (g : sm_G) (p0 : Int32) : Rf c (f_X4_charges g c.1 p0) (t_X4_charges p0) := by
  unfold f_X4_charges t_X4_charges
  refine rf_loop (fun v16 => ?_) (fun s1 => ?_)
  · exact rf_r
  · refine rf_gr (fun _ => rfl) ?_
    refine rf_ai H (by decide) (fun x5 => ?_)
    refine rf_ite ?_ ?_
    · exact rf_r
    · refine rf_on (rf_X4_kind H g s1) (fun x6 => ?_)
      refine rf_cut (fun v7 => ?_) ?_
      · exact rf_r
      · refine rf_ite ?_ ?_
        · refine rf_gr (fun _ => rfl) ?_
          refine rf_ai H (by decide) (fun x10 => ?_)
          refine rf_gr (fun _ => rfl) ?_
          refine rf_ai H (by decide) (fun x12 => ?_)
          refine rf_dv (fun x13 => ?_)
          refine rf_b (rf_X4_held H g (x10 + x13) 10000000) (fun x14 => ?_)
          refine rf_on (rf_X4_puts H g s1 3 x14) (fun _ => ?_)
          exact rf_r
        · exact rf_r
theorem rf_X4_notesRecord {c : TC} (H : tw_ok c) (g : sm_G) : Rf c (f_X4_notesRecord g c.1) (t_X4_notesRecord) := by
  unfold f_X4_notesRecord t_X4_notesRecord
  refine rf_gr (fun _ => rfl) ?_
  refine rf_ai H (by decide) (fun x2 => ?_)
  refine rf_ite ?_ ?_
  · exact rf_r
  · refine rf_gr (fun _ => rfl) ?_
    refine rf_gr (fun _ => rfl) ?_
    refine rf_ai H (by decide) (fun x5 => ?_)
    refine rf_ai H (by decide) (fun x6 => ?_)
    refine rf_gr (fun _ => rfl) ?_
    refine rf_ai H (by decide) (fun x8 => ?_)
    refine rf_cut (fun v9 => ?_) ?_
    · refine rf_cut (fun v15 => ?_) ?_
      · refine rf_gr (fun _ => rfl) ?_
        refine rf_ai H (by decide) (fun x32 => ?_)
        refine rf_cut (fun v33 => ?_) ?_
        · refine rf_gr (fun _ => rfl) ?_
          refine rf_gr (fun _ => rfl) ?_
          refine rf_ai H (by decide) (fun x46 => ?_)
          refine rf_pa H (by decide) ?_
          refine rf_gr (fun _ => rfl) ?_
          refine rf_ai H (by decide) (fun x48 => ?_)
          refine rf_pa H (by decide) ?_
          exact rf_r
        · refine rf_ite ?_ ?_
          · refine rf_loop (fun v41 => ?_) (fun s35 => ?_)
            · refine rf_gr (fun _ => rfl) ?_
              refine rf_ai H (by decide) (fun x43 => ?_)
              refine rf_pa H (by decide) ?_
              exact rf_r
            · refine rf_ite ?_ ?_
              · exact rf_r
              · refine rf_gr (fun _ => rfl) ?_
                refine rf_gr (fun _ => rfl) ?_
                refine rf_ai H (by decide) (fun x40 => ?_)
                refine rf_pa H (by decide) ?_
                exact rf_r
          · exact rf_r
      · refine rf_ite ?_ ?_
        · exact rf_r
        · refine rf_gr (fun _ => rfl) ?_
          refine rf_ai H (by decide) (fun x18 => ?_)
          refine rf_pa H (by decide) ?_
          refine rf_gr (fun _ => rfl) ?_
          refine rf_gr (fun _ => rfl) ?_
          refine rf_ai H (by decide) (fun x21 => ?_)
          refine rf_cut (fun v22 => ?_) ?_
          · refine rf_pa H (by decide) ?_
            refine rf_gr (fun _ => rfl) ?_
            refine rf_gr (fun _ => rfl) ?_
            refine rf_ai H (by decide) (fun x30 => ?_)
            refine rf_pa H (by decide) ?_
            exact rf_r
          · refine rf_ite ?_ ?_
            · exact rf_r
            · refine rf_gr (fun _ => rfl) ?_
              refine rf_ai H (by decide) (fun x25 => ?_)
              refine rf_gr (fun _ => rfl) ?_
              refine rf_ai H (by decide) (fun x27 => ?_)
              exact rf_r
    · refine rf_ite ?_ ?_
      · exact rf_r
      · refine rf_gr (fun _ => rfl) ?_
        refine rf_gr (fun _ => rfl) ?_
        refine rf_ai H (by decide) (fun x13 => ?_)
        refine rf_ai H (by decide) (fun x14 => ?_)
        refine rf_ite ?_ ?_
        · exact rf_r
        · refine rf_ite ?_ ?_
          · exact rf_r
          · exact rf_r
theorem rf_X4_stepsOn {c : TC} (H : tw_ok c) (g : sm_G) (p0 : Int32) : Rf c (f_X4_stepsOn g c.1 p0) (t_X4_stepsOn p0) := by
  unfold f_X4_stepsOn t_X4_stepsOn
  refine rf_on (rf_X4_laysOuts H g) (fun _ => ?_)
  refine rf_on (rf_X4_laysRates H g) (fun _ => ?_)
  refine rf_loop (fun v10 => ?_) (fun s3 => ?_)
  · refine rf_gr (fun _ => rfl) ?_
    refine rf_ai H (by decide) (fun x12 => ?_)
    refine rf_cut (fun v13 => ?_) ?_
    · refine rf_on (rf_X4_charges H g 1) (fun _ => ?_)
      refine rf_on (rf_X4_laysOuts H g) (fun _ => ?_)
      refine rf_gr (fun _ => rfl) ?_
      refine rf_ai H (by decide) (fun x21 => ?_)
      refine rf_pa H (by decide) ?_
      refine rf_loop (fun v38 => ?_) (fun s22 => ?_)
      · refine rf_on (rf_X4_notesRecord H g) (fun _ => ?_)
        refine rf_gr (fun _ => rfl) ?_
        refine rf_cut (fun v41 => ?_) ?_
        · refine rf_pa H (by decide) ?_
          exact rf_r
        · refine rf_ite ?_ ?_
          · refine rf_gr (fun _ => rfl) ?_
            refine rf_ai H (by decide) (fun x44 => ?_)
            exact rf_r
          · refine rf_gi (fun _ => rfl) (fun x45 => ?_)
            refine rf_ite ?_ ?_
            · refine rf_gr (fun _ => rfl) ?_
              refine rf_ai H (by decide) (fun x47 => ?_)
              exact rf_r
            · exact rf_r
      · refine rf_gr (fun _ => rfl) ?_
        refine rf_ai H (by decide) (fun x26 => ?_)
        refine rf_ite ?_ ?_
        · exact rf_r
        · refine rf_gr (fun _ => rfl) ?_
          refine rf_ai H (by decide) (fun x28 => ?_)
          refine rf_b (rf_X4_size H g x28) (fun x29 => ?_)
          refine rf_on (rf_X4_of H g s22 4) (fun x30 => ?_)
          refine rf_cut (fun v31 => ?_) ?_
          · refine rf_on (rf_X4_puts H g s22 4 v31) (fun _ => ?_)
            exact rf_r
          · refine rf_ite ?_ ?_
            · refine rf_on (rf_X4_of H g s22 4) (fun x33 => ?_)
              exact rf_r
            · refine rf_gr (fun _ => rfl) ?_
              refine rf_ai H (by decide) (fun x35 => ?_)
              refine rf_b (rf_X4_size H g x35) (fun x36 => ?_)
              exact rf_r
    · refine rf_ite ?_ ?_
      · refine rf_on (rf_X4_charges H g 2) (fun _ => ?_)
        refine rf_on (rf_X4_laysOuts H g) (fun _ => ?_)
        refine rf_on (rf_X4_laysRates H g) (fun _ => ?_)
        exact rf_r
      · exact rf_r
  · refine rf_gr (fun _ => rfl) ?_
    refine rf_ai H (by decide) (fun x7 => ?_)
    refine rf_ite ?_ ?_
    · exact rf_r
    · refine rf_gr (fun _ => rfl) ?_
      refine rf_on (rf_X4_of H g s3 3) (fun x9 => ?_)
      refine rf_pa H (by decide) ?_
      exact rf_r
theorem rf_X4_passes {c : TC} (H : tw_ok c) (g : sm_G) (p0 : Int32) : Rf c (f_X4_passes g c.1 p0) (t_X4_passes p0) := by
  unfold f_X4_passes t_X4_passes
  refine rf_loop (fun v11 => ?_) (fun s1 => ?_)
  · exact rf_r
  · refine rf_ite ?_ ?_
    · exact rf_r
    · refine rf_gr (fun _ => rfl) ?_
      refine rf_ai H (by decide) (fun x5 => ?_)
      refine rf_ite ?_ ?_
      · refine rf_gr (fun _ => rfl) ?_
        refine rf_ai H (by decide) (fun x7 => ?_)
        refine rf_cut (fun v8 => ?_) ?_
        · refine rf_on (rf_X4_stepsOn H g v8) (fun _ => ?_)
          exact rf_r
        · refine rf_ite ?_ ?_
          · exact rf_r
          · exact rf_r
      · exact rf_r
theorem rf_X4_pass {c : TC} (H : tw_ok c) (g : sm_G) (p0 : Int32) : Rf c (f_X4_pass g c.1 p0) (t_X4_pass p0) := by
  unfold f_X4_pass t_X4_pass
  refine rf_b (rf_X4_within H g p0 1 999) (fun x1 => ?_)
  refine rf_cut (fun v2 => ?_) ?_
  · refine rf_pf H (fun _ _ => rfl) (by decide) ?_
    refine rf_gi (fun _ => rfl) (fun x5 => ?_)
    refine rf_ite ?_ ?_
    · refine rf_on (rf_X4_saves H g) (fun _ => ?_)
      refine rf_on (rf_X4_passes H g p0) (fun x7 => ?_)
      exact rf_r
    · exact rf_r
  · refine rf_ite ?_ ?_
    · exact rf_r
    · refine rf_on (rf_X4_canPass H g p0) (fun x4 => ?_)
      refine rf_ite ?_ ?_
      · exact rf_r
      · exact rf_r
theorem rf_X4_resets {c : TC} (H : tw_ok c) (g : sm_G) : Rf c (f_X4_resets g c.1) (t_X4_resets) := by
  unfold f_X4_resets t_X4_resets
  refine rf_loop (fun v12 => ?_) (fun s1 => ?_)
  · exact rf_r
  · refine rf_gr (fun _ => rfl) ?_
    refine rf_ai H (by decide) (fun x5 => ?_)
    refine rf_ite ?_ ?_
    · exact rf_r
    · refine rf_on (rf_X4_puts H g s1 4 0) (fun _ => ?_)
      refine rf_on (rf_X4_kind H g s1) (fun x7 => ?_)
      refine rf_cut (fun v8 => ?_) ?_
      · refine rf_on (rf_X4_puts H g s1 3 v8) (fun _ => ?_)
        exact rf_r
      · refine rf_ite ?_ ?_
        · refine rf_on (rf_X4_of H g s1 1) (fun x10 => ?_)
          exact rf_r
        · exact rf_r
theorem rf_X4_setMode {c : TC} (H : tw_ok c) (g : sm_G) (p0 : Int32) : Rf c (f_X4_setMode g c.1 p0) (t_X4_setMode p0) := by
  unfold f_X4_setMode t_X4_setMode
  refine rf_b (rf_X4_within H g p0 0 2) (fun x1 => ?_)
  refine rf_cut (fun v2 => ?_) ?_
  · refine rf_pf H (fun _ _ => rfl) (by decide) ?_
    refine rf_gi (fun _ => rfl) (fun x4 => ?_)
    refine rf_ite ?_ ?_
    · refine rf_on (rf_X4_saves H g) (fun _ => ?_)
      refine rf_gr (fun _ => rfl) ?_
      refine rf_ai H (by decide) (fun x7 => ?_)
      refine rf_gr (fun _ => rfl) ?_
      refine rf_pa H (by decide) ?_
      refine rf_cut (fun v9 => ?_) ?_
      · exact rf_r
      · refine rf_ite ?_ ?_
        · refine rf_on (rf_X4_resets H g) (fun _ => ?_)
          exact rf_r
        · exact rf_r
    · exact rf_r
  · refine rf_ite ?_ ?_
    · exact rf_r
    · exact rf_r
theorem rf_X4_setWay {c : TC} (H : tw_ok c) (g : sm_G) (p0 : Int32) : Rf c (f_X4_setWay g c.1 p0) (t_X4_setWay p0) := by
  unfold f_X4_setWay t_X4_setWay
  refine rf_b (rf_X4_within H g p0 0 1) (fun x1 => ?_)
  refine rf_cut (fun v2 => ?_) ?_
  · refine rf_pf H (fun _ _ => rfl) (by decide) ?_
    refine rf_gi (fun _ => rfl) (fun x4 => ?_)
    refine rf_ite ?_ ?_
    · refine rf_on (rf_X4_saves H g) (fun _ => ?_)
      refine rf_gr (fun _ => rfl) ?_
      refine rf_ai H (by decide) (fun x7 => ?_)
      refine rf_gr (fun _ => rfl) ?_
      refine rf_pa H (by decide) ?_
      exact rf_r
    · exact rf_r
  · refine rf_ite ?_ ?_
    · exact rf_r
    · exact rf_r
theorem rf_X4_turnGuard {c : TC} (H : tw_ok c) (g : sm_G) : Rf c (f_X4_turnGuard g c.1) (t_X4_turnGuard) := by
  unfold f_X4_turnGuard t_X4_turnGuard
  refine rf_pf H (fun _ _ => rfl) (by decide) ?_
  refine rf_on (rf_X4_saves H g) (fun _ => ?_)
  refine rf_gr (fun _ => rfl) ?_
  refine rf_gr (fun _ => rfl) ?_
  refine rf_ai H (by decide) (fun x4 => ?_)
  refine rf_pa H (by decide) ?_
  refine rf_gr (fun _ => rfl) ?_
  refine rf_ai H (by decide) (fun x6 => ?_)
  refine rf_cut (fun v7 => ?_) ?_
  · refine rf_z (fun _ => ?_)
    exact rf_r
  · refine rf_ite ?_ ?_
    · exact rf_r
    · exact rf_r
theorem rf_X4_record {c : TC} (H : tw_ok c) (g : sm_G) (p0 : Int32) : Rf c (f_X4_record g c.1 p0) (t_X4_record p0) := by
  unfold f_X4_record t_X4_record
  refine rf_cut (fun v1 => ?_) ?_
  · refine rf_pf H (fun _ _ => rfl) (by decide) ?_
    refine rf_gi (fun _ => rfl) (fun x4 => ?_)
    refine rf_ite ?_ ?_
    · refine rf_on (rf_X4_saves H g) (fun _ => ?_)
      refine rf_gr (fun _ => rfl) ?_
      refine rf_ai H (by decide) (fun x7 => ?_)
      refine rf_gr (fun _ => rfl) ?_
      refine rf_pa H (by decide) ?_
      refine rf_loop (fun v13 => ?_) (fun s9 => ?_)
      · refine rf_gr (fun _ => rfl) ?_
        refine rf_pa H (by decide) ?_
        refine rf_gr (fun _ => rfl) ?_
        refine rf_pa H (by decide) ?_
        refine rf_gr (fun _ => rfl) ?_
        refine rf_pa H (by decide) ?_
        refine rf_gr (fun _ => rfl) ?_
        refine rf_pa H (by decide) ?_
        exact rf_r
      · refine rf_ite ?_ ?_
        · exact rf_r
        · refine rf_gr (fun _ => rfl) ?_
          refine rf_pa H (by decide) ?_
          exact rf_r
    · exact rf_r
  · refine rf_ite ?_ ?_
    · exact rf_r
    · refine rf_on (rf_X4_isModule H g p0) (fun x3 => ?_)
      refine rf_ite ?_ ?_
      · exact rf_r
      · exact rf_r
theorem rf_X4_tells {c : TC} (H : tw_ok c) (g : sm_G) (p0 : Int32) : Rf c (f_X4_tells g c.1 p0) (t_X4_tells p0) := by
  unfold f_X4_tells t_X4_tells
  refine rf_pf H (fun _ _ => rfl) (by decide) ?_
  exact rf_r
theorem rf_X4_modules {c : TC} (H : tw_ok c) (g : sm_G) : Rf c (f_X4_modules g c.1) (t_X4_modules) := by
  unfold f_X4_modules t_X4_modules
  refine rf_gr (fun _ => rfl) ?_
  refine rf_ai H (by decide) (fun x2 => ?_)
  refine rf_on (rf_X4_tells H g x2) (fun x3 => ?_)
  exact rf_r
theorem rf_X4_asks {c : TC} (H : tw_ok c) (g : sm_G) (p0 : Int32) : Rf c (f_X4_asks g c.1 p0) (t_X4_asks p0) := by
  unfold f_X4_asks t_X4_asks
  refine rf_on (rf_X4_isModule H g p0) (fun x1 => ?_)
  refine rf_cut (fun v2 => ?_) ?_
  · refine rf_pf H (fun _ _ => rfl) (by decide) ?_
    refine rf_gi (fun _ => rfl) (fun x4 => ?_)
    refine rf_cut (fun v5 => ?_) ?_
    · refine rf_z (fun _ => ?_)
      exact rf_r
    · refine rf_ite ?_ ?_
      · exact rf_r
      · exact rf_r
  · refine rf_ite ?_ ?_
    · exact rf_r
    · exact rf_r
theorem rf_X4_kindOf {c : TC} (H : tw_ok c) (g : sm_G) (p0 : Int32) : Rf c (f_X4_kindOf g c.1 p0) (t_X4_kindOf p0) := by
  unfold f_X4_kindOf t_X4_kindOf
  refine rf_on (rf_X4_asks H g p0) (fun x1 => ?_)
  refine rf_cut (fun v2 => ?_) ?_
  · exact rf_r
  · refine rf_ite ?_ ?_
    · exact rf_r
    · refine rf_on (rf_X4_kind H g p0) (fun x4 => ?_)
      exact rf_r
theorem rf_X4_inputsOf {c : TC} (H : tw_ok c) (g : sm_G) (p0 : Int32) : Rf c (f_X4_inputsOf g c.1 p0) (t_X4_inputsOf p0) := by
  unfold f_X4_inputsOf t_X4_inputsOf
  refine rf_on (rf_X4_asks H g p0) (fun x1 => ?_)
  refine rf_cut (fun v2 => ?_) ?_
  · exact rf_r
  · refine rf_ite ?_ ?_
    · exact rf_r
    · refine rf_on (rf_X4_kind H g p0) (fun x4 => ?_)
      refine rf_b (rf_X4_inputsOfKind H g x4) (fun x5 => ?_)
      exact rf_r
theorem rf_X4_asksInput {c : TC} (H : tw_ok c) (g : sm_G) (p0 : Int32) (p1 : Int32) : Rf c (f_X4_asksInput g c.1 p0 p1) (t_X4_asksInput p0 p1) := by
  unfold f_X4_asksInput t_X4_asksInput
  refine rf_on (rf_X4_isInput H g p0 p1) (fun x1 => ?_)
  refine rf_cut (fun v2 => ?_) ?_
  · refine rf_pf H (fun _ _ => rfl) (by decide) ?_
    refine rf_gi (fun _ => rfl) (fun x4 => ?_)
    refine rf_cut (fun v5 => ?_) ?_
    · refine rf_z (fun _ => ?_)
      exact rf_r
    · refine rf_ite ?_ ?_
      · exact rf_r
      · exact rf_r
  · refine rf_ite ?_ ?_
    · exact rf_r
    · exact rf_r
theorem rf_X4_cordIn {c : TC} (H : tw_ok c) (g : sm_G) (p0 : Int32) (p1 : Int32) : Rf c (f_X4_cordIn g c.1 p0 p1) (t_X4_cordIn p0 p1) := by
  unfold f_X4_cordIn t_X4_cordIn
  refine rf_on (rf_X4_asksInput H g p0 p1) (fun x1 => ?_)
  refine rf_cut (fun v2 => ?_) ?_
  · exact rf_r
  · refine rf_ite ?_ ?_
    · exact rf_r
    · refine rf_on (rf_X4_of H g p0 (5 + p1)) (fun x4 => ?_)
      exact rf_r
theorem rf_X4_weightOf {c : TC} (H : tw_ok c) (g : sm_G) (p0 : Int32) (p1 : Int32) : Rf c (f_X4_weightOf g c.1 p0 p1) (t_X4_weightOf p0 p1) := by
  unfold f_X4_weightOf t_X4_weightOf
  refine rf_on (rf_X4_whyNoWeight H g p0 p1) (fun x1 => ?_)
  refine rf_pf H (fun _ _ => rfl) (by decide) ?_
  refine rf_gi (fun _ => rfl) (fun x2 => ?_)
  refine rf_cut (fun v3 => ?_) ?_
  · exact rf_r
  · refine rf_ite ?_ ?_
    · refine rf_on (rf_X4_of H g p0 (9 + p1)) (fun x5 => ?_)
      exact rf_r
    · exact rf_r
theorem rf_X4_settingOf {c : TC} (H : tw_ok c) (g : sm_G) (p0 : Int32) : Rf c (f_X4_settingOf g c.1 p0) (t_X4_settingOf p0) := by
  unfold f_X4_settingOf t_X4_settingOf
  refine rf_on (rf_X4_asks H g p0) (fun x1 => ?_)
  refine rf_cut (fun v2 => ?_) ?_
  · exact rf_r
  · refine rf_ite ?_ ?_
    · exact rf_r
    · refine rf_on (rf_X4_of H g p0 1) (fun x4 => ?_)
      exact rf_r
theorem rf_X4_asksIntegrator {c : TC} (H : tw_ok c) (g : sm_G) (p0 : Int32) : Rf c (f_X4_asksIntegrator g c.1 p0) (t_X4_asksIntegrator p0) := by
  unfold f_X4_asksIntegrator t_X4_asksIntegrator
  refine rf_on (rf_X4_isModule H g p0) (fun x1 => ?_)
  refine rf_cut (fun v2 => ?_) ?_
  · refine rf_pf H (fun _ _ => rfl) (by decide) ?_
    refine rf_gi (fun _ => rfl) (fun x5 => ?_)
    refine rf_cut (fun v6 => ?_) ?_
    · refine rf_z (fun _ => ?_)
      exact rf_r
    · refine rf_ite ?_ ?_
      · exact rf_r
      · exact rf_r
  · refine rf_ite ?_ ?_
    · exact rf_r
    · refine rf_on (rf_X4_kind H g p0) (fun x4 => ?_)
      refine rf_ite ?_ ?_
      · exact rf_r
      · exact rf_r
theorem rf_X4_speedOf {c : TC} (H : tw_ok c) (g : sm_G) (p0 : Int32) : Rf c (f_X4_speedOf g c.1 p0) (t_X4_speedOf p0) := by
  unfold f_X4_speedOf t_X4_speedOf
  refine rf_on (rf_X4_asksIntegrator H g p0) (fun x1 => ?_)
  refine rf_cut (fun v2 => ?_) ?_
  · exact rf_r
  · refine rf_ite ?_ ?_
    · exact rf_r
    · refine rf_on (rf_X4_of H g p0 2) (fun x4 => ?_)
      exact rf_r
theorem rf_X4_manyCords {c : TC} (H : tw_ok c) (g : sm_G) : Rf c (f_X4_manyCords g c.1) (t_X4_manyCords) := by
  unfold f_X4_manyCords t_X4_manyCords
  refine rf_loop (fun v14 => ?_) (fun s1 => ?_)
  · exact rf_r
  · refine rf_gr (fun _ => rfl) ?_
    refine rf_ai H (by decide) (fun x5 => ?_)
    refine rf_ite ?_ ?_
    · exact rf_r
    · refine rf_loop (fun v13 => ?_) (fun s6 => ?_)
      · exact rf_r
      · refine rf_ite ?_ ?_
        · exact rf_r
        · refine rf_on (rf_X4_of H g s1.2 (5 + s6.2)) (fun x9 => ?_)
          refine rf_cut (fun v10 => ?_) ?_
          · refine rf_rb (fun x12 => ?_)
            exact rf_r
          · refine rf_ite ?_ ?_
            · exact rf_r
            · exact rf_r
theorem rf_X4_cords {c : TC} (H : tw_ok c) (g : sm_G) : Rf c (f_X4_cords g c.1) (t_X4_cords) := by
  unfold f_X4_cords t_X4_cords
  refine rf_on (rf_X4_manyCords H g) (fun x1 => ?_)
  refine rf_on (rf_X4_tells H g x1) (fun x2 => ?_)
  exact rf_r
theorem rf_X4_mode {c : TC} (H : tw_ok c) (g : sm_G) : Rf c (f_X4_mode g c.1) (t_X4_mode) := by
  unfold f_X4_mode t_X4_mode
  refine rf_gr (fun _ => rfl) ?_
  refine rf_ai H (by decide) (fun x2 => ?_)
  refine rf_on (rf_X4_tells H g x2) (fun x3 => ?_)
  exact rf_r
theorem rf_X4_way {c : TC} (H : tw_ok c) (g : sm_G) : Rf c (f_X4_way g c.1) (t_X4_way) := by
  unfold f_X4_way t_X4_way
  refine rf_gr (fun _ => rfl) ?_
  refine rf_ai H (by decide) (fun x2 => ?_)
  refine rf_on (rf_X4_tells H g x2) (fun x3 => ?_)
  exact rf_r
theorem rf_X4_isGuarded {c : TC} (H : tw_ok c) (g : sm_G) : Rf c (f_X4_isGuarded g c.1) (t_X4_isGuarded) := by
  unfold f_X4_isGuarded t_X4_isGuarded
  refine rf_pf H (fun _ _ => rfl) (by decide) ?_
  refine rf_gr (fun _ => rfl) ?_
  refine rf_ai H (by decide) (fun x2 => ?_)
  refine rf_cut (fun v3 => ?_) ?_
  · refine rf_z (fun _ => ?_)
    exact rf_r
  · refine rf_ite ?_ ?_
    · exact rf_r
    · exact rf_r
theorem rf_X4_steps {c : TC} (H : tw_ok c) (g : sm_G) : Rf c (f_X4_steps g c.1) (t_X4_steps) := by
  unfold f_X4_steps t_X4_steps
  refine rf_gr (fun _ => rfl) ?_
  refine rf_ai H (by decide) (fun x2 => ?_)
  refine rf_on (rf_X4_tells H g x2) (fun x3 => ?_)
  exact rf_r
theorem rf_X4_output {c : TC} (H : tw_ok c) (g : sm_G) (p0 : Int32) : Rf c (f_X4_output g c.1 p0) (t_X4_output p0) := by
  unfold f_X4_output t_X4_output
  refine rf_on (rf_X4_laysOuts H g) (fun _ => ?_)
  refine rf_gr (fun _ => rfl) ?_
  refine rf_ai H (by decide) (fun x3 => ?_)
  exact rf_r
theorem rf_X4_outputOf {c : TC} (H : tw_ok c) (g : sm_G) (p0 : Int32) : Rf c (f_X4_outputOf g c.1 p0) (t_X4_outputOf p0) := by
  unfold f_X4_outputOf t_X4_outputOf
  refine rf_on (rf_X4_asks H g p0) (fun x1 => ?_)
  refine rf_cut (fun v2 => ?_) ?_
  · exact rf_r
  · refine rf_ite ?_ ?_
    · exact rf_r
    · refine rf_on (rf_X4_output H g p0) (fun x4 => ?_)
      exact rf_r
theorem rf_X4_outputByAsking {c : TC} (H : tw_ok c) (g : sm_G) (p0 : Int32) : Rf c (f_X4_outputByAsking g c.1 p0) (t_X4_outputByAsking p0) := by
  unfold f_X4_outputByAsking t_X4_outputByAsking
  refine rf_on (rf_X4_asks H g p0) (fun x1 => ?_)
  refine rf_cut (fun v2 => ?_) ?_
  · exact rf_r
  · refine rf_ite ?_ ?_
    · exact rf_r
    · refine rf_on (rf_X4_output H g p0) (fun x4 => ?_)
      exact rf_r
theorem rf_X4_inputNow {c : TC} (H : tw_ok c) (g : sm_G) (p0 : Int32) (p1 : Int32) : Rf c (f_X4_inputNow g c.1 p0 p1) (t_X4_inputNow p0 p1) := by
  unfold f_X4_inputNow t_X4_inputNow
  refine rf_on (rf_X4_laysOuts H g) (fun _ => ?_)
  refine rf_on (rf_X4_in H g p0 p1) (fun x2 => ?_)
  exact rf_r
theorem rf_X4_inputOf {c : TC} (H : tw_ok c) (g : sm_G) (p0 : Int32) (p1 : Int32) : Rf c (f_X4_inputOf g c.1 p0 p1) (t_X4_inputOf p0 p1) := by
  unfold f_X4_inputOf t_X4_inputOf
  refine rf_on (rf_X4_asksInput H g p0 p1) (fun x1 => ?_)
  refine rf_cut (fun v2 => ?_) ?_
  · exact rf_r
  · refine rf_ite ?_ ?_
    · exact rf_r
    · refine rf_on (rf_X4_inputNow H g p0 p1) (fun x4 => ?_)
      exact rf_r
theorem rf_X4_chargeOf {c : TC} (H : tw_ok c) (g : sm_G) (p0 : Int32) : Rf c (f_X4_chargeOf g c.1 p0) (t_X4_chargeOf p0) := by
  unfold f_X4_chargeOf t_X4_chargeOf
  refine rf_on (rf_X4_asksIntegrator H g p0) (fun x1 => ?_)
  refine rf_cut (fun v2 => ?_) ?_
  · exact rf_r
  · refine rf_ite ?_ ?_
    · exact rf_r
    · refine rf_on (rf_X4_of H g p0 3) (fun x4 => ?_)
      exact rf_r
theorem rf_X4_rateNow {c : TC} (H : tw_ok c) (g : sm_G) (p0 : Int32) : Rf c (f_X4_rateNow g c.1 p0) (t_X4_rateNow p0) := by
  unfold f_X4_rateNow t_X4_rateNow
  refine rf_on (rf_X4_laysOuts H g) (fun _ => ?_)
  refine rf_on (rf_X4_rate H g p0) (fun x2 => ?_)
  exact rf_r
theorem rf_X4_rateOf {c : TC} (H : tw_ok c) (g : sm_G) (p0 : Int32) : Rf c (f_X4_rateOf g c.1 p0) (t_X4_rateOf p0) := by
  unfold f_X4_rateOf t_X4_rateOf
  refine rf_on (rf_X4_asksIntegrator H g p0) (fun x1 => ?_)
  refine rf_cut (fun v2 => ?_) ?_
  · exact rf_r
  · refine rf_ite ?_ ?_
    · exact rf_r
    · refine rf_on (rf_X4_rateNow H g p0) (fun x4 => ?_)
      exact rf_r
theorem rf_X4_overNow {c : TC} (H : tw_ok c) (g : sm_G) : Rf c (f_X4_overNow g c.1) (t_X4_overNow) := by
  unfold f_X4_overNow t_X4_overNow
  refine rf_on (rf_X4_laysOuts H g) (fun _ => ?_)
  refine rf_gi (fun _ => rfl) (fun x2 => ?_)
  exact rf_r
theorem rf_X4_overloaded {c : TC} (H : tw_ok c) (g : sm_G) : Rf c (f_X4_overloaded g c.1) (t_X4_overloaded) := by
  unfold f_X4_overloaded t_X4_overloaded
  refine rf_on (rf_X4_overNow H g) (fun x1 => ?_)
  refine rf_on (rf_X4_tells H g x1) (fun x2 => ?_)
  exact rf_r
theorem rf_X4_peakOf {c : TC} (H : tw_ok c) (g : sm_G) (p0 : Int32) : Rf c (f_X4_peakOf g c.1 p0) (t_X4_peakOf p0) := by
  unfold f_X4_peakOf t_X4_peakOf
  refine rf_on (rf_X4_asks H g p0) (fun x1 => ?_)
  refine rf_cut (fun v2 => ?_) ?_
  · exact rf_r
  · refine rf_ite ?_ ?_
    · exact rf_r
    · refine rf_on (rf_X4_of H g p0 4) (fun x4 => ?_)
      exact rf_r
theorem rf_X4_scale {c : TC} (H : tw_ok c) (g : sm_G) (p0 : Int32) : Rf c (f_X4_scale g c.1 p0) (t_X4_scale p0) := by
  unfold f_X4_scale t_X4_scale
  refine rf_on (rf_X4_of H g p0 4) (fun x1 => ?_)
  refine rf_cut (fun v2 => ?_) ?_
  · exact rf_r
  · refine rf_ite ?_ ?_
    · exact rf_r
    · refine rf_on (rf_X4_of H g p0 4) (fun x4 => ?_)
      refine rf_dv (fun x5 => ?_)
      exact rf_r
theorem rf_X4_scaleOf {c : TC} (H : tw_ok c) (g : sm_G) (p0 : Int32) : Rf c (f_X4_scaleOf g c.1 p0) (t_X4_scaleOf p0) := by
  unfold f_X4_scaleOf t_X4_scaleOf
  refine rf_on (rf_X4_asks H g p0) (fun x1 => ?_)
  refine rf_cut (fun v2 => ?_) ?_
  · exact rf_r
  · refine rf_ite ?_ ?_
    · exact rf_r
    · refine rf_on (rf_X4_scale H g p0) (fun x4 => ?_)
      exact rf_r
theorem rf_X4_level {c : TC} (H : tw_ok c) (g : sm_G) (p0 : Int32) : Rf c (f_X4_level g c.1 p0) (t_X4_level p0) := by
  unfold f_X4_level t_X4_level
  refine rf_on (rf_X4_laysLevels H g) (fun _ => ?_)
  refine rf_gr (fun _ => rfl) ?_
  refine rf_ai H (by decide) (fun x3 => ?_)
  exact rf_r
theorem rf_X4_levelOf {c : TC} (H : tw_ok c) (g : sm_G) (p0 : Int32) : Rf c (f_X4_levelOf g c.1 p0) (t_X4_levelOf p0) := by
  unfold f_X4_levelOf t_X4_levelOf
  refine rf_on (rf_X4_asks H g p0) (fun x1 => ?_)
  refine rf_cut (fun v2 => ?_) ?_
  · exact rf_r
  · refine rf_ite ?_ ?_
    · exact rf_r
    · refine rf_on (rf_X4_level H g p0) (fun x4 => ?_)
      exact rf_r
theorem rf_X4_feeders {c : TC} (H : tw_ok c) (g : sm_G) (p0 : Int32) : Rf c (f_X4_feeders g c.1 p0) (t_X4_feeders p0) := by
  unfold f_X4_feeders t_X4_feeders
  refine rf_on (rf_X4_asks H g p0) (fun x1 => ?_)
  refine rf_cut (fun v2 => ?_) ?_
  · exact rf_r
  · refine rf_ite ?_ ?_
    · exact rf_r
    · refine rf_on (rf_X4_feedersOf H g p0) (fun x4 => ?_)
      exact rf_r
theorem rf_X4_dependsOn {c : TC} (H : tw_ok c) (g : sm_G) (p0 : Int32) : Rf c (f_X4_dependsOn g c.1 p0) (t_X4_dependsOn p0) := by
  unfold f_X4_dependsOn t_X4_dependsOn
  refine rf_on (rf_X4_asks H g p0) (fun x1 => ?_)
  refine rf_cut (fun v2 => ?_) ?_
  · exact rf_r
  · refine rf_ite ?_ ?_
    · exact rf_r
    · refine rf_on (rf_X4_depends H g p0 1) (fun x4 => ?_)
      exact rf_r
theorem rf_X4_dependsByTable {c : TC} (H : tw_ok c) (g : sm_G) (p0 : Int32) : Rf c (f_X4_dependsByTable g c.1 p0) (t_X4_dependsByTable p0) := by
  unfold f_X4_dependsByTable t_X4_dependsByTable
  refine rf_on (rf_X4_asks H g p0) (fun x1 => ?_)
  refine rf_cut (fun v2 => ?_) ?_
  · exact rf_r
  · refine rf_ite ?_ ?_
    · exact rf_r
    · refine rf_on (rf_X4_depends H g p0 1) (fun x4 => ?_)
      exact rf_r
theorem rf_X4_circling {c : TC} (H : tw_ok c) (g : sm_G) : Rf c (f_X4_circling g c.1) (t_X4_circling) := by
  unfold f_X4_circling t_X4_circling
  refine rf_loop (fun v11 => ?_) (fun s1 => ?_)
  · exact rf_r
  · refine rf_gr (fun _ => rfl) ?_
    refine rf_ai H (by decide) (fun x5 => ?_)
    refine rf_ite ?_ ?_
    · exact rf_r
    · refine rf_on (rf_X4_depends H g s1.2 1) (fun x6 => ?_)
      refine rf_b (rf_X4_has H g x6 s1.2) (fun x7 => ?_)
      refine rf_cut (fun v8 => ?_) ?_
      · refine rf_rb (fun x10 => ?_)
        exact rf_r
      · refine rf_ite ?_ ?_
        · exact rf_r
        · exact rf_r
theorem rf_X4_inCircles {c : TC} (H : tw_ok c) (g : sm_G) : Rf c (f_X4_inCircles g c.1) (t_X4_inCircles) := by
  unfold f_X4_inCircles t_X4_inCircles
  refine rf_on (rf_X4_circling H g) (fun x1 => ?_)
  refine rf_on (rf_X4_tells H g x1) (fun x2 => ?_)
  exact rf_r
theorem rf_X4_endSet {c : TC} (H : tw_ok c) (g : sm_G) : Rf c (f_X4_endSet g c.1) (t_X4_endSet) := by
  unfold f_X4_endSet t_X4_endSet
  refine rf_gr (fun _ => rfl) ?_
  refine rf_ai H (by decide) (fun x2 => ?_)
  refine rf_rb (fun x3 => ?_)
  refine rf_loop (fun v11 => ?_) (fun s4 => ?_)
  · exact rf_r
  · refine rf_gr (fun _ => rfl) ?_
    refine rf_ai H (by decide) (fun x8 => ?_)
    refine rf_ite ?_ ?_
    · exact rf_r
    · refine rf_on (rf_X4_feedersOf H g s4.2) (fun x9 => ?_)
      refine rf_rb (fun x10 => ?_)
      exact rf_r
theorem rf_X4_ends {c : TC} (H : tw_ok c) (g : sm_G) : Rf c (f_X4_ends g c.1) (t_X4_ends) := by
  unfold f_X4_ends t_X4_ends
  refine rf_on (rf_X4_endSet H g) (fun x1 => ?_)
  refine rf_on (rf_X4_tells H g x1) (fun x2 => ?_)
  exact rf_r
theorem rf_X4_recorded {c : TC} (H : tw_ok c) (g : sm_G) : Rf c (f_X4_recorded g c.1) (t_X4_recorded) := by
  unfold f_X4_recorded t_X4_recorded
  refine rf_gr (fun _ => rfl) ?_
  refine rf_ai H (by decide) (fun x2 => ?_)
  refine rf_on (rf_X4_tells H g x2) (fun x3 => ?_)
  exact rf_r
theorem rf_X4_records {c : TC} (H : tw_ok c) (g : sm_G) : Rf c (f_X4_records g c.1) (t_X4_records) := by
  unfold f_X4_records t_X4_records
  refine rf_gr (fun _ => rfl) ?_
  refine rf_ai H (by decide) (fun x2 => ?_)
  refine rf_on (rf_X4_tells H g x2) (fun x3 => ?_)
  exact rf_r
theorem rf_X4_recordAt {c : TC} (H : tw_ok c) (g : sm_G) (p0 : Int32) : Rf c (f_X4_recordAt g c.1 p0) (t_X4_recordAt p0) := by
  unfold f_X4_recordAt t_X4_recordAt
  refine rf_gr (fun _ => rfl) ?_
  refine rf_ai H (by decide) (fun x2 => ?_)
  refine rf_b (rf_X4_within H g p0 0 (x2 - 1)) (fun x3 => ?_)
  refine rf_cut (fun v4 => ?_) ?_
  · refine rf_pf H (fun _ _ => rfl) (by decide) ?_
    refine rf_gi (fun _ => rfl) (fun x6 => ?_)
    refine rf_cut (fun v7 => ?_) ?_
    · exact rf_r
    · refine rf_ite ?_ ?_
      · refine rf_gr (fun _ => rfl) ?_
        refine rf_gr (fun _ => rfl) ?_
        refine rf_ai H (by decide) (fun x11 => ?_)
        refine rf_ai H (by decide) (fun x12 => ?_)
        exact rf_r
      · exact rf_r
  · refine rf_ite ?_ ?_
    · exact rf_r
    · exact rf_r
theorem rf_X4_crossings {c : TC} (H : tw_ok c) (g : sm_G) : Rf c (f_X4_crossings g c.1) (t_X4_crossings) := by
  unfold f_X4_crossings t_X4_crossings
  refine rf_gr (fun _ => rfl) ?_
  refine rf_ai H (by decide) (fun x2 => ?_)
  refine rf_on (rf_X4_tells H g x2) (fun x3 => ?_)
  exact rf_r
theorem rf_X4_beat {c : TC} (H : tw_ok c) (g : sm_G) : Rf c (f_X4_beat g c.1) (t_X4_beat) := by
  unfold f_X4_beat t_X4_beat
  refine rf_gr (fun _ => rfl) ?_
  refine rf_ai H (by decide) (fun x2 => ?_)
  refine rf_on (rf_X4_tells H g x2) (fun x3 => ?_)
  exact rf_r
theorem rf_X4_mean {c : TC} (H : tw_ok c) (g : sm_G) : Rf c (f_X4_mean g c.1) (t_X4_mean) := by
  unfold f_X4_mean t_X4_mean
  refine rf_loop (fun v9 => ?_) (fun s1 => ?_)
  · refine rf_gr (fun _ => rfl) ?_
    refine rf_ai H (by decide) (fun x11 => ?_)
    refine rf_cut (fun v12 => ?_) ?_
    · exact rf_r
    · refine rf_ite ?_ ?_
      · exact rf_r
      · refine rf_gr (fun _ => rfl) ?_
        refine rf_ai H (by decide) (fun x15 => ?_)
        refine rf_dd (fun x16 => ?_)
        exact rf_r
  · refine rf_gr (fun _ => rfl) ?_
    refine rf_ai H (by decide) (fun x5 => ?_)
    refine rf_ite ?_ ?_
    · exact rf_r
    · refine rf_gr (fun _ => rfl) ?_
      refine rf_ai H (by decide) (fun x7 => ?_)
      refine rf_rb (fun x8 => ?_)
      exact rf_r
theorem rf_X4_meanRecord {c : TC} (H : tw_ok c) (g : sm_G) : Rf c (f_X4_meanRecord g c.1) (t_X4_meanRecord) := by
  unfold f_X4_meanRecord t_X4_meanRecord
  refine rf_pf H (fun _ _ => rfl) (by decide) ?_
  refine rf_on (rf_X4_mean H g) (fun x1 => ?_)
  exact rf_r
theorem rf_X4_wouldCircle {c : TC} (H : tw_ok c) (g : sm_G) (p0 : Int32) (p1 : Int32) : Rf c (f_X4_wouldCircle g c.1 p0 p1) (t_X4_wouldCircle p0 p1) := by
  unfold f_X4_wouldCircle t_X4_wouldCircle
  refine rf_on (rf_X4_isModule H g p0) (fun x1 => ?_)
  refine rf_cut (fun v2 => ?_) ?_
  · refine rf_pf H (fun _ _ => rfl) (by decide) ?_
    refine rf_gi (fun _ => rfl) (fun x5 => ?_)
    refine rf_cut (fun v6 => ?_) ?_
    · refine rf_z (fun _ => ?_)
      exact rf_r
    · refine rf_ite ?_ ?_
      · refine rf_on (rf_X4_circles H g p0 p1) (fun x8 => ?_)
        refine rf_ite ?_ ?_
        · exact rf_r
        · exact rf_r
      · exact rf_r
  · refine rf_ite ?_ ?_
    · exact rf_r
    · refine rf_on (rf_X4_isModule H g p1) (fun x4 => ?_)
      refine rf_ite ?_ ?_
      · exact rf_r
      · exact rf_r
theorem rf_X4_keeps {c : TC} (H : tw_ok c) (g : sm_G) : Rf c (f_X4_keeps g c.1) (t_X4_keeps) := by
  unfold f_X4_keeps t_X4_keeps
  refine rf_loop (fun v7 => ?_) (fun s1 => ?_)
  · exact rf_r
  · refine rf_ite ?_ ?_
    · exact rf_r
    · refine rf_gr (fun _ => rfl) ?_
      refine rf_gr (fun _ => rfl) ?_
      refine rf_ai H (by decide) (fun x6 => ?_)
      refine rf_pa H (by decide) ?_
      exact rf_r
theorem rf_X4_returns {c : TC} (H : tw_ok c) (g : sm_G) : Rf c (f_X4_returns g c.1) (t_X4_returns) := by
  unfold f_X4_returns t_X4_returns
  refine rf_loop (fun v7 => ?_) (fun s1 => ?_)
  · exact rf_r
  · refine rf_ite ?_ ?_
    · exact rf_r
    · refine rf_gr (fun _ => rfl) ?_
      refine rf_gr (fun _ => rfl) ?_
      refine rf_ai H (by decide) (fun x6 => ?_)
      refine rf_pa H (by decide) ?_
      exact rf_r
theorem rf_X4_outputThen {c : TC} (H : tw_ok c) (g : sm_G) (p0 : Int32) (p1 : Int32) : Rf c (f_X4_outputThen g c.1 p0 p1) (t_X4_outputThen p0 p1) := by
  unfold f_X4_outputThen t_X4_outputThen
  refine rf_on (rf_X4_keeps H g) (fun _ => ?_)
  refine rf_gr (fun _ => rfl) ?_
  refine rf_pa H (by decide) ?_
  refine rf_on (rf_X4_passes H g p1) (fun x3 => ?_)
  refine rf_on (rf_X4_output H g p0) (fun x4 => ?_)
  refine rf_on (rf_X4_returns H g) (fun _ => ?_)
  exact rf_r
theorem rf_X4_outputIn {c : TC} (H : tw_ok c) (g : sm_G) (p0 : Int32) (p1 : Int32) : Rf c (f_X4_outputIn g c.1 p0 p1) (t_X4_outputIn p0 p1) := by
  unfold f_X4_outputIn t_X4_outputIn
  refine rf_on (rf_X4_isModule H g p0) (fun x1 => ?_)
  refine rf_cut (fun v2 => ?_) ?_
  · refine rf_pf H (fun _ _ => rfl) (by decide) ?_
    refine rf_gi (fun _ => rfl) (fun x5 => ?_)
    refine rf_cut (fun v6 => ?_) ?_
    · exact rf_r
    · refine rf_ite ?_ ?_
      · refine rf_on (rf_X4_outputThen H g p0 p1) (fun x8 => ?_)
        exact rf_r
      · exact rf_r
  · refine rf_ite ?_ ?_
    · exact rf_r
    · refine rf_b (rf_X4_within H g p1 1 200) (fun x4 => ?_)
      refine rf_ite ?_ ?_
      · exact rf_r
      · exact rf_r
theorem rf_X4_untilOver {c : TC} (H : tw_ok c) (g : sm_G) : Rf c (f_X4_untilOver g c.1) (t_X4_untilOver) := by
  unfold f_X4_untilOver t_X4_untilOver
  refine rf_on (rf_X4_keeps H g) (fun _ => ?_)
  refine rf_on (rf_X4_laysOuts H g) (fun _ => ?_)
  refine rf_loop (fun v8 => ?_) (fun s3 => ?_)
  · refine rf_gi (fun _ => rfl) (fun x9 => ?_)
    refine rf_cut (fun v10 => ?_) ?_
    · refine rf_on (rf_X4_returns H g) (fun _ => ?_)
      refine rf_cut (fun v13 => ?_) ?_
      · exact rf_r
      · refine rf_ite ?_ ?_
        · exact rf_r
        · exact rf_r
    · refine rf_ite ?_ ?_
      · exact rf_r
      · exact rf_r
  · refine rf_gi (fun _ => rfl) (fun x6 => ?_)
    refine rf_ite ?_ ?_
    · refine rf_ite ?_ ?_
      · exact rf_r
      · refine rf_on (rf_X4_stepsOn H g 0) (fun _ => ?_)
        exact rf_r
    · exact rf_r
theorem rf_X4_stepsUntilOverload {c : TC} (H : tw_ok c) (g : sm_G) : Rf c (f_X4_stepsUntilOverload g c.1) (t_X4_stepsUntilOverload) := by
  unfold f_X4_stepsUntilOverload t_X4_stepsUntilOverload
  refine rf_on (rf_X4_untilOver H g) (fun x1 => ?_)
  refine rf_on (rf_X4_tells H g x1) (fun x2 => ?_)
  exact rf_r
theorem rf_X4_best {c : TC} (H : tw_ok c) (g : sm_G) (p0 : Int32) (p1 : Int32) (p2 : Int32) : Rf c (f_X4_best g c.1 p0 p1 p2) (t_X4_best p0 p1 p2) := by
  unfold f_X4_best t_X4_best
  refine rf_on (rf_X4_of H g p0 1) (fun x1 => ?_)
  refine rf_loop (fun v13 => ?_) (fun s2 => ?_)
  · refine rf_on (rf_X4_puts H g p0 1 x1) (fun _ => ?_)
    exact rf_r
  · refine rf_ite ?_ ?_
    · exact rf_r
    · refine rf_on (rf_X4_puts H g p0 1 s2.2.2) (fun _ => ?_)
      refine rf_on (rf_X4_outputThen H g p1 20) (fun x6 => ?_)
      refine rf_b (rf_X4_size H g x6) (fun x7 => ?_)
      refine rf_b (rf_X4_size H g (x7 - p2)) (fun x8 => ?_)
      refine rf_cut (fun v9 => ?_) ?_
      · refine rf_cut (fun v11 => ?_) ?_
        · exact rf_r
        · refine rf_ite ?_ ?_
          · exact rf_r
          · exact rf_r
      · refine rf_ite ?_ ?_
        · exact rf_r
        · refine rf_ite ?_ ?_
          · exact rf_r
          · exact rf_r
theorem rf_X4_bestFactor {c : TC} (H : tw_ok c) (g : sm_G) (p0 : Int32) (p1 : Int32) (p2 : Int32) : Rf c (f_X4_bestFactor g c.1 p0 p1 p2) (t_X4_bestFactor p0 p1 p2) := by
  unfold f_X4_bestFactor t_X4_bestFactor
  refine rf_on (rf_X4_isModule H g p0) (fun x1 => ?_)
  refine rf_cut (fun v2 => ?_) ?_
  · refine rf_pf H (fun _ _ => rfl) (by decide) ?_
    refine rf_gi (fun _ => rfl) (fun x7 => ?_)
    refine rf_cut (fun v8 => ?_) ?_
    · exact rf_r
    · refine rf_ite ?_ ?_
      · refine rf_on (rf_X4_best H g p0 p1 p2) (fun x10 => ?_)
        exact rf_r
      · exact rf_r
  · refine rf_ite ?_ ?_
    · exact rf_r
    · refine rf_on (rf_X4_isModule H g p1) (fun x4 => ?_)
      refine rf_ite ?_ ?_
      · exact rf_r
      · refine rf_on (rf_X4_kind H g p0) (fun x5 => ?_)
        refine rf_ite ?_ ?_
        · refine rf_b (rf_X4_within H g p2 0 10000) (fun x6 => ?_)
          refine rf_ite ?_ ?_
          · exact rf_r
          · exact rf_r
        · exact rf_r
theorem rf_X4_keep {c : TC} (H : tw_ok c) (g : sm_G) : Rf c (f_X4_keep g c.1) (t_X4_keep) := by
  unfold f_X4_keep t_X4_keep
  refine rf_pf H (fun _ _ => rfl) (by decide) ?_
  refine rf_pf H (fun _ _ => rfl) (by decide) ?_
  refine rf_loop (fun v7 => ?_) (fun s1 => ?_)
  · refine rf_gr (fun _ => rfl) ?_
    refine rf_ai H (by decide) (fun x9 => ?_)
    exact rf_r
  · refine rf_ite ?_ ?_
    · exact rf_r
    · refine rf_gr (fun _ => rfl) ?_
      refine rf_gr (fun _ => rfl) ?_
      refine rf_ai H (by decide) (fun x6 => ?_)
      refine rf_pa H (by decide) ?_
      exact rf_r
theorem rf_X4_goBack {c : TC} (H : tw_ok c) (g : sm_G) : Rf c (f_X4_goBack g c.1) (t_X4_goBack) := by
  unfold f_X4_goBack t_X4_goBack
  refine rf_gi (fun _ => rfl) (fun x1 => ?_)
  refine rf_cut (fun v2 => ?_) ?_
  · refine rf_pf H (fun _ _ => rfl) (by decide) ?_
    refine rf_gi (fun _ => rfl) (fun x4 => ?_)
    refine rf_ite ?_ ?_
    · refine rf_on (rf_X4_saves H g) (fun _ => ?_)
      refine rf_loop (fun v12 => ?_) (fun s6 => ?_)
      · refine rf_gr (fun _ => rfl) ?_
        refine rf_ai H (by decide) (fun x14 => ?_)
        exact rf_r
      · refine rf_ite ?_ ?_
        · exact rf_r
        · refine rf_gr (fun _ => rfl) ?_
          refine rf_gr (fun _ => rfl) ?_
          refine rf_ai H (by decide) (fun x11 => ?_)
          refine rf_pa H (by decide) ?_
          exact rf_r
    · exact rf_r
  · refine rf_ite ?_ ?_
    · exact rf_r
    · exact rf_r
theorem rf_X4_append {c : TC} (H : tw_ok c) (g : sm_G) (p0 : Int32) : Rf c (f_X4_append g c.1 p0) (t_X4_append p0) := by
  unfold f_X4_append t_X4_append
  refine rf_b (rf_X4_within H g p0 33 126) (fun x1 => ?_)
  refine rf_cut (fun v2 => ?_) ?_
  · refine rf_pf H (fun _ _ => rfl) (by decide) ?_
    refine rf_gi (fun _ => rfl) (fun x5 => ?_)
    refine rf_ite ?_ ?_
    · refine rf_gr (fun _ => rfl) ?_
      refine rf_gi (fun _ => rfl) (fun x7 => ?_)
      refine rf_pa H (by decide) ?_
      refine rf_gi (fun _ => rfl) (fun x8 => ?_)
      refine rf_pf H (fun _ _ => rfl) (by decide) ?_
      refine rf_gi (fun _ => rfl) (fun x9 => ?_)
      exact rf_r
    · exact rf_r
  · refine rf_ite ?_ ?_
    · exact rf_r
    · refine rf_gi (fun _ => rfl) (fun x4 => ?_)
      refine rf_ite ?_ ?_
      · exact rf_r
      · exact rf_r
theorem rf_X4_clearText {c : TC} (H : tw_ok c) (g : sm_G) : Rf c (f_X4_clearText g c.1) (t_X4_clearText) := by
  unfold f_X4_clearText t_X4_clearText
  refine rf_pf H (fun _ _ => rfl) (by decide) ?_
  refine rf_gi (fun _ => rfl) (fun x1 => ?_)
  refine rf_pf H (fun _ _ => rfl) (by decide) ?_
  exact rf_r
theorem rf_X4_accepts {c : TC} (H : tw_ok c) (g : sm_G) (p0 : Int32) (p1 : Int32) : Rf c (f_X4_accepts g c.1 p0 p1) (t_X4_accepts p0 p1) := by
  unfold f_X4_accepts t_X4_accepts
  refine rf_gi (fun _ => rfl) (fun x1 => ?_)
  refine rf_gi (fun _ => rfl) (fun x2 => ?_)
  refine rf_cut (fun v3 => ?_) ?_
  · refine rf_gi (fun _ => rfl) (fun x9 => ?_)
    refine rf_cut (fun v10 => ?_) ?_
    · refine rf_pf H (fun _ _ => rfl) (by decide) ?_
      refine rf_z (fun _ => ?_)
      exact rf_r
    · refine rf_ite ?_ ?_
      · exact rf_r
      · exact rf_r
  · refine rf_ite ?_ ?_
    · exact rf_r
    · refine rf_gr (fun _ => rfl) ?_
      refine rf_gi (fun _ => rfl) (fun x6 => ?_)
      refine rf_ai H (by decide) (fun x7 => ?_)
      refine rf_b (rf_X4_within H g x7 p0 p1) (fun x8 => ?_)
      refine rf_ite ?_ ?_
      · exact rf_r
      · exact rf_r
theorem rf_X4_readsNumber {c : TC} (H : tw_ok c) (g : sm_G) (p0 : Int32) (p1 : Int32) : Rf c (f_X4_readsNumber g c.1 p0 p1) (t_X4_readsNumber p0 p1) := by
  unfold f_X4_readsNumber t_X4_readsNumber
  refine rf_cut (fun v1 => ?_) ?_
  · refine rf_on (rf_X4_accepts H g (48 + p0) v1) (fun x3 => ?_)
    refine rf_ite ?_ ?_
    · exact rf_r
    · refine rf_gr (fun _ => rfl) ?_
      refine rf_gi (fun _ => rfl) (fun x5 => ?_)
      refine rf_ai H (by decide) (fun x6 => ?_)
      refine rf_pf H (fun _ _ => rfl) (by decide) ?_
      refine rf_loop (fun v26 => ?_) (fun s7 => ?_)
      · exact rf_r
      · refine rf_gi (fun _ => rfl) (fun x10 => ?_)
        refine rf_ite ?_ ?_
        · exact rf_r
        · refine rf_gi (fun _ => rfl) (fun x11 => ?_)
          refine rf_gi (fun _ => rfl) (fun x12 => ?_)
          refine rf_ite ?_ ?_
          · exact rf_r
          · refine rf_gr (fun _ => rfl) ?_
            refine rf_gi (fun _ => rfl) (fun x14 => ?_)
            refine rf_ai H (by decide) (fun x15 => ?_)
            refine rf_b (rf_X4_within H g x15 48 57) (fun x16 => ?_)
            refine rf_ite ?_ ?_
            · exact rf_r
            · refine rf_gi (fun _ => rfl) (fun x17 => ?_)
              refine rf_gr (fun _ => rfl) ?_
              refine rf_gi (fun _ => rfl) (fun x19 => ?_)
              refine rf_ai H (by decide) (fun x20 => ?_)
              refine rf_ite ?_ ?_
              · exact rf_r
              · refine rf_gi (fun _ => rfl) (fun x21 => ?_)
                refine rf_gr (fun _ => rfl) ?_
                refine rf_gi (fun _ => rfl) (fun x23 => ?_)
                refine rf_ai H (by decide) (fun x24 => ?_)
                refine rf_pf H (fun _ _ => rfl) (by decide) ?_
                refine rf_gi (fun _ => rfl) (fun x25 => ?_)
                refine rf_pf H (fun _ _ => rfl) (by decide) ?_
                exact rf_r
  · refine rf_ite ?_ ?_
    · exact rf_r
    · exact rf_r
theorem rf_X4_readsModule {c : TC} (H : tw_ok c) (g : sm_G) : Rf c (f_X4_readsModule g c.1) (t_X4_readsModule) := by
  unfold f_X4_readsModule t_X4_readsModule
  refine rf_on (rf_X4_readsNumber H g 0 15) (fun x1 => ?_)
  refine rf_gi (fun _ => rfl) (fun x2 => ?_)
  refine rf_pf H (fun _ _ => rfl) (by decide) ?_
  refine rf_z (fun _ => ?_)
  exact rf_r
theorem rf_X4_readsInput {c : TC} (H : tw_ok c) (g : sm_G) : Rf c (f_X4_readsInput g c.1) (t_X4_readsInput) := by
  unfold f_X4_readsInput t_X4_readsInput
  refine rf_on (rf_X4_accepts H g 46 46) (fun x1 => ?_)
  refine rf_cut (fun v2 => ?_) ?_
  · refine rf_gi (fun _ => rfl) (fun x5 => ?_)
    refine rf_pf H (fun _ _ => rfl) (by decide) ?_
    refine rf_z (fun _ => ?_)
    exact rf_r
  · refine rf_ite ?_ ?_
    · exact rf_r
    · refine rf_on (rf_X4_readsNumber H g 0 3) (fun x4 => ?_)
      refine rf_ite ?_ ?_
      · exact rf_r
      · exact rf_r
theorem rf_X4_readsJoin {c : TC} (H : tw_ok c) (g : sm_G) : Rf c (f_X4_readsJoin g c.1) (t_X4_readsJoin) := by
  unfold f_X4_readsJoin t_X4_readsJoin
  refine rf_on (rf_X4_readsModule H g) (fun x1 => ?_)
  refine rf_ite ?_ ?_
  · exact rf_r
  · refine rf_on (rf_X4_accepts H g 62 62) (fun x2 => ?_)
    refine rf_ite ?_ ?_
    · exact rf_r
    · refine rf_on (rf_X4_readsNumber H g 0 15) (fun x3 => ?_)
      refine rf_ite ?_ ?_
      · exact rf_r
      · refine rf_gi (fun _ => rfl) (fun x4 => ?_)
        refine rf_pf H (fun _ _ => rfl) (by decide) ?_
        refine rf_on (rf_X4_readsInput H g) (fun x5 => ?_)
        refine rf_z (fun _ => ?_)
        exact rf_r
theorem rf_X4_readsVoltage {c : TC} (H : tw_ok c) (g : sm_G) : Rf c (f_X4_readsVoltage g c.1) (t_X4_readsVoltage) := by
  unfold f_X4_readsVoltage t_X4_readsVoltage
  refine rf_on (rf_X4_accepts H g 45 45) (fun x1 => ?_)
  refine rf_on (rf_X4_readsNumber H g 0 10000) (fun x2 => ?_)
  refine rf_cut (fun v3 => ?_) ?_
  · refine rf_pf H (fun _ _ => rfl) (by decide) ?_
    refine rf_z (fun _ => ?_)
    exact rf_r
  · refine rf_ite ?_ ?_
    · refine rf_gi (fun _ => rfl) (fun x5 => ?_)
      exact rf_r
    · refine rf_gi (fun _ => rfl) (fun x6 => ?_)
      exact rf_r
theorem rf_X4_readsItem {c : TC} (H : tw_ok c) (g : sm_G) : Rf c (f_X4_readsItem g c.1) (t_X4_readsItem) := by
  unfold f_X4_readsItem t_X4_readsItem
  refine rf_gi (fun _ => rfl) (fun x1 => ?_)
  refine rf_gi (fun _ => rfl) (fun x2 => ?_)
  refine rf_cut (fun v3 => ?_) ?_
  · refine rf_pf H (fun _ _ => rfl) (by decide) ?_
    refine rf_gi (fun _ => rfl) (fun x8 => ?_)
    refine rf_cut (fun v9 => ?_) ?_
    · refine rf_gi (fun _ => rfl) (fun x20 => ?_)
      refine rf_cut (fun v21 => ?_) ?_
      · refine rf_z (fun _ => ?_)
        exact rf_r
      · refine rf_ite ?_ ?_
        · refine rf_on (rf_X4_readsNumber H g 0 5) (fun x37 => ?_)
          exact rf_r
        · refine rf_gi (fun _ => rfl) (fun x23 => ?_)
          refine rf_ite ?_ ?_
          · refine rf_on (rf_X4_readsNumber H g 1 999) (fun x36 => ?_)
            exact rf_r
          · refine rf_gi (fun _ => rfl) (fun x24 => ?_)
            refine rf_ite ?_ ?_
            · refine rf_on (rf_X4_readsModule H g) (fun x34 => ?_)
              refine rf_ite ?_ ?_
              · exact rf_r
              · refine rf_on (rf_X4_readsInput H g) (fun x35 => ?_)
                refine rf_ite ?_ ?_
                · exact rf_r
                · exact rf_r
            · refine rf_gi (fun _ => rfl) (fun x25 => ?_)
              refine rf_ite ?_ ?_
              · refine rf_on (rf_X4_readsModule H g) (fun x31 => ?_)
                refine rf_ite ?_ ?_
                · exact rf_r
                · refine rf_on (rf_X4_accepts H g 58 58) (fun x32 => ?_)
                  refine rf_ite ?_ ?_
                  · exact rf_r
                  · refine rf_on (rf_X4_readsVoltage H g) (fun x33 => ?_)
                    refine rf_ite ?_ ?_
                    · exact rf_r
                    · exact rf_r
              · refine rf_gi (fun _ => rfl) (fun x26 => ?_)
                refine rf_ite ?_ ?_
                · refine rf_on (rf_X4_readsModule H g) (fun x28 => ?_)
                  refine rf_ite ?_ ?_
                  · exact rf_r
                  · refine rf_on (rf_X4_accepts H g 58 58) (fun x29 => ?_)
                    refine rf_ite ?_ ?_
                    · exact rf_r
                    · refine rf_on (rf_X4_readsNumber H g 0 1000) (fun x30 => ?_)
                      refine rf_ite ?_ ?_
                      · exact rf_r
                      · exact rf_r
                · refine rf_on (rf_X4_readsJoin H g) (fun x27 => ?_)
                  exact rf_r
    · refine rf_ite ?_ ?_
      · refine rf_gi (fun _ => rfl) (fun x11 => ?_)
        refine rf_pf H (fun _ _ => rfl) (by decide) ?_
        exact rf_r
      · refine rf_gi (fun _ => rfl) (fun x12 => ?_)
        refine rf_ite ?_ ?_
        · refine rf_gi (fun _ => rfl) (fun x13 => ?_)
          refine rf_pf H (fun _ _ => rfl) (by decide) ?_
          exact rf_r
        · refine rf_gi (fun _ => rfl) (fun x14 => ?_)
          refine rf_ite ?_ ?_
          · refine rf_gi (fun _ => rfl) (fun x15 => ?_)
            refine rf_pf H (fun _ _ => rfl) (by decide) ?_
            exact rf_r
          · refine rf_gi (fun _ => rfl) (fun x16 => ?_)
            refine rf_ite ?_ ?_
            · refine rf_gi (fun _ => rfl) (fun x17 => ?_)
              refine rf_pf H (fun _ _ => rfl) (by decide) ?_
              exact rf_r
            · refine rf_gi (fun _ => rfl) (fun x18 => ?_)
              refine rf_ite ?_ ?_
              · refine rf_gi (fun _ => rfl) (fun x19 => ?_)
                refine rf_pf H (fun _ _ => rfl) (by decide) ?_
                exact rf_r
              · refine rf_pf H (fun _ _ => rfl) (by decide) ?_
                exact rf_r
  · refine rf_ite ?_ ?_
    · exact rf_r
    · refine rf_gr (fun _ => rfl) ?_
      refine rf_gi (fun _ => rfl) (fun x6 => ?_)
      refine rf_ai H (by decide) (fun x7 => ?_)
      exact rf_r
theorem rf_X4_findError {c : TC} (H : tw_ok c) (g : sm_G) : Rf c (f_X4_findError g c.1) (t_X4_findError) := by
  unfold f_X4_findError t_X4_findError
  refine rf_pf H (fun _ _ => rfl) (by decide) ?_
  refine rf_loop3 (fun v11 => ?_) (fun v13 => ?_) (fun v14 => ?_) (fun s1 => ?_)
  · refine rf_gi (fun _ => rfl) (fun x12 => ?_)
    exact rf_r
  · exact rf_r
  · refine rf_gi (fun _ => rfl) (fun x15 => ?_)
    exact rf_r
  · refine rf_on (rf_X4_readsItem H g) (fun x4 => ?_)
    refine rf_ite ?_ ?_
    · exact rf_r
    · refine rf_gi (fun _ => rfl) (fun x5 => ?_)
      refine rf_gi (fun _ => rfl) (fun x6 => ?_)
      refine rf_ite ?_ ?_
      · exact rf_r
      · refine rf_gr (fun _ => rfl) ?_
        refine rf_gi (fun _ => rfl) (fun x8 => ?_)
        refine rf_ai H (by decide) (fun x9 => ?_)
        refine rf_ite ?_ ?_
        · refine rf_gi (fun _ => rfl) (fun x10 => ?_)
          refine rf_pf H (fun _ _ => rfl) (by decide) ?_
          exact rf_r
        · exact rf_r
theorem rf_X4_firstError {c : TC} (H : tw_ok c) (g : sm_G) : Rf c (f_X4_firstError g c.1) (t_X4_firstError) := by
  unfold f_X4_firstError t_X4_firstError
  refine rf_pf H (fun _ _ => rfl) (by decide) ?_
  refine rf_on (rf_X4_findError H g) (fun x1 => ?_)
  exact rf_r
theorem rf_X4_canDo {c : TC} (H : tw_ok c) (g : sm_G) : Rf c (f_X4_canDo g c.1) (t_X4_canDo) := by
  unfold f_X4_canDo t_X4_canDo
  refine rf_gi (fun _ => rfl) (fun x1 => ?_)
  refine rf_cut (fun v2 => ?_) ?_
  · refine rf_z (fun _ => ?_)
    exact rf_r
  · refine rf_ite ?_ ?_
    · refine rf_on (rf_X4_canPut H g) (fun x23 => ?_)
      exact rf_r
    · refine rf_gi (fun _ => rfl) (fun x4 => ?_)
      refine rf_ite ?_ ?_
      · refine rf_gi (fun _ => rfl) (fun x21 => ?_)
        refine rf_on (rf_X4_canPass H g x21) (fun x22 => ?_)
        exact rf_r
      · refine rf_gi (fun _ => rfl) (fun x5 => ?_)
        refine rf_ite ?_ ?_
        · refine rf_gi (fun _ => rfl) (fun x18 => ?_)
          refine rf_gi (fun _ => rfl) (fun x19 => ?_)
          refine rf_on (rf_X4_whyNoCord H g x18 x19) (fun x20 => ?_)
          refine rf_ite ?_ ?_
          · exact rf_r
          · exact rf_r
        · refine rf_gi (fun _ => rfl) (fun x6 => ?_)
          refine rf_ite ?_ ?_
          · refine rf_gi (fun _ => rfl) (fun x15 => ?_)
            refine rf_gi (fun _ => rfl) (fun x16 => ?_)
            refine rf_on (rf_X4_whyNoVoltage H g x15 x16) (fun x17 => ?_)
            refine rf_ite ?_ ?_
            · exact rf_r
            · exact rf_r
          · refine rf_gi (fun _ => rfl) (fun x7 => ?_)
            refine rf_ite ?_ ?_
            · refine rf_gi (fun _ => rfl) (fun x12 => ?_)
              refine rf_gi (fun _ => rfl) (fun x13 => ?_)
              refine rf_on (rf_X4_whyNoFactor H g x12 x13) (fun x14 => ?_)
              refine rf_ite ?_ ?_
              · exact rf_r
              · exact rf_r
            · refine rf_gi (fun _ => rfl) (fun x8 => ?_)
              refine rf_gi (fun _ => rfl) (fun x9 => ?_)
              refine rf_gi (fun _ => rfl) (fun x10 => ?_)
              refine rf_on (rf_X4_whyNoJoin H g x8 x9 x10) (fun x11 => ?_)
              refine rf_ite ?_ ?_
              · exact rf_r
              · exact rf_r
theorem rf_X4_does {c : TC} (H : tw_ok c) (g : sm_G) : Rf c (f_X4_does g c.1) (t_X4_does) := by
  unfold f_X4_does t_X4_does
  refine rf_gi (fun _ => rfl) (fun x1 => ?_)
  refine rf_cut (fun v2 => ?_) ?_
  · exact rf_r
  · refine rf_ite ?_ ?_
    · refine rf_gi (fun _ => rfl) (fun x23 => ?_)
      refine rf_on (rf_X4_putsUp H g x23) (fun x24 => ?_)
      exact rf_r
    · refine rf_gi (fun _ => rfl) (fun x4 => ?_)
      refine rf_ite ?_ ?_
      · refine rf_gi (fun _ => rfl) (fun x21 => ?_)
        refine rf_on (rf_X4_passes H g x21) (fun x22 => ?_)
        exact rf_r
      · refine rf_gi (fun _ => rfl) (fun x5 => ?_)
        refine rf_ite ?_ ?_
        · refine rf_gi (fun _ => rfl) (fun x18 => ?_)
          refine rf_gi (fun _ => rfl) (fun x19 => ?_)
          refine rf_on (rf_X4_joins H g (-1) x18 x19) (fun x20 => ?_)
          exact rf_r
        · refine rf_gi (fun _ => rfl) (fun x6 => ?_)
          refine rf_ite ?_ ?_
          · refine rf_gi (fun _ => rfl) (fun x15 => ?_)
            refine rf_gi (fun _ => rfl) (fun x16 => ?_)
            refine rf_on (rf_X4_setsVoltage H g x15 x16) (fun x17 => ?_)
            exact rf_r
          · refine rf_gi (fun _ => rfl) (fun x7 => ?_)
            refine rf_ite ?_ ?_
            · refine rf_gi (fun _ => rfl) (fun x12 => ?_)
              refine rf_gi (fun _ => rfl) (fun x13 => ?_)
              refine rf_on (rf_X4_setsFactor H g x12 x13) (fun x14 => ?_)
              exact rf_r
            · refine rf_gi (fun _ => rfl) (fun x8 => ?_)
              refine rf_gi (fun _ => rfl) (fun x9 => ?_)
              refine rf_gi (fun _ => rfl) (fun x10 => ?_)
              refine rf_on (rf_X4_joins H g x8 x9 x10) (fun x11 => ?_)
              exact rf_r
theorem rf_X4_patch {c : TC} (H : tw_ok c) (g : sm_G) : Rf c (f_X4_patch g c.1) (t_X4_patch) := by
  unfold f_X4_patch t_X4_patch
  refine rf_on (rf_X4_findError H g) (fun x1 => ?_)
  refine rf_cut (fun v2 => ?_) ?_
  · refine rf_pf H (fun _ _ => rfl) (by decide) ?_
    refine rf_gi (fun _ => rfl) (fun x4 => ?_)
    refine rf_ite ?_ ?_
    · refine rf_on (rf_X4_saves H g) (fun _ => ?_)
      refine rf_pf H (fun _ _ => rfl) (by decide) ?_
      refine rf_loop (fun v15 => ?_) (fun s6 => ?_)
      · refine rf_pf H (fun _ _ => rfl) (by decide) ?_
        exact rf_r
      · refine rf_ite ?_ ?_
        · exact rf_r
        · refine rf_gi (fun _ => rfl) (fun x9 => ?_)
          refine rf_gi (fun _ => rfl) (fun x10 => ?_)
          refine rf_ite ?_ ?_
          · exact rf_r
          · refine rf_on (rf_X4_readsItem H g) (fun x11 => ?_)
            refine rf_gi (fun _ => rfl) (fun x12 => ?_)
            refine rf_pf H (fun _ _ => rfl) (by decide) ?_
            refine rf_on (rf_X4_canDo H g) (fun x13 => ?_)
            refine rf_ite ?_ ?_
            · exact rf_r
            · refine rf_on (rf_X4_does H g) (fun _ => ?_)
              exact rf_r
    · exact rf_r
  · refine rf_ite ?_ ?_
    · exact rf_r
    · exact rf_r
theorem rf_X4_undo {c : TC} (H : tw_ok c) (g : sm_G) : Rf c (f_X4_undo g c.1) (t_X4_undo) := by
  unfold f_X4_undo t_X4_undo
  refine rf_gi (fun _ => rfl) (fun x1 => ?_)
  refine rf_cut (fun v2 => ?_) ?_
  · refine rf_pf H (fun _ _ => rfl) (by decide) ?_
    refine rf_gi (fun _ => rfl) (fun x4 => ?_)
    refine rf_ite ?_ ?_
    · refine rf_gi (fun _ => rfl) (fun x5 => ?_)
      refine rf_pf H (fun _ _ => rfl) (by decide) ?_
      refine rf_loop (fun v13 => ?_) (fun s6 => ?_)
      · refine rf_gi (fun _ => rfl) (fun x14 => ?_)
        exact rf_r
      · refine rf_ite ?_ ?_
        · exact rf_r
        · refine rf_gr (fun _ => rfl) ?_
          refine rf_gr (fun _ => rfl) ?_
          refine rf_gi (fun _ => rfl) (fun x11 => ?_)
          refine rf_ai H (by decide) (fun x12 => ?_)
          refine rf_pa H (by decide) ?_
          exact rf_r
    · exact rf_r
  · refine rf_ite ?_ ?_
    · exact rf_r
    · exact rf_r
theorem rf_X4_withModule {c : TC} (H : tw_ok c) (g : sm_G) (p0 : Int64) (p1 : Int32) : Rf c (f_X4_withModule g c.1 p0 p1) (t_X4_withModule p0 p1) := by
  unfold f_X4_withModule t_X4_withModule
  refine rf_on (rf_X4_kind H g p1) (fun x1 => ?_)
  refine rf_rb (fun x2 => ?_)
  refine rf_on (rf_X4_of H g p1 1) (fun x3 => ?_)
  refine rf_rb (fun x4 => ?_)
  refine rf_on (rf_X4_output H g p1) (fun x5 => ?_)
  refine rf_rb (fun x6 => ?_)
  refine rf_on (rf_X4_of H g p1 4) (fun x7 => ?_)
  refine rf_rb (fun x8 => ?_)
  refine rf_on (rf_X4_scale H g p1) (fun x9 => ?_)
  refine rf_rb (fun x10 => ?_)
  refine rf_gr (fun _ => rfl) ?_
  refine rf_ai H (by decide) (fun x12 => ?_)
  refine rf_rb (fun x13 => ?_)
  refine rf_on (rf_X4_depends H g p1 1) (fun x14 => ?_)
  refine rf_rb (fun x15 => ?_)
  refine rf_on (rf_X4_outputThen H g p1 10) (fun x16 => ?_)
  refine rf_rb (fun x17 => ?_)
  refine rf_on (rf_X4_laysOuts H g) (fun _ => ?_)
  refine rf_loop (fun v28 => ?_) (fun s19 => ?_)
  · exact rf_r
  · refine rf_on (rf_X4_kind H g p1) (fun x22 => ?_)
    refine rf_b (rf_X4_inputsOfKind H g x22) (fun x23 => ?_)
    refine rf_ite ?_ ?_
    · exact rf_r
    · refine rf_on (rf_X4_of H g p1 (5 + s19.2)) (fun x24 => ?_)
      refine rf_rb (fun x25 => ?_)
      refine rf_on (rf_X4_in H g p1 s19.2) (fun x26 => ?_)
      refine rf_rb (fun x27 => ?_)
      exact rf_r
theorem rf_J23_isNaN {c : TC} (H : tw_ok c) (g : sm_G) (p0 : UInt64) : Rf c (f_J23_isNaN g p0) (t_J23_isNaN p0) := by
  unfold f_J23_isNaN t_J23_isNaN
  refine rf_cut (fun v1 => ?_) ?_
  · refine rf_z (fun _ => ?_)
    exact rf_r
  · refine rf_ite ?_ ?_
    · exact rf_r
    · exact rf_r
theorem rf_J23_doubleToLongBits {c : TC} (H : tw_ok c) (g : sm_G) (p0 : UInt64) : Rf c (f_J23_doubleToLongBits g p0) (t_J23_doubleToLongBits p0) := by
  unfold f_J23_doubleToLongBits t_J23_doubleToLongBits
  refine rf_b (rf_J23_isNaN H g p0) (fun x1 => ?_)
  refine rf_ite ?_ ?_
  · exact rf_r
  · exact rf_r
theorem rf_X4_digest {c : TC} (H : tw_ok c) (g : sm_G) : Rf c (f_X4_digest g c.1) (t_X4_digest) := by
  unfold f_X4_digest t_X4_digest
  refine rf_pf H (fun _ _ => rfl) (by decide) ?_
  refine rf_gr (fun _ => rfl) ?_
  refine rf_ai H (by decide) (fun x2 => ?_)
  refine rf_rb (fun x3 => ?_)
  refine rf_on (rf_X4_manyCords H g) (fun x4 => ?_)
  refine rf_rb (fun x5 => ?_)
  refine rf_gr (fun _ => rfl) ?_
  refine rf_ai H (by decide) (fun x7 => ?_)
  refine rf_rb (fun x8 => ?_)
  refine rf_gr (fun _ => rfl) ?_
  refine rf_ai H (by decide) (fun x10 => ?_)
  refine rf_rb (fun x11 => ?_)
  refine rf_gr (fun _ => rfl) ?_
  refine rf_ai H (by decide) (fun x13 => ?_)
  refine rf_rb (fun x14 => ?_)
  refine rf_gr (fun _ => rfl) ?_
  refine rf_ai H (by decide) (fun x16 => ?_)
  refine rf_rb (fun x17 => ?_)
  refine rf_on (rf_X4_overNow H g) (fun x18 => ?_)
  refine rf_rb (fun x19 => ?_)
  refine rf_on (rf_X4_circling H g) (fun x20 => ?_)
  refine rf_rb (fun x21 => ?_)
  refine rf_on (rf_X4_endSet H g) (fun x22 => ?_)
  refine rf_rb (fun x23 => ?_)
  refine rf_gr (fun _ => rfl) ?_
  refine rf_ai H (by decide) (fun x25 => ?_)
  refine rf_rb (fun x26 => ?_)
  refine rf_gr (fun _ => rfl) ?_
  refine rf_ai H (by decide) (fun x28 => ?_)
  refine rf_rb (fun x29 => ?_)
  refine rf_gr (fun _ => rfl) ?_
  refine rf_ai H (by decide) (fun x31 => ?_)
  refine rf_rb (fun x32 => ?_)
  refine rf_gr (fun _ => rfl) ?_
  refine rf_ai H (by decide) (fun x34 => ?_)
  refine rf_rb (fun x35 => ?_)
  refine rf_on (rf_X4_untilOver H g) (fun x36 => ?_)
  refine rf_rb (fun x37 => ?_)
  refine rf_loop (fun v44 => ?_) (fun s38 => ?_)
  · refine rf_loop (fun v57 => ?_) (fun s45 => ?_)
    · refine rf_loop (fun v72 => ?_) (fun s58 => ?_)
      · refine rf_gr (fun _ => rfl) ?_
        refine rf_ai H (by decide) (fun x74 => ?_)
        refine rf_rb (fun x75 => ?_)
        refine rf_loop (fun v82 => ?_) (fun s76 => ?_)
        · refine rf_on (rf_X4_mean H g) (fun x83 => ?_)
          refine rf_b (rf_J23_doubleToLongBits H g x83) (fun x84 => ?_)
          exact rf_r
        · refine rf_ite ?_ ?_
          · exact rf_r
          · refine rf_gr (fun _ => rfl) ?_
            refine rf_ai H (by decide) (fun x80 => ?_)
            refine rf_rb (fun x81 => ?_)
            exact rf_r
      · refine rf_gr (fun _ => rfl) ?_
        refine rf_ai H (by decide) (fun x62 => ?_)
        refine rf_ite ?_ ?_
        · exact rf_r
        · refine rf_on (rf_X4_kind H g s58.2) (fun x63 => ?_)
          refine rf_cut (fun v64 => ?_) ?_
          · exact rf_r
          · refine rf_ite ?_ ?_
            · refine rf_on (rf_X4_of H g s58.2 2) (fun x66 => ?_)
              refine rf_rb (fun x67 => ?_)
              refine rf_on (rf_X4_of H g s58.2 3) (fun x68 => ?_)
              refine rf_rb (fun x69 => ?_)
              refine rf_on (rf_X4_rateNow H g s58.2) (fun x70 => ?_)
              refine rf_rb (fun x71 => ?_)
              exact rf_r
            · exact rf_r
    · refine rf_gr (fun _ => rfl) ?_
      refine rf_ai H (by decide) (fun x49 => ?_)
      refine rf_ite ?_ ?_
      · exact rf_r
      · refine rf_loop (fun v56 => ?_) (fun s50 => ?_)
        · exact rf_r
        · refine rf_ite ?_ ?_
          · exact rf_r
          · refine rf_on (rf_X4_isWeighted H g s45.2) (fun x53 => ?_)
            refine rf_ite ?_ ?_
            · exact rf_r
            · refine rf_on (rf_X4_of H g s45.2 (9 + s50.2)) (fun x54 => ?_)
              refine rf_rb (fun x55 => ?_)
              exact rf_r
  · refine rf_gr (fun _ => rfl) ?_
    refine rf_ai H (by decide) (fun x42 => ?_)
    refine rf_ite ?_ ?_
    · exact rf_r
    · refine rf_on (rf_X4_withModule H g s38.1 s38.2) (fun x43 => ?_)
      exact rf_r
