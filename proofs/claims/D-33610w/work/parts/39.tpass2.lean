/-! A STEP, AS NUMBERS; STEPS -/
noncomputable def rtS (S : St) (n : Nat) : Nat → Int32 := fun m => rateS S (outs S n) m
noncomputable def hafS (S : St) (n : Nat) : St := chaS S n (chg S) (rtS S n) 2
noncomputable def movS (S : St) (n : Nat) : St := chaS S n (chg S) (if S 2 = 1 then rtS (hafS S n) n else rtS S n) 1
noncomputable def pkS (S : St) (n : Nat) (o : Nat → Int32) : St := setF S n 4 (fun _ => True) (fun m => if absv (o m) ≤ pek S m then pek S m else absv (o m))
noncomputable def stpT (S : St) (n : Nat) : St := recF (pkS (upd (movS S n) 4 (movS S n 4 + 1)) n (outs (movS S n) n)) (outs (movS S n) n)
noncomputable def stepS (S : St) (n : Nat) (g : Int32) : St := upd (stpT S n) 1 (if g = 0 then stpT S n 1 else if ovs (movS S n) n = 0 then stpT S n 1 else 2)
theorem recH_6 {S : St} {c : Nat} (hc : c ≤ 24) (h6 : S 6 = ii c) : ∃ c', c' < 24 ∧ recH S 6 = ii c' := by
  unfold recH
  by_cases z : S 6 = 24
  · rw [if_pos z, upd_at, z]; exact ⟨23, by omega, by decide⟩
  · rw [if_neg z]
    exact ⟨c, Nat.lt_of_le_of_ne hc (fun e => z (by rw [h6, e]; rfl)), h6⟩
theorem recC_6 {S : St} {out : Int32} : recC S out 6 = S 6 := by
  unfold recC
  split
  · rw [upd_ne (by omega), upd_ne (by omega), upd_ne (by omega)]
  · rfl
/-- what the recorder leaves alone -/
theorem recF_q {S : St} {o : Nat → Int32} {c q : Nat} (hc : c ≤ 24) (h6 : S 6 = ii c) (hq : q < 6 ∨ 34 ≤ q) : recF S o q = S q := by
  unfold recF
  split
  · rfl
  · obtain ⟨c', hc', e⟩ := recH_6 hc ((recC_6 (out := o (S 5).toNatClampNeg)).trans h6)
    unfold recA
    rw [e, ii_nat (by omega), upd_ne (by omega), upd_ne (by omega)]
    have h1 : recH (recC S (o (S 5).toNatClampNeg)) q = recC S (o (S 5).toNatClampNeg) q := by
      unfold recH
      split
      · rw [upd_ne (by omega)]; unfold shiftS; rw [if_neg (by omega)]
      · rfl
    rw [h1]
    unfold recC
    split
    · rw [upd_ne (by omega), upd_ne (by omega), upd_ne (by omega)]
    · rfl
theorem recF_6 {S : St} {o : Nat → Int32} {c : Nat} (hc : c ≤ 24) (h6 : S 6 = ii c) : ∃ c', c' ≤ 24 ∧ recF S o 6 = ii c' := by
  unfold recF
  split
  · exact ⟨c, hc, h6⟩
  · obtain ⟨c', hc', e⟩ := recH_6 hc ((recC_6 (out := o (S 5).toNatClampNeg)).trans h6)
    unfold recA
    rw [upd_at, e, i1]
    exact ⟨c' + 1, by omega, rfl⟩
/-- the parts that outputs hang on -/
def agree (n : Nat) (S S' : St) : Prop := S' 0 = S 0 ∧ ∀ m c, m < n → c < 13 → c ≠ 4 → S' (mI m c) = S (mI m c)
theorem agree.rf {n : Nat} {S : St} : agree n S S := ⟨rfl, fun _ _ _ _ _ => rfl⟩
theorem agree.tr {n : Nat} {S T U : St} (h1 : agree n S T) (h2 : agree n T U) : agree n S U := ⟨h2.1.trans h1.1, fun m c a b d => (h2.2 m c a b d).trans (h1.2 m c a b d)⟩
theorem agree.sy {n : Nat} {S T : St} (h1 : agree n S T) : agree n T S := ⟨h1.1.symm, fun m c a b d => (h1.2 m c a b d).symm⟩
theorem agree.ok {n : Nat} {S S' : St} (h : Inv S n) (a : agree n S S') : Inv S' n := h.congr a.1 (fun m c hm hc _ _ h4 => a.2 m c hm hc h4)
theorem agree.upd {n q : Nat} {S : St} {v : Int32} (hq : 0 < q ∧ q < 34) : agree n S (upd S q v) := ⟨upd_ne (by omega), fun m c _ _ _ => upd_ne (by have := mI_ge (m := m) (c := c); omega)⟩
section AGR
variable {S S' : St} {n : Nat}
theorem agree.kin (a : agree n S S') {m : Nat} (hm : m < n) : kd S' m = kd S m := a.2 m 0 hm (by omega) (by omega)
theorem agree.fre (a : agree n S S') (o : Nat → Int32) {m : Nat} (hm : m < n) : free S' o m = free S o m := by
  have e0 : S' (mI m 0) = S (mI m 0) := a.2 m 0 hm (by omega) (by omega)
  have e1 : stt S' m = stt S m := a.2 m 1 hm (by omega) (by omega)
  have e3 : chg S' m = chg S m := a.2 m 3 hm (by omega) (by omega)
  have ei : ∀ k, k < 4 → inv S' o m k = inv S o m k := fun k hk => by
    unfold inv
    rw [show crd S' m k = crd S m k from a.2 m (5 + k) hm (by omega) (by omega)]
  have ew : ∀ k, k < 4 → wgt S' m k = wgt S m k := fun k hk => a.2 m (9 + k) hm (by omega) (by omega)
  unfold free wsum kd
  rw [e0, e1, e3, ei 0 (by omega), ei 1 (by omega), ei 2 (by omega), ei 3 (by omega), ew 0 (by omega), ew 1 (by omega), ew 2 (by omega), ew 3 (by omega)]
end AGR
section AGS
variable {S S' : St} {n : Nat}
theorem agree.out (h : Inv S n) (a : agree n S S') : outs S' n = outs S n := by
  funext m
  by_cases hm : m < n
  · have h' := agree.ok h a
    exact (out_eq h (o := outs S' n) (fun q hq => by rw [← agree.fre a _ hq]; exact outs_is h' q hq) m hm)
  · unfold outs
    split <;> split <;> simp [hm]
theorem agree.ovs (h : Inv S n) (a : agree n S S') : ovs S' n = ovs S n := by
  have h' := agree.ok h a
  refine (ovs_eq h (outs_is h) ((ovs_is h').cong (fun m hm => ?_)))
  rw [agree.out h a]
  unfold ovr
  rw [agree.fre a _ hm, agree.kin a hm, show chg S' m = chg S m from a.2 m 3 hm (by omega) (by omega)]
end AGS
section STP
variable {τ : TM} {n m : Nat} {S : St}
theorem cha_lo {b r : Nat → Int32} {d : Int32} {q : Nat} (hq : q < 34) : chaS S n b r d q = S q := setF_lo hq
theorem cha_inv (h : Inv S n) {b r : Nat → Int32} {d : Int32} : Inv (chaS S n b r d) n := Inv_setF h (Or.inr (Or.inl rfl))
theorem cha_2 {b r b' r' : Nat → Int32} {d d' : Int32} : ∃ v, chaS S n b r d = setF S n 3 (kI S) v := ⟨_, rfl⟩
theorem pk_inv (h : Inv S n) {o : Nat → Int32} : Inv (pkS S n o) n := Inv_setF h (Or.inr (Or.inr rfl))
theorem stpT_inv (h : Inv2 S n) : Inv2 (stpT S n) n ∧ agree n (movS S n) (stpT S n) ∧ (∀ q, q < 4 → stpT S n q = S q) ∧ stpT S n 5 = S 5 := by
  obtain ⟨c, hc, h6⟩ := h.2.1
  have hM : Inv (movS S n) n := cha_inv h.1
  have hU : Inv (upd (movS S n) 4 (movS S n 4 + 1)) n := Inv_upd hM (by omega)
  have hP : Inv (pkS (upd (movS S n) 4 (movS S n 4 + 1)) n (outs (movS S n) n)) n := pk_inv hU
  have e6 : pkS (upd (movS S n) 4 (movS S n 4 + 1)) n (outs (movS S n) n) 6 = ii c := by
    unfold pkS; rw [setF_lo (by omega), upd_ne (by omega)]; unfold movS; rw [cha_lo (by omega)]; exact h6
  have lo : ∀ q, q < 6 → q ≠ 4 → stpT S n q = S q := fun q hq h4 => by
    unfold stpT
    rw [recF_q hc e6 (Or.inl hq)]
    unfold pkS; rw [setF_lo (by omega), upd_ne h4]; unfold movS; rw [cha_lo (by omega)]
  have hi : ∀ m c, c < 13 → c ≠ 4 → stpT S n (mI m c) = movS S n (mI m c) := fun m c' hc' h4 => by
    have := mI_ge (m := m) (c := c')
    unfold stpT
    rw [recF_q hc e6 (Or.inr this)]
    unfold pkS; rw [setF_ne hc' h4, upd_ne (by omega)]
  have ag : agree n (movS S n) (stpT S n) := ⟨by rw [lo 0 (by omega) (by omega)]; unfold movS; rw [cha_lo (by omega)], fun m c _ hc' h4 => hi m c hc' h4⟩
  refine ⟨⟨agree.ok hM ag, recF_6 hc e6, by rw [lo 5 (by omega) (by omega)]; exact h.2.2.1, by rw [lo 2 (by omega) (by omega)]; exact h.2.2.2.1, by rw [lo 3 (by omega) (by omega)]; exact h.2.2.2.2⟩, ag, fun q hq => lo q (by omega) (by omega), lo 5 (by omega) (by omega)⟩
theorem step_inv (h : Inv2 S n) {g : Int32} : Inv2 (stepS S n g) n ∧ agree n (movS S n) (stepS S n g) ∧ stepS S n g 3 = S 3 := by
  obtain ⟨h1, h2, h3, h4⟩ := stpT_inv h
  refine ⟨h1.congr (Inv_upd h1.1 (by omega)) (upd_ne (by omega)) (upd_ne (by omega)) (upd_ne (by omega)) (upd_ne (by omega)), h2.tr (agree.upd (by omega)), ?_⟩
  unfold stepS
  rw [upd_ne (by omega)]
  exact h3 3 (by omega)
set_option maxHeartbeats 1000000 in
theorem tstep (h : Inv2 S n) (hS : τ.2 1 = S) (g : Int32) : E0 (t_X4_stepsOn g) τ (fun _ σ => same τ σ ∧ σ.2 1 = stepS S n g ∧ σ.1 9 = ovs (stepS S n g) n) := by
  have hn := h.1.le
  have hov : ovs (stepS S n g) n = ovs (movS S n) n := agree.ovs (cha_inv h.1) (step_inv h).2.1
  rw [hov]
  unfold t_X4_stepsOn
  refine E0.b ((tout' h.1 hS).mono (fun _ σ1 q1 => ?_))
  obtain ⟨s1, S1, -, -, o1, -, -⟩ := q1
  refine E0.b ((trates h.1 S1 o1).mono (fun _ σ2 q2 => ?_))
  obtain ⟨r, rfl, hr⟩ := q2
  have s2 := s1.tr (same.A (τ := σ1) (j := 10) (f := r) (by omega))
  have S2 : (sA 10 σ1 r).2 1 = S := S1
  -- before
  refine E0.b (E0.for n (fun i (s : Int32) σ => s = ii i ∧ ∃ b, σ = sA 11 (sA 10 σ1 r) b ∧ ∀ m, m < i → b m = chg S m) ⟨rfl, (sA 10 σ1 r).2 11, sA_self.symm, fun m hm => by omega⟩ (fun i hi s σ hJ => ?_) (fun s σ hJ => ?_))
  · obtain ⟨rfl, b, rfl, hb⟩ := hJ
    have S3 : (sA 11 (sA 10 σ1 r) b).2 1 = S := S1
    refine E0.s (tn S3 h.1.z) (E0.neg (by rw [ii_le (by omega) (by omega)]; omega) (E0.s (tof3 S3 (by omega)) (E0.s (tpa_ok (j := 11) (n := i) (show i < 16 by omega)) (E0.r ⟨_, rfl, i1 i, _, by rw [sA_at, sA_sA], fun m hm => ?_⟩))))
    by_cases e : m = i
    · subst e; exact upd_at
    · rw [upd_ne e]; exact hb m (by omega)
  obtain ⟨rfl, b, rfl, hb⟩ := hJ
  have S3 : (sA 11 (sA 10 σ1 r) b).2 1 = S := S1
  have s3 := s2.tr (same.A (τ := sA 10 σ1 r) (j := 11) (f := b) (by omega))
  have hr3 : ∀ m, m < n → kd S m = 1 → (sA 11 (sA 10 σ1 r) b).2 10 m = rtS S n m := fun m hm hk => by
    show r m = _
    rw [hr m hm, if_pos hk]; rfl
  have hb3 : ∀ m, m < n → (sA 11 (sA 10 σ1 r) b).2 11 m = chg S m := hb
  refine E0.s (tn S3 h.1.z) (E0.pos (by rw [ii_le (by omega) (by omega)]; omega) (E0.r ⟨(), rfl, ?_⟩))
  obtain ⟨υ, eυ⟩ : ∃ υ, υ = sA 11 (sA 10 σ1 r) b := ⟨_, rfl⟩
  rw [← eυ] at S3 s3 hr3 hb3 ⊢
  clear eυ hb hr s2 S2
  refine E0.s (ta1 (q := 2) S3 (by omega)) ?_
  -- by middles
  have md : E0 (if S 2 = 1 then pm_b (t_X4_charges 2) fun _ => pm_b t_X4_laysOuts fun _ => pm_b t_X4_laysRates fun _ => pm_r () else (pm_r () : PM TM Unit)) υ (fun _ σ => same τ σ ∧ (∃ v, σ.2 1 = setF S n 3 (kI S) v) ∧ (∀ m, m < n → σ.2 11 m = chg S m) ∧ (∀ m, m < n → kd S m = 1 → σ.2 10 m = (if S 2 = 1 then rtS (hafS S n) n else rtS S n) m)) := by
    by_cases w : S 2 = 1
    · refine E0.pos w (E0.b ((tcha h.1 ⟨chg S, ?_⟩ S3 hb3 hr3 (by decide)).mono (fun _ σ q => ?_)))
      · funext q
        unfold setF
        split
        · next hq => obtain ⟨a1, a2, a3, a4⟩ := hq; show S q = S (mI ((q - 34) / 13) 3); congr 1; rw [← a2]; exact mI_of a1
        · rfl
      · subst q
        have hH : Inv (hafS S n) n := cha_inv h.1
        have S4 : (sA 1 υ (chaS S n (chg S) (rtS S n) 2)).2 1 = hafS S n := rfl
        refine E0.b ((tout' hH S4).mono (fun _ σ4 q4 => ?_))
        obtain ⟨s4, S4', -, -, o4, r4, b4⟩ := q4
        refine E0.b ((trates hH S4' o4).mono (fun _ σ5 q5 => ?_))
        obtain ⟨r5, rfl, hr5⟩ := q5
        refine E0.r ⟨(s3.tr (same.A (by omega))).tr (s4.tr (same.A (by omega))), ⟨fun m => hld (chg S m + rtS S n m / 2) 10000000, S4'⟩, fun m hm => ?_, fun m hm hk => ?_⟩
        · show σ4.2 11 m = _
          rw [b4]; exact hb3 m hm
        · show r5 m = _
          have : kd (hafS S n) m = 1 := (show setF S n 3 (kI S) (fun m => hld (chg S m + rtS S n m / 2) 10000000) (mI m 0) = kd S m from setF_ne (by omega) (by omega)).trans hk
          rw [hr5 m hm, if_pos this, if_pos w]; rfl
    · refine E0.neg w (E0.r ⟨s3, ⟨chg S, ?_⟩, hb3, fun m hm hk => by rw [if_neg w]; exact hr3 m hm hk⟩)
      rw [S3]
      funext q
      unfold setF
      split
      · next hq => obtain ⟨a1, a2, a3, a4⟩ := hq; show S q = S (mI ((q - 34) / 13) 3); congr 1; rw [← a2]; exact mI_of a1
      · rfl
  refine E0.b (md.mono (fun _ σ6 q6 => ?_))
  obtain ⟨s6, ⟨v6, S6⟩, b6, r6⟩ := q6
  refine E0.b ((tcha h.1 ⟨v6, rfl⟩ S6 b6 r6 (by decide)).mono (fun _ σ7 q7 => ?_))
  subst q7
  have hM : Inv (movS S n) n := cha_inv h.1
  have S7 : (sA 1 σ6 (chaS S n (chg S) (if S 2 = 1 then rtS (hafS S n) n else rtS S n) 1)).2 1 = movS S n := rfl
  have s7 := s6.tr (same.A (τ := σ6) (j := 1) (f := chaS S n (chg S) (if S 2 = 1 then rtS (hafS S n) n else rtS S n) 1) (by omega))
  refine E0.b ((tout' hM S7).mono (fun _ σ8 q8 => ?_))
  obtain ⟨s8, S8, v8, -, o8, -, -⟩ := q8
  have s8' := s7.tr s8
  refine E0.s (ta1 (q := 4) S8 (by omega)) (E0.s (tpa1 (q := 4) S8 (by omega)) ?_)
  obtain ⟨T, eT⟩ : ∃ T, T = upd (movS S n) 4 (movS S n 4 + 1) := ⟨_, rfl⟩
  rw [← eT]
  have hT : Inv T n := by rw [eT]; exact Inv_upd hM (by omega)
  -- peaks
  refine E0.b (E0.for n (fun i (s : Int32) σ => s = ii i ∧ σ = sA 1 σ8 (setF T i 4 (fun _ => True) (fun m => if absv (outs (movS S n) n m) ≤ pek T m then pek T m else absv (outs (movS S n) n m)))) ⟨rfl, by rw [setF_0]⟩ (fun i hi s σ hJ => ?_) (fun s σ hJ => ?_))
  · obtain ⟨rfl, rfl⟩ := hJ
    obtain ⟨V, eV⟩ : ∃ V, V = setF T i 4 (fun _ => True) (fun m => if absv (outs (movS S n) n m) ≤ pek T m then pek T m else absv (outs (movS S n) n m)) := ⟨_, rfl⟩
    have hV : Inv V n := by rw [eV]; exact Inv_setF hT (Or.inr (Or.inr rfl))
    have pV : pek V i = pek T i := by rw [eV]; exact setF_not (by omega) (fun q => by omega)
    have uV : ∀ x, x = (if absv (outs (movS S n) n i) ≤ pek T i then pek T i else absv (outs (movS S n) n i)) → upd V (mI i 4) x = setF T (i + 1) 4 (fun _ => True) (fun m => if absv (outs (movS S n) n m) ≤ pek T m then pek T m else absv (outs (movS S n) n m)) := fun x hx => by
      rw [hx, eV, setF_up (v := fun m => if absv (outs (movS S n) n m) ≤ pek T m then pek T m else absv (outs (movS S n) n m)) (by omega) trivial]
    rw [← eV]
    have e8 : (sA 1 σ8 V).2 8 i = outs (movS S n) n i := o8 i hi
    refine E0.s (tn sA_at hV.z) (E0.neg (by rw [ii_le (by omega) (by omega)]; omega) (E0.s (ta_ok (j := 8) (n := i) (show i < 16 by omega)) ?_))
    rw [e8]
    refine E0.s tsize (E0.s (tof4 sA_at (by omega)) ?_)
    rw [pV]
    by_cases z : absv (outs (movS S n) n i) ≤ pek T i
    · refine E0.bpos z (E0.as (E0.s (tof4 sA_at (by omega)) (E0.rb (E0.s (tputs4 sA_at (by omega)) (E0.r ⟨_, rfl, i1 i, ?_⟩)))))
      rw [sA_sA, uV _ (by rw [if_pos z, pV])]
    · refine E0.bneg z (E0.as (E0.s (ta_ok (j := 8) (n := i) (show i < 16 by omega)) ?_))
      rw [e8]
      refine E0.as (E0.s tsize (E0.rb (E0.s (tputs4 sA_at (by omega)) (E0.r ⟨_, rfl, i1 i, ?_⟩))))
      rw [sA_sA, uV _ (by rw [if_neg z])]
  obtain ⟨rfl, rfl⟩ := hJ
  have hP : Inv (pkS T n (outs (movS S n) n)) n := pk_inv hT
  have P2 : Inv2 (pkS T n (outs (movS S n) n)) n := by
    have lo : ∀ q, q < 34 → q ≠ 4 → pkS T n (outs (movS S n) n) q = S q := fun q hq h4 => by
      unfold pkS; rw [setF_lo hq, eT, upd_ne h4]; unfold movS; rw [cha_lo hq]
    exact h.congr hP (lo 6 (by omega) (by omega)) (lo 5 (by omega) (by omega)) (lo 2 (by omega) (by omega)) (lo 3 (by omega) (by omega))
  have eP : setF T n 4 (fun _ => True) (fun m => if absv (outs (movS S n) n m) ≤ pek T m then pek T m else absv (outs (movS S n) n m)) = pkS T n (outs (movS S n) n) := rfl
  rw [eP]
  refine E0.s (tn sA_at hP.z) (E0.pos (by rw [ii_le (by omega) (by omega)]; omega) (E0.r ⟨(), rfl, ?_⟩))
  refine E0.b ((tnotes P2 (o := outs (movS S n) n) sA_at o8).mono (fun _ σ9 q9 => ?_))
  subst q9
  rw [sA_sA]
  have eR : recF (pkS T n (outs (movS S n) n)) (outs (movS S n) n) = stpT S n := by rw [eT]; rfl
  rw [eR]
  have v9 : (sA 1 σ8 (stpT S n)).1 9 = ovs (movS S n) n := v8
  have fin : ∀ v, v = (if g = 0 then stpT S n 1 else if ovs (movS S n) n = 0 then stpT S n 1 else 2) → E0 (pm_b (pm_r v) fun (v41 : Int32) => pm_b (t_pa 1 1 v41) fun _ => (pm_r () : PM TM Unit)) (sA 1 σ8 (stpT S n)) (fun _ σ => same τ σ ∧ σ.2 1 = stepS S n g ∧ σ.1 9 = ovs (movS S n) n) := by
    rintro v rfl
    refine E0.rb (E0.s (tpa1 (q := 1) sA_at (by omega)) (E0.r ?_))
    rw [sA_sA]
    exact ⟨s8'.tr (same.A (by omega)), rfl, v8⟩
  by_cases z : g = 0
  · exact E0.bpos z (E0.as (E0.s (ta1 (q := 1) sA_at (by omega)) (fin _ (by rw [if_pos z]))))
  · refine E0.bneg z (E0.as (E0.s ti_ok ?_))
    rw [v9]
    by_cases z2 : ovs (movS S n) n = 0
    · exact E0.bpos z2 (E0.as (E0.s (ta1 (q := 1) sA_at (by omega)) (fin _ (by rw [if_neg z, if_pos z2]))))
    · exact E0.bneg z2 (fin _ (by rw [if_neg z, if_neg z2]))
end STP
