/-! THE RECORDER; A STEP, STEPS -/
/-- what the rest of the state keeps to -/
def Inv2 (S : St) (n : Nat) : Prop := Inv S n ∧ (∃ c, c ≤ 24 ∧ S 6 = ii c) ∧ (S 5 = -1 ∨ ∃ j, j < n ∧ S 5 = ii j) ∧ (S 2 = 0 ∨ S 2 = 1) ∧ (S 3 = 0 ∨ S 3 = 1)
theorem Inv2.congr {S S' : St} {n : Nat} (h : Inv2 S n) (hi : Inv S' n) (h6 : S' 6 = S 6) (h5 : S' 5 = S 5) (h2 : S' 2 = S 2) (h3 : S' 3 = S 3) : Inv2 S' n := ⟨hi, by rw [h6]; exact h.2.1, by rw [h5]; exact h.2.2.1, by rw [h2]; exact h.2.2.2.1, by rw [h3]; exact h.2.2.2.2⟩
def recC (S : St) (out : Int32) : St := if 0 < S 6 ∧ S (9 + (S 6).toNatClampNeg) < 0 ∧ 0 ≤ out then upd (upd (upd S 7 (S 7 + 1)) 9 (if S 7 + 1 ≤ 1 then -1 else S 4 - S 8)) 8 (S 4) else S
def shiftS (S : St) (k : Nat) : St := fun q => if 10 ≤ q ∧ q < 10 + k then S (q + 1) else S q
def recH (S : St) : St := if S 6 = 24 then upd (shiftS S 23) 6 (S 6 - 1) else S
def recA (S : St) (out : Int32) : St := upd (upd S (10 + (S 6).toNatClampNeg) out) 6 (S 6 + 1)
def recF (S : St) (o : Nat → Int32) : St := if S 5 = -1 then S else recA (recH (recC S (o (S 5).toNatClampNeg))) (o (S 5).toNatClampNeg)
theorem shiftS_0 {S : St} : shiftS S 0 = S := by funext q; unfold shiftS; rw [if_neg]; omega
theorem shiftS_up {S : St} {k : Nat} : upd (shiftS S k) (10 + k) (S (10 + k + 1)) = shiftS S (k + 1) := by
  funext q
  by_cases h : q = 10 + k
  · subst h; rw [upd_at]; unfold shiftS; rw [if_pos (by omega)]
  · rw [upd_ne h]
    unfold shiftS
    by_cases h2 : 10 ≤ q ∧ q < 10 + k
    · rw [if_pos h2, if_pos (by omega)]
    · rw [if_neg h2, if_neg (by omega)]
section TPS
variable {τ : TM} {n m : Nat} {S : St}
theorem ta1 {q : Nat} (hS : τ.2 1 = S) (hq : q < 242) : t_a 1 (ii q) τ = some (S q, τ, 0, 0) := by subst hS; exact ta_ok (j := 1) hq
theorem tpa1 {q : Nat} {v : Int32} (hS : τ.2 1 = S) (hq : q < 242) : t_pa 1 (ii q) v τ = some ((), sA 1 τ (upd S q v), 0, 0) := by subst hS; exact tpa_ok (j := 1) hq
theorem tnotes (h : Inv2 S n) (hS : τ.2 1 = S) {o : Nat → Int32} (ho : ∀ m, m < n → τ.2 8 m = o m) : E0 t_X4_notesRecord τ (fun _ σ => σ = sA 1 τ (recF S o)) := by
  have hn := h.1.le
  obtain ⟨c, hc, h6⟩ := h.2.1
  unfold t_X4_notesRecord
  refine E0.s (ta1 (q := 5) hS (by omega)) ?_
  by_cases h5 : S 5 = -1
  · refine E0.pos h5 (E0.r ?_)
    unfold recF
    rw [if_pos h5, ← hS, sA_self]
  · obtain ⟨j, hj, ej⟩ := h.2.2.1.resolve_left h5
    refine E0.neg h5 (E0.s (ta1 (q := 5) hS (by omega)) ?_)
    rw [ej]
    refine E0.s (ta_ok (j := 8) (n := j) (show j < 16 by omega)) ?_
    rw [ho j hj]
    have eo : o (S 5).toNatClampNeg = o j := by rw [ej, ii_nat (by omega)]
    have eF : recF S o = recA (recH (recC S (o j))) (o j) := by unfold recF; rw [if_neg h5, eo]
    rw [eF]
    refine E0.s (ta1 (q := 6) hS (by omega)) ?_
    -- whether it crosses
    have cr : E0 (if S 6 ≤ 0 then (pm_r 0 : PM TM Int32) else pm_b (t_a 1 6) fun x13 => pm_b (t_a 1 ((10 + x13) - 1)) fun x14 => if (0 : Int32) ≤ x14 then pm_r 0 else if o j < 0 then pm_r 0 else pm_r 1) τ (fun v σ => σ = τ ∧ v = bi (0 < S 6 ∧ S (9 + (S 6).toNatClampNeg) < 0 ∧ 0 ≤ o j)) := by
      by_cases z : S 6 ≤ 0
      · exact E0.pos z (E0.r ⟨rfl, (bi_f (fun q => absurd z (i32_nle.mpr q.1))).symm⟩)
      · have hc0 : c ≠ 0 := fun e => z (by rw [h6, e]; decide)
        refine E0.neg z (E0.s (ta1 (q := 6) hS (by omega)) ?_)
        have ei : (10 + S 6) - 1 = ii (9 + c) := by
          rw [h6, show (10 : Int32) = ii 10 from rfl, ii_add, show (1 : Int32) = ii 1 from rfl, ii_sub (by omega)]; congr 1; omega
        rw [ei]
        refine E0.s (ta1 (q := 9 + c) hS (by omega)) ?_
        have e9 : S (9 + (S 6).toNatClampNeg) = S (9 + c) := by rw [h6, ii_nat (by omega)]
        rw [e9]
        by_cases z2 : 0 ≤ S (9 + c)
        · exact E0.pos z2 (E0.r ⟨rfl, (bi_f (fun q => absurd z2 (i32_nle.mpr q.2.1))).symm⟩)
        · refine E0.neg z2 ?_
          by_cases z3 : o j < 0
          · exact E0.pos z3 (E0.r ⟨rfl, (bi_f (fun q => absurd z3 (i32_nlt.mpr q.2.2))).symm⟩)
          · exact E0.neg z3 (E0.r ⟨rfl, (bi_t ⟨i32_nle.mp z, i32_nle.mp z2, i32_nlt.mp z3⟩).symm⟩)
    refine E0.b (cr.mono (fun v σ q => ?_))
    obtain ⟨rfl, rfl⟩ := q
    -- noted
    have st2 : E0 (if bi (0 < S 6 ∧ S (9 + (S 6).toNatClampNeg) < 0 ∧ 0 ≤ o j) = 0 then (pm_r () : PM TM Unit) else pm_b (t_a 1 7) fun x18 => pm_b (t_pa 1 7 (x18 + 1)) fun _ => pm_b (t_a 1 7) fun x21 => pm_b (if x21 ≤ 1 then pm_r (-1) else pm_b (t_a 1 4) fun x25 => pm_b (t_a 1 8) fun x27 => pm_r (x25 - x27)) fun (v22 : Int32) => pm_b (t_pa 1 9 v22) fun _ => pm_b (t_a 1 4) fun x30 => pm_b (t_pa 1 8 x30) fun _ => pm_r ()) σ (fun _ σ1 => σ1 = sA 1 σ (recC S (o j))) := by
      unfold recC
      by_cases z : 0 < S 6 ∧ S (9 + (S 6).toNatClampNeg) < 0 ∧ 0 ≤ o j
      · rw [bi_t z, if_pos z]
        refine E0.neg (by decide) (E0.s (ta1 (q := 7) hS (by omega)) (E0.s (tpa1 (q := 7) hS (by omega)) (E0.s (ta1 (q := 7) sA_at (by omega)) ?_)))
        rw [upd_at]
        have bt : E0 (if S 7 + 1 ≤ 1 then (pm_r (-1) : PM TM Int32) else pm_b (t_a 1 4) fun x25 => pm_b (t_a 1 8) fun x27 => pm_r (x25 - x27)) (sA 1 σ (upd S 7 (S 7 + 1))) (fun v σ1 => σ1 = sA 1 σ (upd S 7 (S 7 + 1)) ∧ v = if S 7 + 1 ≤ 1 then -1 else S 4 - S 8) := by
          by_cases y : S 7 + 1 ≤ 1
          · exact E0.pos y (E0.r ⟨rfl, (if_pos y).symm⟩)
          · refine E0.neg y (E0.s (ta1 (q := 4) sA_at (by omega)) (E0.s (ta1 (q := 8) sA_at (by omega)) (E0.r ⟨rfl, ?_⟩)))
            rw [upd_ne (by omega), upd_ne (by omega)]; exact (if_neg y).symm
        refine E0.b (bt.mono (fun v σ1 q => ?_))
        obtain ⟨rfl, rfl⟩ := q
        refine E0.s (tpa1 (q := 9) sA_at (by omega)) (E0.s (ta1 (q := 4) sA_at (by omega)) (E0.s (tpa1 (q := 8) sA_at (by omega)) (E0.r ?_)))
        rw [sA_sA, sA_sA, upd_ne (by omega), upd_ne (by omega)]
      · rw [bi_f z, if_neg z]
        exact E0.pos rfl (E0.r (by rw [← hS, sA_self]))
    refine E0.b (st2.mono (fun _ σ1 q => ?_))
    subst q
    obtain ⟨T, eT⟩ : ∃ T, T = recC S (o j) := ⟨_, rfl⟩
    rw [← eT]
    have h6T : T 6 = ii c := by
      rw [eT]; unfold recC
      split
      · rw [upd_ne (by omega), upd_ne (by omega), upd_ne (by omega)]; exact h6
      · exact h6
    refine E0.s (ta1 (q := 6) sA_at (by omega)) ?_
    have st3 : E0 (if T 6 = 24 then pm_b (pm_lp (fun (s35 : Int32) => if (23 : Int32) ≤ s35 then pm_r (Sum.inr ()) else pm_b (t_a 1 ((10 + s35) + 1)) fun x40 => pm_b (t_pa 1 (10 + s35) x40) fun _ => pm_r (Sum.inl (s35 + 1))) 0) fun (v41 : Unit) => pm_b (t_a 1 6) fun x43 => pm_b (t_pa 1 6 (x43 - 1)) fun _ => pm_r () else (pm_r () : PM TM Unit)) (sA 1 σ T) (fun _ σ1 => σ1 = sA 1 σ (recH T)) := by
      by_cases z : T 6 = 24
      · rw [show recH T = upd (shiftS T 23) 6 (T 6 - 1) from if_pos z]
        refine E0.pos z (E0.b (E0.for 23 (fun i (s : Int32) σ1 => s = ii i ∧ σ1 = sA 1 σ (shiftS T i)) ⟨rfl, by rw [shiftS_0]⟩ (fun i hi s σ1 hJ => ?_) (fun s σ1 hJ => ?_)))
        · obtain ⟨rfl, rfl⟩ := hJ
          refine E0.neg (by rw [show (23 : Int32) = ii 23 from rfl, ii_le (by omega) (by omega)]; omega) ?_
          have ea : (10 + ii i) + 1 = ii (10 + i + 1) := by rw [show (10 : Int32) = ii 10 from rfl, ii_add, i1]
          have eb : (10 : Int32) + ii i = ii (10 + i) := ii_add 10 i
          rw [ea, eb]
          refine E0.s (ta1 (q := 10 + i + 1) sA_at (by omega)) (E0.s (tpa1 (q := 10 + i) sA_at (by omega)) (E0.r ⟨_, rfl, i1 i, ?_⟩))
          have e1 : shiftS T i (10 + i + 1) = T (10 + i + 1) := by unfold shiftS; rw [if_neg (by omega)]
          rw [sA_sA, e1, shiftS_up]
        · obtain ⟨rfl, rfl⟩ := hJ
          refine E0.pos (by decide) (E0.r ⟨(), rfl, E0.s (ta1 (q := 6) sA_at (by omega)) (E0.s (tpa1 (q := 6) sA_at (by omega)) (E0.r ?_))⟩)
          have e1 : shiftS T 23 6 = T 6 := by unfold shiftS; rw [if_neg (by omega)]
          rw [sA_sA, e1]
      · rw [show recH T = T from if_neg z]
        exact E0.neg z (E0.r rfl)
    refine E0.b (st3.mono (fun _ σ1 q => ?_))
    subst q
    have h6H : ∃ c', c' < 24 ∧ recH T 6 = ii c' := by
      unfold recH
      by_cases z : T 6 = 24
      · rw [if_pos z, upd_at, z]; exact ⟨23, by omega, by decide⟩
      · rw [if_neg z]
        exact ⟨c, Nat.lt_of_le_of_ne hc (fun e => z (by rw [h6T, e]; rfl)), h6T⟩
    obtain ⟨c', hc', e6⟩ := h6H
    refine E0.s (ta1 (q := 6) sA_at (by omega)) ?_
    rw [e6, show (10 : Int32) + ii c' = ii (10 + c') from ii_add 10 c']
    refine E0.s (tpa1 (q := 10 + c') sA_at (by omega)) (E0.s (ta1 (q := 6) sA_at (by omega)) (E0.s (tpa1 (q := 6) sA_at (by omega)) (E0.r ?_)))
    unfold recA
    rw [sA_sA, sA_sA, e6, ii_nat (by omega), upd_ne (by omega), e6]
end TPS
