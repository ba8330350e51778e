/-! A STEP -/
def rateS (S : St) (o : Nat → Int32) (m : Nat) : Int32 := ((-wsum S o m) * 1000) / spd S m
abbrev kI (S : St) (m : Nat) : Prop := kd S m = 1
/-- charges moved by a part of the rates from what they were -/
noncomputable def chaS (S : St) (n : Nat) (b r : Nat → Int32) (d : Int32) : St := setF S n 3 (kI S) (fun m => hld (b m + r m / d) 10000000)
/-- what isn't of the panel stays -/
def same (τ σ : TM) : Prop := (∀ q, q ≠ 9 → σ.1 q = τ.1 q) ∧ ∀ q, q ≠ 1 → q ≠ 7 → q ≠ 8 → q ≠ 10 → q ≠ 11 → σ.2 q = τ.2 q
theorem same.rf {τ : TM} : same τ τ := ⟨fun _ _ => rfl, fun _ _ _ _ _ _ => rfl⟩
theorem same.tr {τ σ υ : TM} (h1 : same τ σ) (h2 : same σ υ) : same τ υ := ⟨fun q hq => (h2.1 q hq).trans (h1.1 q hq), fun q a b c d e => (h2.2 q a b c d e).trans (h1.2 q a b c d e)⟩
theorem same.A {τ : TM} {j : Nat} {f : Nat → Int32} (hj : j = 1 ∨ j = 7 ∨ j = 8 ∨ j = 10 ∨ j = 11) : same τ (sA j τ f) := ⟨fun _ _ => rfl, fun q a b c d e => sA_ne (by rcases hj with rfl | rfl | rfl | rfl | rfl <;> assumption)⟩
theorem same.oS {τ : TM} {f o : Nat → Int32} {ov : Int32} : same τ (oS τ f o ov) := ⟨fun q hq => sF_ne hq, fun q a b c d e => by
  show (sA 8 (sA 7 τ f) o).2 q = _
  rw [sA_ne c, sA_ne b]⟩
theorem tout' {S : St} {n : Nat} {τ : TM} (h : Inv S n) (hS : τ.2 1 = S) : E0 t_X4_laysOuts τ (fun _ σ => same τ σ ∧ σ.2 1 = S ∧ σ.1 9 = ovs S n ∧ (∀ m, m < n → σ.2 7 m = ii (lev S n m)) ∧ (∀ m, m < n → σ.2 8 m = outs S n m) ∧ σ.2 10 = τ.2 10 ∧ σ.2 11 = τ.2 11) := by
  refine (tout h hS).mono (fun _ σ q => ?_)
  obtain ⟨f, o, rfl, hf, ho⟩ := q
  exact ⟨same.oS, hS, rfl, hf, ho, rfl, rfl⟩
section TST
variable {τ : TM} {n m : Nat} {S : St}
theorem wsum_congr (h : Inv S n) {o o' : Nat → Int32} (ho : ∀ j, j < n → o j = o' j) (hm : m < n) : wsum S o m = wsum S o' m := by
  have key : ∀ k, k < 4 → inv S o m k = inv S o' m k := fun k hk => inv_congr h hm hk (fun j hj _ => ho j hj)
  unfold wsum
  rw [key 0 (by omega), key 1 (by omega), key 2 (by omega), key 3 (by omega)]
theorem spd_0 (h : Inv S n) (hm : m < n) : spd S m ≠ 0 := fun e => by
  have := (h.sp hm).1
  rw [e] at this
  exact absurd this (by decide)
theorem trate (h : Inv S n) (hS : τ.2 1 = S) {o : Nat → Int32} (ho : ∀ m, m < n → τ.2 8 m = o m) (hm : m < n) : t_X4_rate (ii m) τ = some (rateS S o m, τ, 0, 0) := by
  have hn := h.le
  unfold t_X4_rate
  rw [eb0 (twsum h hS rfl hm), eb0 (tof2 hS (by omega))]
  have : (pm_dv ((-wsum S (τ.2 8) m) * 1000) (spd S m) : PM TM Int32) = pm_r (rateS S o m) := by
    unfold pm_dv rateS
    rw [if_neg (spd_0 h hm), wsum_congr h ho hm]
  rw [this, br]; rfl
theorem trates (h : Inv S n) (hS : τ.2 1 = S) {o : Nat → Int32} (ho : ∀ m, m < n → τ.2 8 m = o m) : E0 t_X4_laysRates τ (fun _ σ => ∃ r, σ = sA 10 τ r ∧ ∀ m, m < n → r m = if kd S m = 1 then rateS S o m else 0) := by
  have hn := h.le
  unfold t_X4_laysRates
  refine E0.b (E0.for n (fun i (s : Int32) σ => s = ii i ∧ ∃ r, σ = sA 10 τ r ∧ ∀ m, m < i → r m = if kd S m = 1 then rateS S o m else 0) ⟨rfl, τ.2 10, sA_self.symm, fun m hm => by omega⟩ (fun i hi s σ hJ => ?_) (fun s σ hJ => ?_))
  · obtain ⟨rfl, r, rfl, hr⟩ := hJ
    have hS' : (sA 10 τ r).2 1 = S := hS
    refine E0.s (tn hS' h.z) (E0.neg (by rw [ii_le (by omega) (by omega)]; omega) (E0.s (tkind hS' (by omega)) ?_))
    have fin : ∀ v, v = (if kd S i = 1 then rateS S o i else 0) → E0 (pm_b (pm_r v) fun (v8 : Int32) => pm_b (t_pa 10 (ii i) v8) fun _ => (pm_r (Sum.inl (ii i + 1)) : PM TM (Int32 ⊕ Unit))) (sA 10 τ r) (fun r' σ1 => ∃ s', r' = .inl s' ∧ s' = ii (i + 1) ∧ ∃ r, σ1 = sA 10 τ r ∧ ∀ m, m < i + 1 → r m = if kd S m = 1 then rateS S o m else 0) := by
      rintro v rfl
      refine E0.rb (E0.s (tpa_ok (j := 10) (n := i) (show i < 16 by omega)) (E0.r ⟨_, rfl, i1 i, _, by rw [sA_at, sA_sA], fun m hm => ?_⟩))
      by_cases e : m = i
      · subst e; exact upd_at
      · rw [upd_ne e]; exact hr m (by omega)
    by_cases hk : kd S i = 1
    · exact E0.bpos hk (E0.as (E0.s (trate h hS' (o := o) ho hi) (fin _ (by rw [if_pos hk]))))
    · exact E0.bneg hk (fin _ (by rw [if_neg hk]))
  · obtain ⟨rfl, r, rfl, hr⟩ := hJ
    have hS' : (sA 10 τ r).2 1 = S := hS
    exact E0.s (tn hS' h.z) (E0.pos (by rw [ii_le (by omega) (by omega)]; omega) (E0.r ⟨(), rfl, E0.r ⟨r, rfl, hr⟩⟩))
theorem tcha (h : Inv S n) {T : St} (hT : ∃ v, T = setF S n 3 (kI S) v) (hS : τ.2 1 = T) {b r : Nat → Int32} (hb : ∀ m, m < n → τ.2 11 m = b m) (hr : ∀ m, m < n → kd S m = 1 → τ.2 10 m = r m) {d : Int32} (hd : d ≠ 0) : E0 (t_X4_charges d) τ (fun _ σ => σ = sA 1 τ (chaS S n b r d)) := by
  have hn := h.le
  obtain ⟨v, rfl⟩ := hT
  have hI : Inv (setF S n 3 (kI S) v) n := Inv_setF h (Or.inr (Or.inl rfl))
  have hk0 : ∀ m, kd (setF S n 3 (kI S) v) m = kd S m := fun m => setF_ne (by omega) (by omega)
  have hI2 : ∀ i, Inv (setF (setF S n 3 (kI S) v) i 3 (kI S) (fun m => hld (b m + r m / d) 10000000)) n := fun i => Inv_setF hI (Or.inr (Or.inl rfl))
  have hk2 : ∀ i m, kd (setF (setF S n 3 (kI S) v) i 3 (kI S) (fun m => hld (b m + r m / d) 10000000)) m = kd S m := fun i m => (setF_ne (by omega) (by omega)).trans (hk0 m)
  unfold t_X4_charges
  refine E0.b (E0.for n (fun i (s : Int32) σ => s = ii i ∧ σ = sA 1 τ (setF (setF S n 3 (kI S) v) i 3 (kI S) (fun m => hld (b m + r m / d) 10000000))) ⟨rfl, by rw [setF_0, ← hS, sA_self]⟩ (fun i hi s σ hJ => ?_) (fun s σ hJ => ?_))
  · obtain ⟨rfl, rfl⟩ := hJ
    have hS' : (sA 1 τ (setF (setF S n 3 (kI S) v) i 3 (kI S) (fun m => hld (b m + r m / d) 10000000))).2 1 = setF (setF S n 3 (kI S) v) i 3 (kI S) (fun m => hld (b m + r m / d) 10000000) := rfl
    refine E0.s (tn hS' (hI2 i).z) (E0.neg (by rw [ii_le (by omega) (by omega)]; omega) (E0.s (tkind hS' (by omega)) ?_))
    rw [hk2]
    by_cases hk : kd S i = 1
    · refine E0.bpos hk (E0.as (E0.s (ta_ok (j := 11) (n := i) (show i < 16 by omega)) (E0.as (E0.s (ta_ok (j := 10) (n := i) (show i < 16 by omega)) ?_))))
      have e1 : (sA 1 τ (setF (setF S n 3 (kI S) v) i 3 (kI S) (fun m => hld (b m + r m / d) 10000000))).2 11 i = b i := hb i hi
      have e2 : (sA 1 τ (setF (setF S n 3 (kI S) v) i 3 (kI S) (fun m => hld (b m + r m / d) 10000000))).2 10 i = r i := hr i hi hk
      rw [e1, e2]
      have e3 : (pm_dv (r i) d : PM TM Int32) = pm_r (r i / d) := by unfold pm_dv; rw [if_neg hd]
      rw [e3]
      refine E0.as (E0.rb (E0.as (E0.s theld (E0.as (E0.s (tputs3 hS' (by omega)) (E0.rb (E0.r ⟨_, rfl, i1 i, ?_⟩)))))))
      rw [sA_sA, setF_up (v := fun m => hld (b m + r m / d) 10000000) (by omega) hk]
    · exact E0.bneg hk (E0.rb (E0.r ⟨_, rfl, i1 i, by rw [setF_sk hk]⟩))
  · obtain ⟨rfl, rfl⟩ := hJ
    have hS' : (sA 1 τ (setF (setF S n 3 (kI S) v) n 3 (kI S) (fun m => hld (b m + r m / d) 10000000))).2 1 = setF (setF S n 3 (kI S) v) n 3 (kI S) (fun m => hld (b m + r m / d) 10000000) := rfl
    refine E0.s (tn hS' (hI2 n).z) (E0.pos (by rw [ii_le (by omega) (by omega)]; omega) (E0.r ⟨(), rfl, E0.r ?_⟩))
    rw [setF_setF (fun _ _ => Iff.rfl)]; rfl
end TST
