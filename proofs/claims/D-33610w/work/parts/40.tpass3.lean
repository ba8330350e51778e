/-! STEPS; SAVES; WHAT WOULD BE -/
/-- K steps at most while the mode is RUN: how many, and what then -/
noncomputable def passI (n : Nat) : Nat → St → Nat × St
  | 0, S => (0, S)
  | K + 1, S => if S 1 = 1 then ((passI n K (stepS S n (bi (S 3 = 1)))).1 + 1, (passI n K (stepS S n (bi (S 3 = 1)))).2) else (0, S)
theorem passI_inv {n : Nat} : ∀ (K : Nat) (S : St), Inv2 S n → Inv2 (passI n K S).2 n := by
  intro K
  induction K with
  | zero => intro S h; exact h
  | succ K ih =>
    intro S h
    unfold passI
    split
    · exact ih _ (step_inv h).1
    · exact h
theorem passI_le {n : Nat} : ∀ (K : Nat) (S : St), (passI n K S).1 ≤ K := by
  intro K
  induction K with
  | zero => intro S; exact Nat.le_refl _
  | succ K ih =>
    intro S
    unfold passI
    split
    · have := ih (stepS S n (bi (S 3 = 1)))
      show _ + 1 ≤ K + 1
      omega
    · exact Nat.zero_le _
theorem passI_s {n K : Nat} {S : St} (h : S 1 = 1) : passI n (K + 1) S = ((passI n K (stepS S n (bi (S 3 = 1)))).1 + 1, (passI n K (stepS S n (bi (S 3 = 1)))).2) := by
  show (if S 1 = 1 then _ else _) = _
  rw [if_pos h]
theorem passI_n {n K : Nat} {S : St} (h : ¬ S 1 = 1) : passI n K S = (0, S) := by
  cases K with
  | zero => rfl
  | succ K =>
    show (if S 1 = 1 then _ else _) = _
    rw [if_neg h]
section TPP
variable {τ : TM} {n m : Nat} {S : St}
theorem tpasses (h : Inv2 S n) (hS : τ.2 1 = S) {K : Nat} (hK : K < 2 ^ 31) : E0 (t_X4_passes (ii K)) τ (fun v σ => v = ii (passI n K S).1 ∧ same τ σ ∧ σ.2 1 = (passI n K S).2) := by
  unfold t_X4_passes
  refine E0.b (E0.wh (fun μ (s : Int32 × Int32) σ => ∃ i T, i ≤ K ∧ μ = K - i ∧ s = (ii i, ii i) ∧ same τ σ ∧ σ.2 1 = T ∧ Inv2 T n ∧ passI n K S = (i + (passI n (K - i) T).1, (passI n (K - i) T).2)) (K - 0) (0, 0) τ ⟨0, S, Nat.zero_le _, rfl, rfl, same.rf, hS, h, by simp⟩ (fun μ s σ hJ => ?_))
  obtain ⟨i, T, hi, rfl, rfl, hs, hT, hI, e⟩ := hJ
  dsimp only
  rcases Nat.lt_or_ge i K with hlt | hge
  · refine E0.neg (by rw [ii_le (by omega) (by omega)]; omega) (E0.s (ta1 (q := 1) hT (by omega)) ?_)
    have eK : K - i = (K - (i + 1)) + 1 := by omega
    by_cases r : T 1 = 1
    · refine E0.pos r (E0.s (ta1 (q := 3) hT (by omega)) ?_)
      have eb : E0 (if T 3 = 1 then (pm_r 1 : PM TM Int32) else pm_r 0) σ (fun v σ1 => v = bi (T 3 = 1) ∧ σ1 = σ) := by
        by_cases z : T 3 = 1
        · exact E0.pos z (E0.r ⟨(bi_t z).symm, rfl⟩)
        · exact E0.neg z (E0.r ⟨(bi_f z).symm, rfl⟩)
      refine E0.b (eb.mono (fun v σ1 q => ?_))
      obtain ⟨rfl, rfl⟩ := q
      refine E0.b ((tstep hI hT (bi (T 3 = 1))).mono (fun _ σ2 q => ?_))
      obtain ⟨q1, q2, -⟩ := q
      refine E0.r ⟨K - (i + 1), by omega, i + 1, _, hlt, rfl, by rw [i1], hs.tr q1, q2, (step_inv hI).1, ?_⟩
      rw [e, eK, passI_s r]
      exact Prod.ext (by show i + (_ + 1) = i + 1 + _; omega) rfl
    · refine E0.neg r (E0.r (E0.r ⟨?_, hs, ?_⟩))
      · rw [e, passI_n r]; rfl
      · rw [e, passI_n r]; exact hT
  · have e0 : K - i = 0 := by omega
    refine E0.pos (by rw [ii_le (by omega) (by omega)]; omega) (E0.r (E0.r ⟨?_, hs, ?_⟩))
    · rw [e, e0]; unfold passI; rfl
    · rw [e, e0]; unfold passI; exact hT
/-- an array copied into another, from 0 up -/
theorem tcopy {a b N : Nat} (hab : a ≠ b) (ha : N ≤ tl a) (hb : N ≤ tl b) (hN : N < 2 ^ 31) {β : Type} {G : Unit → PM TM β} {Q : β → TM → Prop} (hq : E0 (G ()) (sA b τ (fun q => if q < N then τ.2 a q else τ.2 b q)) Q) :
    E0 (pm_b (pm_lp (fun (s : Int32) => if ii N ≤ s then pm_r (Sum.inr ()) else pm_b (t_a a s) fun x => pm_b (t_pa b s x) fun _ => pm_r (Sum.inl (s + 1))) 0) G) τ Q := by
  refine E0.b (E0.for N (fun i (s : Int32) σ => s = ii i ∧ σ = sA b τ (fun q => if q < i then τ.2 a q else τ.2 b q)) ⟨rfl, ?_⟩ (fun i hi s σ hJ => ?_) (fun s σ hJ => ?_))
  · have : (fun q => if q < 0 then τ.2 a q else τ.2 b q) = τ.2 b := by funext q; rw [if_neg (by omega)]
    rw [this, sA_self]
  · obtain ⟨rfl, rfl⟩ := hJ
    refine E0.neg (by rw [ii_le (by omega) (by omega)]; omega) (E0.s (ta_ok (j := a) (n := i) (by omega)) (E0.s (tpa_ok (j := b) (n := i) (by omega)) (E0.r ⟨_, rfl, i1 i, ?_⟩)))
    rw [sA_at, sA_sA, sA_ne hab]
    congr 1
    funext q
    by_cases e : q = i
    · subst e; rw [upd_at, if_pos (by omega)]
    · rw [upd_ne e]
      by_cases e2 : q < i
      · rw [if_pos e2, if_pos (by omega)]
      · rw [if_neg e2, if_neg (by omega)]
  · obtain ⟨rfl, rfl⟩ := hJ
    exact E0.pos (by rw [ii_le (by omega) (by omega)]; omega) (E0.r ⟨(), rfl, hq⟩)
/-- kept and brought back -/
def cp242 (a b : St) : St := fun q => if q < 242 then a q else b q
theorem tkeeps : E0 t_X4_keeps τ (fun _ σ => σ = sA 6 τ (cp242 (τ.2 1) (τ.2 6))) := by
  unfold t_X4_keeps
  exact tcopy (a := 1) (b := 6) (N := 242) (by decide) (by decide) (by decide) (by decide) (E0.r rfl)
theorem treturns : E0 t_X4_returns τ (fun _ σ => σ = sA 1 τ (cp242 (τ.2 6) (τ.2 1))) := by
  unfold t_X4_returns
  exact tcopy (a := 6) (b := 1) (N := 242) (by decide) (by decide) (by decide) (by decide) (E0.r rfl)
end TPP
