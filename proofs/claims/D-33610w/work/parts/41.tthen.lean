/-! WHAT WOULD BE, the reference's way -/
theorem cha_hi {S : St} {n : Nat} {b r : Nat → Int32} {d : Int32} {q : Nat} (hn : n ≤ 16) (hq : 242 ≤ q) : chaS S n b r d q = S q := by
  unfold chaS setF
  rw [if_neg]
  rintro ⟨-, -, a, -⟩
  omega
theorem setF_hi {S : St} {n c : Nat} {P : Nat → Prop} {v : Nat → Int32} {q : Nat} (hn : n ≤ 16) (hq : 242 ≤ q) : setF S n c P v q = S q := by
  unfold setF
  rw [if_neg]
  rintro ⟨-, -, a, -⟩
  omega
theorem step_hi {S : St} {n : Nat} {g : Int32} {q : Nat} (h : Inv2 S n) (hq : 242 ≤ q) : stepS S n g q = S q := by
  obtain ⟨c, hc, h6⟩ := h.2.1
  have hn := h.1.le
  have e6 : pkS (upd (movS S n) 4 (movS S n 4 + 1)) n (outs (movS S n) n) 6 = ii c := by
    unfold pkS; rw [setF_lo (by omega), upd_ne (by omega)]; unfold movS; rw [cha_lo (by omega)]; exact h6
  unfold stepS stpT
  rw [upd_ne (by omega), recF_q hc e6 (Or.inr (by omega))]
  unfold pkS
  rw [setF_hi hn hq, upd_ne (by omega)]
  unfold movS
  exact cha_hi hn hq
theorem passI_hi {n : Nat} {q : Nat} (hq : 242 ≤ q) : ∀ (K : Nat) (S : St), Inv2 S n → (passI n K S).2 q = S q := by
  intro K
  induction K with
  | zero => intro S h; rfl
  | succ K ih =>
    intro S h
    by_cases z : S 1 = 1
    · rw [passI_s z, ih _ (step_inv h).1, step_hi h hq]
    · rw [passI_n z]
theorem cp_back {S T X : St} (h : ∀ q, 242 ≤ q → T q = S q) : cp242 (cp242 S X) T = S := by
  funext q
  unfold cp242
  by_cases e : q < 242
  · rw [if_pos e, if_pos e]
  · rw [if_neg e]; exact h q (by omega)
theorem Inv2.up1 {S : St} {n : Nat} {v : Int32} (h : Inv2 S n) : Inv2 (upd S 1 v) n := h.congr (Inv_upd h.1 (by omega)) (upd_ne (by omega)) (upd_ne (by omega)) (upd_ne (by omega)) (upd_ne (by omega))
/-- the panel set running, K steps on -/
noncomputable def thenS (S : St) (n K : Nat) : St := (passI n K (upd S 1 1)).2
/-- .. but for what's kept meanwhile -/
def same6 (τ σ : TM) : Prop := (∀ q, q ≠ 9 → σ.1 q = τ.1 q) ∧ ∀ q, q ≠ 1 → q ≠ 6 → q ≠ 7 → q ≠ 8 → q ≠ 10 → q ≠ 11 → σ.2 q = τ.2 q
theorem same6.of {τ σ : TM} (h : same τ σ) : same6 τ σ := ⟨h.1, fun q a _ b c d e => h.2 q a b c d e⟩
theorem same6.rf {τ : TM} : same6 τ τ := same6.of same.rf
theorem same6.tr {τ σ υ : TM} (h1 : same6 τ σ) (h2 : same6 σ υ) : same6 τ υ := ⟨fun q hq => (h2.1 q hq).trans (h1.1 q hq), fun q a b c d e f => (h2.2 q a b c d e f).trans (h1.2 q a b c d e f)⟩
theorem same6.A {τ : TM} {j : Nat} {f : Nat → Int32} (hj : j = 1 ∨ j = 6 ∨ j = 7 ∨ j = 8 ∨ j = 10 ∨ j = 11) : same6 τ (sA j τ f) := ⟨fun _ _ => rfl, fun q a b c d e f => sA_ne (by rcases hj with rfl | rfl | rfl | rfl | rfl | rfl <;> assumption)⟩
theorem same.k6 {τ σ : TM} (h : same τ σ) : σ.2 6 = τ.2 6 := h.2 6 (by decide) (by decide) (by decide) (by decide) (by decide)
section TTH
variable {τ : TM} {n m : Nat} {S : St}
theorem toutput (h : Inv S n) (hS : τ.2 1 = S) (hm : m < n) : E0 (t_X4_output (ii m)) τ (fun v σ => v = outs S n m ∧ same τ σ ∧ σ.2 1 = S ∧ σ.1 9 = ovs S n ∧ (∀ m, m < n → σ.2 7 m = ii (lev S n m)) ∧ (∀ m, m < n → σ.2 8 m = outs S n m) ∧ σ.2 6 = τ.2 6) := by
  have hn := h.le
  unfold t_X4_output
  refine E0.b ((tout h hS).mono (fun _ σ q => ?_))
  obtain ⟨f, o, rfl, hf, ho⟩ := q
  exact E0.s (ta_ok (j := 8) (n := m) (show m < 16 by omega)) (E0.r ⟨ho m hm, same.oS, hS, rfl, hf, ho, rfl⟩)
theorem tthen (h : Inv2 S n) (hS : τ.2 1 = S) (hm : m < n) {K : Nat} (hK : K < 2 ^ 31) : E0 (t_X4_outputThen (ii m) (ii K)) τ (fun v σ => v = outs (thenS S n K) n m ∧ same6 τ σ ∧ σ.2 1 = S) := by
  unfold t_X4_outputThen
  refine E0.b (tkeeps.mono (fun _ σ q => ?_))
  subst q
  have S1 : (sA 6 τ (cp242 (τ.2 1) (τ.2 6))).2 1 = S := hS
  refine E0.s (tpa1 (q := 1) S1 (by omega)) (E0.b ((tpasses (S := upd S 1 1) h.up1 rfl hK).mono (fun v σ q => ?_)))
  obtain ⟨-, s2, e2⟩ := q
  have I2 := passI_inv K _ (h.up1 (v := 1))
  refine E0.b ((toutput I2.1 e2 hm).mono (fun v2 σ3 q3 => ?_))
  obtain ⟨rfl, s3, e3, -, -, -, e6⟩ := q3
  refine E0.b (treturns.mono (fun _ σ4 q4 => ?_))
  subst q4
  have k6 : σ3.2 6 = cp242 S (τ.2 6) := by rw [e6, s2.k6, ← hS]; rfl
  refine E0.r ⟨rfl, (((same6.A (by omega)).tr (same6.A (by omega))).tr ((same6.of s2).tr (same6.of s3))).tr (same6.A (by omega)), ?_⟩
  rw [sA_at, k6, e3, cp_back (fun q hq => by rw [passI_hi hq K _ h.up1, upd_ne (by omega)])]
/-- how many steps until something is overloaded, from T on, R looks left -/
noncomputable def ovI (n : Nat) : Nat → St → Nat × St
  | 0, T => (0, T)
  | R + 1, T => if ovs T n = 0 then ((ovI n R (stepS T n 0)).1 + 1, (ovI n R (stepS T n 0)).2) else (0, T)
noncomputable def untS (S : St) (n : Nat) : Int32 := if ovs (ovI n 200 S).2 n = 0 then -1 else ii (ovI n 200 S).1
theorem ovI_s {n R : Nat} {T : St} (h : ovs T n = 0) : ovI n (R + 1) T = ((ovI n R (stepS T n 0)).1 + 1, (ovI n R (stepS T n 0)).2) := by
  show (if ovs T n = 0 then _ else _) = _
  rw [if_pos h]
theorem ovI_n {n R : Nat} {T : St} (h : ¬ ovs T n = 0) : ovI n R T = (0, T) := by
  cases R with
  | zero => rfl
  | succ R =>
    show (if ovs T n = 0 then _ else _) = _
    rw [if_neg h]
theorem tuntil (h : Inv2 S n) (hS : τ.2 1 = S) : E0 t_X4_untilOver τ (fun v σ => v = untS S n ∧ same6 τ σ ∧ σ.2 1 = S) := by
  unfold t_X4_untilOver
  refine E0.b (tkeeps.mono (fun _ σ q => ?_))
  subst q
  have S1 : (sA 6 τ (cp242 (τ.2 1) (τ.2 6))).2 1 = S := hS
  refine E0.b ((tout' h.1 S1).mono (fun _ σ1 q1 => ?_))
  obtain ⟨s1, e1, v1, -, -, -, -⟩ := q1
  have k1 : σ1.2 6 = cp242 S (τ.2 6) := by rw [s1.k6, ← hS]; rfl
  have s1' : same6 τ σ1 := (same6.A (by omega)).tr (same6.of s1)
  refine E0.b (E0.wh (fun μ (s : Int32) σ => ∃ i T, i ≤ 200 ∧ μ = 200 - i ∧ s = ii i ∧ same6 τ σ ∧ σ.2 1 = T ∧ Inv2 T n ∧ σ.1 9 = ovs T n ∧ σ.2 6 = cp242 S (τ.2 6) ∧ (∀ q, 242 ≤ q → T q = S q) ∧ ovI n 200 S = (i + (ovI n (200 - i) T).1, (ovI n (200 - i) T).2)) (200 - 0) 0 σ1 ⟨0, S, Nat.zero_le _, rfl, rfl, s1', e1, h, v1, k1, fun _ _ => rfl, by simp⟩ (fun μ s σ hJ => ?_))
  obtain ⟨i, T, hi, rfl, rfl, hs, hT, hI, hv, hk, hq, e⟩ := hJ
  refine E0.s ti_ok ?_
  rw [hv]
  have fin : ovI n (200 - i) T = (0, T) → E0 (pm_b (t_i 9) fun x => pm_b (if x = 0 then pm_r 0 else pm_r 1) fun (w : Int32) => pm_b t_X4_returns fun _ => pm_b (if w = 0 then pm_r (-1) else pm_r (ii i)) fun (y : Int32) => pm_r y) σ (fun v σ => v = untS S n ∧ same6 τ σ ∧ σ.2 1 = S) := by
    intro e2
    rw [e2] at e
    refine E0.s ti_ok ?_
    rw [hv]
    have hu : untS S n = if ovs T n = 0 then -1 else ii i := by unfold untS; rw [e]; rfl
    have tail : ∀ w : Int32, E0 (pm_b (if w = 0 then (pm_r (-1) : PM TM Int32) else pm_r (ii i)) fun (y : Int32) => pm_r y) (sA 1 σ (cp242 (σ.2 6) (σ.2 1))) (fun v σ' => v = (if w = 0 then -1 else ii i) ∧ σ' = sA 1 σ (cp242 (σ.2 6) (σ.2 1))) := by
      intro w
      by_cases z : w = 0
      · exact E0.bpos z (E0.rb (E0.r ⟨(if_pos z).symm, rfl⟩))
      · exact E0.bneg z (E0.rb (E0.r ⟨(if_neg z).symm, rfl⟩))
    have bk : sA 1 σ (cp242 (σ.2 6) (σ.2 1)) = sA 1 σ S := by rw [hk, hT, cp_back hq]
    by_cases z : ovs T n = 0
    · refine E0.bpos z (E0.rb (E0.b (treturns.mono (fun _ σ4 q4 => ?_))))
      subst q4
      refine (tail 0).mono (fun v σ5 q5 => ?_)
      obtain ⟨rfl, rfl⟩ := q5
      rw [bk]
      exact ⟨by rw [hu, if_pos z]; rfl, hs.tr (same6.A (by omega)), rfl⟩
    · refine E0.bneg z (E0.rb (E0.b (treturns.mono (fun _ σ4 q4 => ?_))))
      subst q4
      refine (tail 1).mono (fun v σ5 q5 => ?_)
      obtain ⟨rfl, rfl⟩ := q5
      rw [bk]
      exact ⟨by rw [hu, if_neg z]; rfl, hs.tr (same6.A (by omega)), rfl⟩
  by_cases z : ovs T n = 0
  · refine E0.pos z ?_
    rcases Nat.lt_or_ge i 200 with hlt | hge
    · refine E0.neg (by rw [show (200 : Int32) = ii 200 from rfl, ii_le (by omega) (by omega)]; omega) (E0.b ((tstep hI hT 0).mono (fun _ σ2 q => ?_)))
      obtain ⟨q1, q2, q3⟩ := q
      refine E0.r ⟨200 - (i + 1), by omega, i + 1, _, hlt, rfl, i1 i, hs.tr (same6.of q1), q2, (step_inv hI).1, q3, by rw [q1.k6]; exact hk, fun q hq' => by rw [step_hi hI hq']; exact hq q hq', ?_⟩
      rw [e, show 200 - i = (200 - (i + 1)) + 1 by omega, ovI_s z]
      exact Prod.ext (by show i + (_ + 1) = i + 1 + _; omega) rfl
    · have : 200 - i = 0 := by omega
      exact E0.pos (by rw [show (200 : Int32) = ii 200 from rfl, ii_le (by omega) (by omega)]; omega) (E0.r (fin (by rw [this]; rfl)))
  · exact E0.neg z (E0.r (fin (ovI_n z)))
end TTH
