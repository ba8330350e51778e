/-! THE BEST FACTOR; THE HISTORY: the reference's -/
theorem Inv2.up0 {S : St} {n p c : Nat} {v : Int32} (h : Inv2 S n) (hc : c = 1 ∨ c = 3 ∨ c = 4) : Inv2 (upd S (mI p c) v) n := by
  have lo : ∀ q, q < 34 → upd S (mI p c) v q = S q := fun q hq => upd_ne (by have := mI_ge (m := p) (c := c); omega)
  exact h.congr (h.1.congr (lo 0 (by omega)) (fun m c' hm hc' h1 h3 h4 => upd_ne (fun e => by have := (mI_inj hc' (by omega) e).2; omega))) (lo 6 (by omega)) (lo 5 (by omega)) (lo 2 (by omega)) (lo 3 (by omega))
/-- how far off with this factor -/
noncomputable def farS (S : St) (n p m : Nat) (v : Int32) (f : Nat) : Int32 := absv (absv (outs (thenS (upd S (mI p 1) (ii f)) n 20) n m) - v)
/-- the best so far, and how far off -/
noncomputable def bestI (S : St) (n p m : Nat) (v : Int32) : Nat → Int32 × Int32
  | 0 => (-1, 0)
  | i + 1 =>
    let f := ii (50 * i)
    let r := if (bestI S n p m v i).1 = -1 ∨ farS S n p m v (50 * i) < (bestI S n p m v i).2 then f else (bestI S n p m v i).1
    (r, if r = f then farS S n p m v (50 * i) else (bestI S n p m v i).2)
section TBE
variable {τ : TM} {n m p : Nat} {S : St}
theorem upd_upd {f : Nat → Int32} {i : Nat} {v w : Int32} : upd (upd f i v) i w = upd f i w := by
  funext q
  by_cases e : q = i
  · subst e; rw [upd_at, upd_at]
  · rw [upd_ne e, upd_ne e, upd_ne e]
theorem upd_self {f : Nat → Int32} {i : Nat} : upd f i (f i) = f := by
  funext q
  by_cases e : q = i
  · subst e; rw [upd_at]
  · rw [upd_ne e]
theorem tbest (h : Inv2 S n) (hS : τ.2 1 = S) (hp : p < n) (hm : m < n) {v : Int32} : E0 (t_X4_best (ii p) (ii m) v) τ (fun r σ => r = (bestI S n p m v 21).1 ∧ same6 τ σ ∧ σ.2 1 = S) := by
  have hn := h.1.le
  unfold t_X4_best
  refine E0.s (tof1 hS (by omega)) (E0.b (E0.for 21 (fun i (s : Int32 × Int32 × Int32) σ => s = ((bestI S n p m v i).1, (bestI S n p m v i).2, ii (50 * i)) ∧ same6 τ σ ∧ ∃ w, σ.2 1 = upd S (mI p 1) w) ⟨rfl, same6.rf, stt S p, by rw [hS]; exact upd_self.symm⟩ (fun i hi s σ hJ => ?_) (fun s σ hJ => ?_)))
  · obtain ⟨rfl, hs, w, hw⟩ := hJ
    dsimp only
    refine E0.neg (by rw [show (1000 : Int32) = ii 1000 from rfl, ii_lt (by omega) (by omega)]; omega) (E0.s (tputs1 hw (by omega)) ?_)
    rw [upd_upd]
    refine E0.b ((tthen (K := 20) (h.up0 (p := p) (c := 1) (v := ii (50 * i)) (by omega)) sA_at hm (by omega)).mono (fun x σ2 q => ?_))
    obtain ⟨rfl, q2, q3⟩ := q
    refine E0.s tsize (E0.s tsize ?_)
    have hs2 : same6 τ σ2 := (hs.tr (same6.A (by omega))).tr q2
    have e1 : E0 (if (bestI S n p m v i).1 = -1 then (pm_r (ii (50 * i)) : PM TM Int32) else if (bestI S n p m v i).2 ≤ farS S n p m v (50 * i) then pm_r (bestI S n p m v i).1 else pm_r (ii (50 * i))) σ2 (fun r σ => r = (bestI S n p m v (i + 1)).1 ∧ σ = σ2) := by
      show E0 _ σ2 (fun r σ => r = (if (bestI S n p m v i).1 = -1 ∨ farS S n p m v (50 * i) < (bestI S n p m v i).2 then ii (50 * i) else (bestI S n p m v i).1) ∧ σ = σ2)
      by_cases z : (bestI S n p m v i).1 = -1
      · exact E0.pos z (E0.r ⟨(if_pos (Or.inl z)).symm, rfl⟩)
      · refine E0.neg z ?_
        by_cases y : (bestI S n p m v i).2 ≤ farS S n p m v (50 * i)
        · exact E0.pos y (E0.r ⟨(if_neg (fun q => q.elim z (fun q => absurd y (i32_nle.mpr q)))).symm, rfl⟩)
        · exact E0.neg y (E0.r ⟨(if_pos (Or.inr (i32_nle.mp y))).symm, rfl⟩)
    refine E0.b (e1.mono (fun r σ q => ?_))
    obtain ⟨rfl, rfl⟩ := q
    have e50 : ii (50 * i) + 50 = ii (50 * (i + 1)) := by rw [show (50 : Int32) = ii 50 from rfl, ii_add]; rfl
    have e2 : ∀ x, x = (if (bestI S n p m v (i + 1)).1 = ii (50 * i) then farS S n p m v (50 * i) else (bestI S n p m v i).2) → x = (bestI S n p m v (i + 1)).2 := fun x hx => hx
    by_cases z : (bestI S n p m v (i + 1)).1 = ii (50 * i)
    · refine E0.bpos z (E0.rb (E0.r ⟨_, rfl, ?_, hs2, _, q3⟩))
      rw [e50, ← e2 (farS S n p m v (50 * i)) (by rw [if_pos z])]; rfl
    · refine E0.bneg z (E0.rb (E0.r ⟨_, rfl, ?_, hs2, _, q3⟩))
      rw [e50, ← e2 (bestI S n p m v i).2 (by rw [if_neg z])]
  · obtain ⟨rfl, hs, w, hw⟩ := hJ
    dsimp only
    refine E0.pos (by decide) (E0.r ⟨_, rfl, E0.s (tputs1 hw (by omega)) (E0.r ⟨rfl, hs.tr (same6.A (by omega)), ?_⟩)⟩)
    rw [sA_at, upd_upd]
    exact upd_self
/-- the history one state on -/
def hisS (τ : TM) (k q : Nat) : Int32 := if k = 6 then (if q < 1210 then τ.2 2 (q + 242) else if q < 1452 then τ.2 1 (q - 1210) else τ.2 2 q) else if 242 * k ≤ q ∧ q < 242 * k + 242 then τ.2 1 (q - 242 * k) else τ.2 2 q
theorem tsaves {k : Nat} (hk : k ≤ 6) (h3 : τ.1 3 = ii k) : E0 t_X4_saves τ (fun _ σ => σ = sF 3 (sA 2 τ (hisS τ k)) (ii (if k = 6 then 6 else k + 1))) := by
  unfold t_X4_saves
  refine E0.s ti_ok ?_
  rw [h3]
  -- the oldest dropped
  have d1 : E0 (if ii k = 6 then pm_b (pm_lp (fun (s4 : Int32) => if (1210 : Int32) ≤ s4 then pm_r (Sum.inr ()) else pm_b (t_a 2 (s4 + 242)) fun x9 => pm_b (t_pa 2 s4 x9) fun _ => pm_r (Sum.inl (s4 + 1))) 0) fun (v10 : Unit) => pm_b (t_i 3) fun x11 => pm_b (t_p 3 (x11 - 1)) fun _ => pm_r () else (pm_r () : PM TM Unit)) τ (fun _ σ => ∃ k', k' < 6 ∧ k' = (if k = 6 then 5 else k) ∧ σ = sF 3 (sA 2 τ (fun q => if k = 6 ∧ q < 1210 then τ.2 2 (q + 242) else τ.2 2 q)) (ii k')) := by
    by_cases z : k = 6
    · subst z
      refine E0.pos (by decide) (E0.b (E0.for 1210 (fun i (s : Int32) σ => s = ii i ∧ σ = sA 2 τ (fun q => if q < i then τ.2 2 (q + 242) else τ.2 2 q)) ⟨rfl, ?_⟩ (fun i hi s σ hJ => ?_) (fun s σ hJ => ?_)))
      · have : (fun q => if q < 0 then τ.2 2 (q + 242) else τ.2 2 q) = τ.2 2 := by funext q; rw [if_neg (by omega)]
        rw [this, sA_self]
      · obtain ⟨rfl, rfl⟩ := hJ
        refine E0.neg (by rw [show (1210 : Int32) = ii 1210 from rfl, ii_le (by omega) (by omega)]; omega) ?_
        rw [show ii i + 242 = ii (i + 242) from ii_add i 242]
        refine E0.s (ta_ok (j := 2) (n := i + 242) (show i + 242 < 1452 by omega)) (E0.s (tpa_ok (j := 2) (n := i) (show i < 1452 by omega)) (E0.r ⟨_, rfl, i1 i, ?_⟩))
        rw [sA_at, sA_sA, if_neg (by omega)]
        congr 1
        funext q
        by_cases e : q = i
        · subst e; rw [upd_at, if_pos (by omega)]
        · rw [upd_ne e]
          by_cases e2 : q < i
          · rw [if_pos e2, if_pos (by omega)]
          · rw [if_neg e2, if_neg (by omega)]
      · obtain ⟨rfl, rfl⟩ := hJ
        refine E0.pos (by decide) (E0.r ⟨(), rfl, E0.s ti_ok ?_⟩)
        have e3 : (sA 2 τ (fun q => if q < 1210 then τ.2 2 (q + 242) else τ.2 2 q)).1 3 = ii 6 := h3
        rw [e3]
        refine E0.s tp_ok (E0.r ⟨5, by omega, rfl, ?_⟩)
        congr 1
        congr 1
        funext q
        by_cases e : q < 1210
        · rw [if_pos e, if_pos ⟨rfl, e⟩]
        · rw [if_neg e, if_neg (fun x => e x.2)]
    · refine E0.neg (fun e => z ((ii_eq (by omega) (by omega)).mp (show ii k = ii 6 from e))) (E0.r ⟨k, by omega, (if_neg z).symm, ?_⟩)
      have e1 : (fun q => if k = 6 ∧ q < 1210 then τ.2 2 (q + 242) else τ.2 2 q) = τ.2 2 := by funext q; rw [if_neg (fun x => z x.1)]
      rw [e1, sA_self, ← h3]
      refine Prod.ext (funext fun q => ?_) rfl
      show τ.1 q = if q = 3 then τ.1 3 else τ.1 q
      split
      · next e => rw [e]
      · rfl
  refine E0.b (d1.mono (fun _ σ q => ?_))
  obtain ⟨k', hk', ek, rfl⟩ := q
  obtain ⟨b, eb⟩ : ∃ b : Nat → Int32, b = fun q => if k = 6 ∧ q < 1210 then τ.2 2 (q + 242) else τ.2 2 q := ⟨_, rfl⟩
  rw [← eb]
  refine E0.b (E0.for 242 (fun i (s : Int32) σ => s = ii i ∧ σ = sF 3 (sA 2 τ (fun q => if 242 * k' ≤ q ∧ q < 242 * k' + i then τ.2 1 (q - 242 * k') else b q)) (ii k')) ⟨rfl, ?_⟩ (fun i hi s σ hJ => ?_) (fun s σ hJ => ?_))
  · have : (fun q => if 242 * k' ≤ q ∧ q < 242 * k' + 0 then τ.2 1 (q - 242 * k') else b q) = b := by funext q; rw [if_neg (by omega)]
    rw [this]
  · obtain ⟨rfl, rfl⟩ := hJ
    refine E0.neg (by rw [show (242 : Int32) = ii 242 from rfl, ii_le (by omega) (by omega)]; omega) (E0.s ti_ok (E0.s (ta_ok (j := 1) (n := i) (show i < 242 by omega)) ?_))
    rw [sF_at, show (ii k' * 242) + ii i = ii (k' * 242 + i) by rw [show (242 : Int32) = ii 242 from rfl, ii_mul, ii_add]]
    refine E0.s (tpa_ok (j := 2) (n := k' * 242 + i) (show k' * 242 + i < 1452 by omega)) (E0.r ⟨_, rfl, i1 i, ?_⟩)
    show sF 3 (sA 2 (sA 2 τ _) _) (ii k') = _
    rw [sA_sA]
    congr 1
    congr 1
    funext q
    by_cases e : q = k' * 242 + i
    · subst e; rw [upd_at, if_pos (by omega)]
      show τ.2 1 i = τ.2 1 (k' * 242 + i - 242 * k')
      rw [show k' * 242 + i - 242 * k' = i by omega]
    · rw [upd_ne e]
      show (if 242 * k' ≤ q ∧ q < 242 * k' + i then τ.2 1 (q - 242 * k') else b q) = _
      by_cases e2 : 242 * k' ≤ q ∧ q < 242 * k' + i
      · rw [if_pos e2, if_pos (by omega)]
      · rw [if_neg e2, if_neg (by omega)]
  · obtain ⟨rfl, rfl⟩ := hJ
    refine E0.pos (by decide) (E0.r ⟨(), rfl, E0.s ti_ok ?_⟩)
    rw [sF_at, i1]
    refine E0.s tp_ok (E0.r ?_)
    rw [sF_sF]
    have e1 : ii (k' + 1) = ii (if k = 6 then 6 else k + 1) := by rw [ek]; split <;> rfl
    rw [e1]
    congr 1
    congr 1
    funext q
    rw [ek, eb]
    unfold hisS
    by_cases z : k = 6
    · rw [if_pos z]
      simp only [z, if_true, true_and]
      by_cases e2 : q < 1210
      · rw [if_neg (by omega), if_pos e2, if_pos e2]
      · by_cases e3 : q < 1452
        · rw [if_pos (by omega), if_neg e2, if_pos e3]
        · rw [if_neg (by omega), if_neg e2, if_neg e2, if_neg e3]
    · rw [if_neg z]
      simp only [z, if_false, false_and]
end TBE
