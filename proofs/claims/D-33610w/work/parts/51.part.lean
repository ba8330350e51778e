/-! A PART's OWN READS -/
/-- a part's raw output out of its inputs -/
def rawS (S : St) (fi : Nat → Int32) (m : Nat) : Int32 :=
  if kd S m = 0 then -((((0 + wgt S m 0 * fi 0) + wgt S m 1 * fi 1) + wgt S m 2 * fi 2) + wgt S m 3 * fi 3) else if kd S m = 1 then chg S m / 1000 else if kd S m = 2 then (fi 0 * stt S m) / 1000 else if kd S m = 3 then (fi 0 * fi 1) / 10000
  else if kd S m = 4 then (if fi 0 < fi 1 then fi 3 else fi 2) else stt S m
theorem free_raw {S : St} {o : Nat → Int32} {m : Nat} : free S o m = rawS S (inv S o m) m := rfl
theorem inpN_6 : ∀ c, c < 6 → inpN (ii c) = [4, 4, 1, 2, 4, 0].getD c 0 := by decide
theorem rawS_0 {S : St} {fi : Nat → Int32} {m : Nat} (e : kd S m = ii 0) : rawS S fi m = -((((0 + wgt S m 0 * fi 0) + wgt S m 1 * fi 1) + wgt S m 2 * fi 2) + wgt S m 3 * fi 3) := by
  unfold rawS
  rw [e, if_pos (by decide)]
theorem rawS_1 {S : St} {fi : Nat → Int32} {m : Nat} (e : kd S m = ii 1) : rawS S fi m = chg S m / 1000 := by
  unfold rawS
  rw [e, if_neg (by decide), if_pos (by decide)]
theorem rawS_2 {S : St} {fi : Nat → Int32} {m : Nat} (e : kd S m = ii 2) : rawS S fi m = (fi 0 * stt S m) / 1000 := by
  unfold rawS
  rw [e, if_neg (by decide), if_neg (by decide), if_pos (by decide)]
theorem rawS_3 {S : St} {fi : Nat → Int32} {m : Nat} (e : kd S m = ii 3) : rawS S fi m = (fi 0 * fi 1) / 10000 := by
  unfold rawS
  rw [e, if_neg (by decide), if_neg (by decide), if_neg (by decide), if_pos (by decide)]
theorem rawS_4 {S : St} {fi : Nat → Int32} {m : Nat} (e : kd S m = ii 4) : rawS S fi m = (if fi 0 < fi 1 then fi 3 else fi 2) := by
  unfold rawS
  rw [e, if_neg (by decide), if_neg (by decide), if_neg (by decide), if_neg (by decide), if_pos (by decide)]
theorem rawS_5 {S : St} {fi : Nat → Int32} {m : Nat} (e : kd S m = ii 5) : rawS S fi m = stt S m := by
  unfold rawS
  rw [e, if_neg (by decide), if_neg (by decide), if_neg (by decide), if_neg (by decide), if_neg (by decide)]
theorem rawS_congr {S : St} {n : Nat} (hI : Inv S n) {m : Nat} (hm : m < n) {fi fi' : Nat → Int32} (h : ∀ k, k < inpN (kd S m) → fi k = fi' k) : rawS S fi m = rawS S fi' m := by
  obtain ⟨c, hc, e⟩ := hI.kin hm
  rw [e, inpN_6 c hc] at h
  rcases (show c = 0 ∨ c = 1 ∨ c = 2 ∨ c = 3 ∨ c = 4 ∨ c = 5 by omega) with rfl | rfl | rfl | rfl | rfl | rfl
  · rw [rawS_0 e, rawS_0 e, h 0 (by decide), h 1 (by decide), h 2 (by decide), h 3 (by decide)]
  · rw [rawS_1 e, rawS_1 e]
  · rw [rawS_2 e, rawS_2 e, h 0 (by decide)]
  · rw [rawS_3 e, rawS_3 e, h 0 (by decide), h 1 (by decide)]
  · rw [rawS_4 e, rawS_4 e, h 0 (by decide), h 1 (by decide), h 2 (by decide), h 3 (by decide)]
  · rw [rawS_5 e, rawS_5 e]
theorem sub4 (a b c d : Int32) : (((0 - a) - b) - c) - d = -((((0 + a) + b) + c) + d) := by
  simp only [Int32.sub_eq_add_neg, Int32.neg_add, Int32.zero_add]
section PRT
variable {g : sm_G} {σ : Sto} {Λ : Lay} {n : Nat} {S : St} {X : Scr}
theorem ptF_0 {i : Nat} : (ptF Λ S X i)[0]? = some (.ref (lC Λ i)) := by unfold ptF; split <;> rfl
theorem ptF_1 {i : Nat} : (ptF Λ S X i)[1]? = some (.int (pek S i)) := by unfold ptF; split <;> rfl
theorem cRef (h : PA g σ Λ n S X) (hI : Inv S n) {i : Nat} (hi : i < n) : g_r [2, 3, 4, 5, 6, 7] 0 (lQ Λ i) σ = some (lC Λ i, σ, 0, 0) := gr_at (h.prt hi) (ptC_in hI hi) ptF_0
theorem cLen (h : PA g σ Λ n S X) (hw : wfS g σ) {i : Nat} (hi : i < n) : a_n g (lC Λ i) σ = some (ii (inpN (kd S i)), σ, 0, 0) := by
  obtain ⟨f, e, -⟩ := h.cds hi
  exact an_at e rfl (by decide) hw
theorem inpN_4 (k : Int32) : inpN k ≤ 4 := by unfold inpN; split; omega; split; omega; split <;> omega
theorem cCord (h : PA g σ Λ n S X) {i k : Nat} (hi : i < n) (hk : k < inpN (kd S i)) : a_i 0 (lC Λ i) (ii k) σ = some (crd S i k, σ, 0, 0) := by
  obtain ⟨f, e, he⟩ := h.cds hi
  have := inpN_4 (kd S i)
  rw [ai_at e hk (by omega), he k hk]
/-- by a part's kind -/
theorem kind_cases (hI : Inv S n) {i : Nat} (hi : i < n) {P : Prop} (h : ∀ c, c < 6 → kd S i = ii c → ptC S i = 2 + c → P) : P := by
  obtain ⟨c, hc, e⟩ := hI.kin hi
  exact h c hc e (by unfold ptC; rw [e, ii_nat (by omega)])
theorem cVd {α : Type} (h : PA g σ Λ n S X) (hI : Inv S n) {i : Nat} (hi : i < n) {tbl : Nat → PM Sto α} {r : Option (α × Sto × Nat × Nat)} (ht : ∀ c, c < 6 → kd S i = ii c → σ.1 (lQ Λ i) = some (.inr (2 + c, ptF Λ S X i)) → tbl (2 + c) σ = r) : pm_vd [2, 3, 4, 5, 6, 7] (lQ Λ i) tbl σ = r := by
  refine kind_cases hI hi (fun c hc e1 e2 => vd_at (h.prt hi) (ptC_in hI hi) ?_)
  rw [e2]
  exact ht c hc e1 (by have := h.prt hi; rw [e2] at this; exact this)
theorem cSrc (h : PA g σ Λ n S X) (hI : Inv S n) {i : Nat} (hi : i < n) : pm_vd [2, 3, 4, 5, 6, 7] (lQ Λ i) (fun ci => if ci = 2 then f_X5_isSource g (lQ Λ i) else if ci = 3 then f_X8_isSource g (lQ Λ i) else if ci = 4 then f_X5_isSource g (lQ Λ i) else if ci = 5 then f_X5_isSource g (lQ Λ i) else if ci = 6 then f_X5_isSource g (lQ Λ i) else if ci = 7 then f_X11_isSource g (lQ Λ i) else pm_n) σ = some (bi (isSrc S i), σ, 0, 0) := by
  refine cVd h hI hi (fun c hc e _ => ?_)
  have hb : bi (isSrc S i) = if c = 1 ∨ c = 5 then 1 else 0 := by
    unfold bi isSrc
    rw [e]
    rcases (show c = 0 ∨ c = 1 ∨ c = 2 ∨ c = 3 ∨ c = 4 ∨ c = 5 by omega) with rfl | rfl | rfl | rfl | rfl | rfl <;> decide
  rw [hb]
  rcases (show c = 0 ∨ c = 1 ∨ c = 2 ∨ c = 3 ∨ c = 4 ∨ c = 5 by omega) with rfl | rfl | rfl | rfl | rfl | rfl <;> rfl
theorem cHas {x : Int32} {k : Nat} (hk : k < 16) : f_X1_has g x (ii k) σ = some (bi (hasB x k), σ, 0, 0) := by
  unfold f_X1_has
  by_cases h : hasB x k
  · rw [if_pos ((b_has x k hk).mpr h), br, eb0 (z01 (Or.inr rfl)), bi_t h]; rfl
  · rw [if_neg (fun a => h ((b_has x k hk).mp a)), br, eb0 (z01 (Or.inl rfl)), bi_f h]; rfl
theorem cWithin {p lo hi : Int32} : f_X1_isWithin g p lo hi σ = some (bi (lo ≤ p ∧ p ≤ hi), σ, 0, 0) := by
  unfold f_X1_isWithin
  by_cases h1 : p < lo
  · rw [if_pos h1, br, eb0 (z01 (Or.inl rfl)), bi_f (fun h => absurd h1 (i32_nlt.mpr h.1))]; rfl
  · rw [if_neg h1]
    by_cases h2 : hi < p
    · rw [if_pos h2, br, eb0 (z01 (Or.inl rfl)), bi_f (fun h => absurd h2 (i32_nlt.mpr h.2))]; rfl
    · rw [if_neg h2, br, eb0 (z01 (Or.inr rfl)), bi_t ⟨i32_nlt.mp h1, i32_nlt.mp h2⟩]; rfl
theorem cHeld {v : Int32} : f_X1_held g v 10000 σ = some (hld v 10000, σ, 0, 0) := by
  unfold f_X1_held
  have e : j_max (-10000) (j_min 10000 v) = hld v 10000 := by
    unfold j_max j_min hld
    by_cases h1 : v < 10000
    · rw [if_pos h1, if_pos (Int32.le_of_lt h1)]
      by_cases h2 : -10000 < v
      · rw [if_pos h2, if_pos (Int32.le_of_lt h2)]
      · rw [if_neg h2]
        by_cases h3 : -10000 ≤ v
        · rw [if_pos h3]; exact Int32.le_antisymm h3 (i32_nlt.mp h2)
        · rw [if_neg h3]
    · rw [if_neg h1]
      by_cases h2 : v ≤ 10000
      · rw [if_pos h2]
        have e : v = 10000 := Int32.le_antisymm h2 (i32_nlt.mp h1)
        subst e; decide
      · rw [if_neg h2, if_pos (by decide)]
  rw [e]; rfl
/-- a weighted part's weight -/
theorem cWgt (h : PA g σ Λ n S X) (hI : Inv S n) {i k : Nat} (hi : i < n) (hk : k < 4) (hd : kd S i = 0 ∨ kd S i = 1) : f_X7_weight g (lQ Λ i) (ii k) σ = some (wgt S i k, σ, 0, 0) := by
  unfold f_X7_weight
  have e2 : g_i [2, 3] 2 (lQ Λ i) σ = some (X 7 i, σ, 0, 0) := by
    have hp := h.prt hi
    rcases hd with e | e
    · exact gi_at hp (by unfold ptC; rw [e]; decide) (by unfold ptF; rw [e]; rfl)
    · exact gi_at hp (by unfold ptC; rw [e]; decide) (by unfold ptF; rw [e]; rfl)
  rw [eb0 e2, eb0 (cHas (by omega))]
  have hv := h.hvy hi hk
  by_cases hb : hasB (X 7 i) k
  · rw [bi_t hb, if_neg (by decide), br, hv.mp hb]; rfl
  · rw [bi_f hb, if_pos rfl, br]
    rcases hI.wt hi hk with w | w
    · rw [w]; rfl
    · exact absurd (hv.mpr w) hb
end PRT
