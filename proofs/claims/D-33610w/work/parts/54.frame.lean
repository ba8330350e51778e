/-! THE PANEL WHERE OTHER PLACES CHANGE -/
section FRM
variable {g : sm_G} {σ σ' : Sto} {Λ : Lay} {n : Nat} {S : St} {X : Scr} {F : Nat → Prop} {σ0 : Sto}
theorem PA.ext (h : PA g σ Λ n S X) (he : ∀ b, fpL Λ n b → σ'.1 b = σ.1 b) : PA g σ' Λ n S X := by
  have hA : ∀ j, j < 5 → σ'.1 (lA Λ j) = σ.1 (lA Λ j) := fun j hj => he _ (fp_A hj)
  refine ⟨by rw [he _ (Or.inl rfl)]; exact h.obj, by rw [hA 0 (by omega)]; exact h.lst, ?_, by rw [hA 1 (by omega)]; exact h.ord, by rw [hA 2 (by omega)]; exact h.out, by rw [hA 3 (by omega)]; exact h.inn, by rw [hA 4 (by omega)]; exact h.rec, fun i hi => ⟨?_, ?_⟩, fun i hi k hk => h.hvy hi hk, h.dst⟩
  · rcases h.eda with a | ⟨⟨a0, a⟩, b, fe, c, d⟩
    · exact Or.inl a
    · exact Or.inr ⟨⟨a0, a⟩, b, fe, by rw [he _ (Or.inr (Or.inr (Or.inl ⟨a0, rfl⟩)))]; exact c, d⟩
  · rw [he _ (Or.inr (Or.inr (Or.inr ⟨i, hi, Or.inl rfl⟩)))]; exact h.prt hi
  · rw [he _ (Or.inr (Or.inr (Or.inr ⟨i, hi, Or.inr rfl⟩)))]; exact h.cds hi
/-- every place of it holds something -/
theorem PA.some (h : PA g σ Λ n S X) {b : Nat} (hb : fpL Λ n b) : ∃ o, σ.1 b = some o := by
  rcases hb with rfl | ⟨j, hj, rfl⟩ | ⟨h0, rfl⟩ | ⟨i, hi, rfl | rfl⟩
  · exact ⟨_, h.obj⟩
  · rcases (show j = 0 ∨ j = 1 ∨ j = 2 ∨ j = 3 ∨ j = 4 by omega) with rfl | rfl | rfl | rfl | rfl
    · exact ⟨_, h.lst⟩
    · exact ⟨_, h.ord⟩
    · exact ⟨_, h.out⟩
    · exact ⟨_, h.inn⟩
    · exact ⟨_, h.rec⟩
  · rcases h.eda with a | ⟨-, -, fe, c, -⟩
    · omega
    · exact ⟨_, c⟩
  · exact ⟨_, h.prt hi⟩
  · obtain ⟨f, e, -⟩ := h.cds hi
    exact ⟨_, e⟩
theorem PA.lt (h : PA g σ Λ n S X) (hw : wfS g σ) {b : Nat} (hb : fpL Λ n b) : b < σ.2 := by
  obtain ⟨o, e⟩ := h.some hb
  exact wf_lt hw e
/-- something new -/
theorem PW.new (h : PW g F σ0 Λ n S X σ) (o : sm_O) : PW g F σ0 Λ n S X (so_new σ o) := ⟨h.1.ext (fun b hb => by
  show (if b = σ.2 then Option.some o else σ.1 b) = σ.1 b
  rw [if_neg (by have := h.1.lt h.wf hb; omega)]), h.2.1.new, h.2.2⟩
/-- another place written -/
theorem PW.oth (h : PW g F σ0 Λ n S X σ) {a : Nat} {o o' : sm_O} (e : σ.1 a = some o') (ha : F a ∨ σ0.2 ≤ a) (hn : ¬ fpL Λ n a) : PW g F σ0 Λ n S X (so_up σ a o) := ⟨h.1.ext (fun b hb => up_ne (fun q => by subst q; exact hn hb)), h.2.1.up e ha, h.2.2⟩
theorem PW.new_ge (h : PW g F σ0 Λ n S X σ) : σ0.2 ≤ σ.2 := h.2.1.2.1
theorem PW.new_fp (h : PW g F σ0 Λ n S X σ) : ¬ fpL Λ n σ.2 := fun hb => Nat.lt_irrefl _ (h.1.lt h.wf hb)
theorem new_at {o : sm_O} : (so_new σ o).1 σ.2 = some o := if_pos rfl
theorem na_at {N : Nat} (hN : N < 65537) : n_a 0 (ii N) σ = some (σ.2, so_new σ (.inl (0, N, .inl fun _ => 0)), 1, N) := by
  unfold n_a
  rw [ii_nat (by omega), if_neg]
  · rfl
  rintro (q | q)
  · exact ii_nn (by omega) q
  · omega
/-! levels -/
def mxK (S : St) (x : Nat → Nat) (i : Nat) : Nat → Nat
  | 0 => 0
  | k + 1 => max (mxK S x i k) (cl S x i k)
theorem mxK_4 {x : Nat → Nat} {i : Nat} (hI : Inv S n) (hi : i < n) : mxK S x i (inpN (kd S i)) = mxK S x i 4 := by
  have h4 := inpN_4 (kd S i)
  have key : ∀ d, ∀ k, k + d = 4 → inpN (kd S i) ≤ k → mxK S x i k = mxK S x i 4 := by
    intro d
    induction d with
    | zero => intro k hk _; have : k = 4 := by omega
              subst this; rfl
    | succ d ih =>
      intro k hk hle
      rw [← ih (k + 1) (by omega) (by omega)]
      have e := hI.no hi (show k < 4 by omega) hle
      show _ = max (mxK S x i k) (cl S x i k)
      unfold cl
      rw [if_pos e]; omega
  exact key (4 - inpN (kd S i)) _ (by omega) (Nat.le_refl _)
theorem j_max_ii {a b : Nat} (ha : a < 2 ^ 31) (hb : b < 2 ^ 31) : j_max (ii a) (ii b) = ii (max a b) := by
  unfold j_max
  by_cases h : a < b
  · rw [if_pos ((ii_lt ha hb).mpr h)]; congr 1; omega
  · rw [if_neg (fun q => h ((ii_lt ha hb).mp q))]; congr 1; omega
theorem mxK_lt {x : Nat → Nat} {i B : Nat} (hI : Inv S n) (hi : i < n) (hx : ∀ j, j < n → x j ≤ B) : ∀ k, k ≤ 4 → mxK S x i k ≤ B := by
  intro k
  induction k with
  | zero => intro _; exact Nat.zero_le _
  | succ k ih =>
    intro hk
    have h1 := ih (by omega)
    have h2 : cl S x i k ≤ B := by
      rcases Nat.eq_zero_or_pos (cl S x i k) with z | z
      · omega
      · obtain ⟨j, hj, -, e⟩ := cl_pos (l := x) hI hi (show k < 4 by omega) z
        rw [e]; exact hx j hj
    show max (mxK S x i k) (cl S x i k) ≤ B
    omega
theorem cHigh (h : PA g σ Λ n S X) (hw : wfS g σ) (hI : Inv S n) {i : Nat} (hi : i < n) {a : Nat} {f : Nat → Int32} {x : Nat → Nat} (ha : σ.1 a = some (.inl (0, 16, .inl f))) (hf : ∀ m, m < n → f m = ii (x m)) (hx : ∀ j, j < n → x j ≤ 16) : f_X2_highest g a (lQ Λ i) σ = some (ii (mxK S x i 4), σ, 0, 0) := by
  have hn := hI.le
  have h4 := inpN_4 (kd S i)
  have key : E0 (f_X2_highest g a (lQ Λ i)) σ (fun v σ1 => v = ii (mxK S x i (inpN (kd S i))) ∧ σ1 = σ) := by
    unfold f_X2_highest
    refine E0.b (E0.for (inpN (kd S i)) (fun k (s : Int32 × Int32) σ1 => σ1 = σ ∧ s = (ii (mxK S x i k), ii k)) ⟨rfl, rfl⟩ (fun k hk s σ1 hJ => ?_) (fun s σ1 hJ => ?_))
    · obtain ⟨rfl, rfl⟩ := hJ
      dsimp only
      refine E0.s (cRef h hI hi) (E0.s (cLen h hw hi) (E0.neg (by rw [ii_le (by omega) (by omega)]; omega) (E0.s (cRef h hI hi) (E0.s (cCord h hi hk) ?_))))
      have b1 := mxK_lt hI hi hx k (by omega)
      rcases hI.cr hi (show k < 4 by omega) with ec | ⟨j, hj, ec⟩
      · refine E0.bpos ec (E0.rb (E0.r ⟨_, rfl, rfl, ?_⟩))
        rw [i1]
        have : mxK S x i (k + 1) = mxK S x i k := by
          show max (mxK S x i k) (cl S x i k) = _
          unfold cl
          rw [if_pos ec]; omega
        rw [this]
      · have hne : crd S i k ≠ -1 := by rw [ec]; exact ii_n1 (by omega)
        refine E0.bneg hne (E0.as (E0.s (cRef h hI hi) (E0.as (E0.s (cCord h hi hk) (E0.as ?_)))))
        rw [ec]
        refine E0.s (ai_at ha (n := j) (by omega) (by omega)) (E0.rb (E0.r ⟨_, rfl, rfl, ?_⟩))
        have hj16 := hx j hj
        rw [hf j hj, j_max_ii (by omega) (by omega), i1]
        have : mxK S x i (k + 1) = max (mxK S x i k) (x j) := by
          show max (mxK S x i k) (cl S x i k) = _
          unfold cl
          rw [if_neg hne, ec, ii_nat (by omega)]
        rw [this]
    · obtain ⟨rfl, rfl⟩ := hJ
      dsimp only
      exact E0.s (cRef h hI hi) (E0.s (cLen h hw hi) (E0.pos (by rw [ii_le (by omega) (by omega)]; omega) (E0.r ⟨_, rfl, E0.r ⟨rfl, rfl⟩⟩)))
  obtain ⟨v, σ1, e, rfl, rfl⟩ := key
  rw [e, mxK_4 hI hi]
end FRM
