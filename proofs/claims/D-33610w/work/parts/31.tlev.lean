/-! THE REFERENCE's SMALL METHODS, ITS LEVELS -/
theorem lp_wh {S ρ τ : Type} {body : τ → PM S (τ ⊕ ρ)} (J : Nat → τ → S → Prop) (Q : ρ → S → Prop)
    (h : ∀ m s σ, J m s σ → (∃ s' σ1 m', body s σ = some (.inl s', σ1, 0, 0) ∧ m' < m ∧ J m' s' σ1) ∨ (∃ v σ1, body s σ = some (.inr v, σ1, 0, 0) ∧ Q v σ1)) (m : Nat) (s : τ) (σ : S) (h0 : J m s σ) : ∃ v σ1, pm_lp body s σ = some (v, σ1, 0, 0) ∧ Q v σ1 := by
  have key : ∀ (M m : Nat), m ≤ M → ∀ s σ, J m s σ → ∃ v σ1, pm_lp body s σ = some (v, σ1, 0, 0) ∧ Q v σ1 := by
    intro M
    induction M with
    | zero =>
      intro m hm s σ hJ
      rcases h m s σ hJ with ⟨s', s1, m', e, hm', -⟩ | ⟨v, s1, e, q⟩
      · omega
      · exact ⟨v, s1, lp_end e, q⟩
    | succ M ih =>
      intro m hm s σ hJ
      rcases h m s σ hJ with ⟨s', s1, m', e, hm', hJ'⟩ | ⟨v, s1, e, q⟩
      · obtain ⟨v, s2, e2, q⟩ := ih m' (by omega) s' s1 hJ'
        exact ⟨v, s2, by rw [lp_go e, ec0, e2], q⟩
      · exact ⟨v, s1, lp_end e, q⟩
  exact key m m (Nat.le_refl m) s σ h0
def sm (f : Nat → Nat) : Nat → Nat
  | 0 => 0
  | n + 1 => sm f n + f n
theorem sm_le {f g : Nat → Nat} : ∀ {n : Nat}, (∀ m, m < n → f m ≤ g m) → sm f n ≤ sm g n := by
  intro n
  induction n with
  | zero => intro _; exact Nat.le_refl _
  | succ n ih =>
    intro h
    have h1 := ih (fun m hm => h m (by omega))
    have h2 := h n (by omega)
    show sm f n + f n ≤ sm g n + g n
    omega
theorem sm_lt {f g : Nat → Nat} : ∀ {n : Nat}, (∀ m, m < n → f m ≤ g m) → (∃ m, m < n ∧ f m < g m) → sm f n < sm g n := by
  intro n
  induction n with
  | zero => rintro _ ⟨m, hm, -⟩; omega
  | succ n ih =>
    rintro h ⟨m, hm, hl⟩
    have h2 := h n (by omega)
    show sm f n + f n < sm g n + g n
    rcases Nat.lt_or_ge m n with hl2 | hg
    · have := ih (fun m hm => h m (by omega)) ⟨m, hl2, hl⟩
      omega
    · have e : m = n := by omega
      subst e
      have := sm_le (n := m) (fun q hq => h q (by omega))
      omega
section TS
variable {τ : TM} {n m k : Nat} {S : St}
theorem tof0 (hS : τ.2 1 = S) (hm : m < 16) : t_X4_of (ii m) 0 τ = some (kd S m, τ, 0, 0) := by subst hS; exact tof (c := 0) hm (by omega)
theorem tof1 (hS : τ.2 1 = S) (hm : m < 16) : t_X4_of (ii m) 1 τ = some (stt S m, τ, 0, 0) := by subst hS; exact tof (c := 1) hm (by omega)
theorem tof2 (hS : τ.2 1 = S) (hm : m < 16) : t_X4_of (ii m) 2 τ = some (spd S m, τ, 0, 0) := by subst hS; exact tof (c := 2) hm (by omega)
theorem tof3 (hS : τ.2 1 = S) (hm : m < 16) : t_X4_of (ii m) 3 τ = some (chg S m, τ, 0, 0) := by subst hS; exact tof (c := 3) hm (by omega)
theorem tof4 (hS : τ.2 1 = S) (hm : m < 16) : t_X4_of (ii m) 4 τ = some (pek S m, τ, 0, 0) := by subst hS; exact tof (c := 4) hm (by omega)
theorem tputs0 (hS : τ.2 1 = S) {v : Int32} (hm : m < 16) : t_X4_puts (ii m) 0 v τ = some ((), sA 1 τ (upd S (mI m 0) v), 0, 0) := by subst hS; exact tputs (c := 0) hm (by omega)
theorem tputs1 (hS : τ.2 1 = S) {v : Int32} (hm : m < 16) : t_X4_puts (ii m) 1 v τ = some ((), sA 1 τ (upd S (mI m 1) v), 0, 0) := by subst hS; exact tputs (c := 1) hm (by omega)
theorem tputs2 (hS : τ.2 1 = S) {v : Int32} (hm : m < 16) : t_X4_puts (ii m) 2 v τ = some ((), sA 1 τ (upd S (mI m 2) v), 0, 0) := by subst hS; exact tputs (c := 2) hm (by omega)
theorem tputs3 (hS : τ.2 1 = S) {v : Int32} (hm : m < 16) : t_X4_puts (ii m) 3 v τ = some ((), sA 1 τ (upd S (mI m 3) v), 0, 0) := by subst hS; exact tputs (c := 3) hm (by omega)
theorem tputs4 (hS : τ.2 1 = S) {v : Int32} (hm : m < 16) : t_X4_puts (ii m) 4 v τ = some ((), sA 1 τ (upd S (mI m 4) v), 0, 0) := by subst hS; exact tputs (c := 4) hm (by omega)
theorem tcrd (hS : τ.2 1 = S) (hm : m < 16) (hk : k < 4) : t_X4_of (ii m) (5 + ii k) τ = some (crd S m k, τ, 0, 0) := by
  subst hS
  rw [show (5 : Int32) + ii k = ii (5 + k) from ii_add 5 k]; exact tof hm (by omega)
theorem twgt (hS : τ.2 1 = S) (hm : m < 16) (hk : k < 4) : t_X4_of (ii m) (9 + ii k) τ = some (wgt S m k, τ, 0, 0) := by
  subst hS
  rw [show (9 : Int32) + ii k = ii (9 + k) from ii_add 9 k]; exact tof hm (by omega)
theorem tkind (hS : τ.2 1 = S) (hm : m < 16) : t_X4_kind (ii m) τ = some (kd S m, τ, 0, 0) := by
  unfold t_X4_kind
  rw [eb0 (tof0 hS hm)]; rfl
theorem thasV (hS : τ.2 1 = S) (hm : m < 16) : t_X4_hasVoltage (ii m) τ = some (bi (isSrc S m), τ, 0, 0) := by
  unfold t_X4_hasVoltage
  rw [eb0 (tkind hS hm)]
  by_cases h1 : kd S m = 5
  · rw [if_pos h1, br, eb0 (z01 (Or.inr rfl)), bi_t (Or.inl h1)]; rfl
  · rw [if_neg h1, pm_b_as, eb0 (tkind hS hm)]
    by_cases h2 : kd S m = 1
    · rw [if_pos h2, br, eb0 (z01 (Or.inr rfl)), bi_t (Or.inr h2)]; rfl
    · rw [if_neg h2, br, eb0 (z01 (Or.inl rfl)), bi_f (fun h => h.elim h1 h2)]; rfl
theorem tisW (hS : τ.2 1 = S) (hm : m < 16) : t_X4_isWeighted (ii m) τ = some (bi (kd S m = 0 ∨ kd S m = 1), τ, 0, 0) := by
  unfold t_X4_isWeighted
  rw [eb0 (tkind hS hm)]
  by_cases h1 : kd S m = 0
  · rw [if_pos h1, br, eb0 (z01 (Or.inr rfl)), bi_t (Or.inl h1)]; rfl
  · rw [if_neg h1, pm_b_as, eb0 (tkind hS hm)]
    by_cases h2 : kd S m = 1
    · rw [if_pos h2, br, eb0 (z01 (Or.inr rfl)), bi_t (Or.inr h2)]; rfl
    · rw [if_neg h2, br, eb0 (z01 (Or.inl rfl)), bi_f (fun h => h.elim h1 h2)]; rfl
theorem tinpK {x : Int32} : t_X4_inputsOfKind x τ = some (ii (inpN x), τ, 0, 0) := by
  unfold t_X4_inputsOfKind inpN
  by_cases h5 : x = 5
  · rw [if_pos h5, if_pos h5]; rfl
  · rw [if_neg h5, if_neg h5]
    by_cases h2 : x = 2
    · rw [if_pos h2, if_pos h2]; rfl
    · rw [if_neg h2, if_neg h2]
      by_cases h3 : x = 3
      · rw [if_pos h3, if_pos h3]; rfl
      · rw [if_neg h3, if_neg h3]; rfl
/-- a module's number -/
abbrev isM (n : Nat) (p : Int32) : Prop := 0 ≤ p ∧ p < ii n
theorem isM_ii {n m : Nat} (hn : n ≤ 16) (hm : m < n) : isM n (ii m) := ⟨(ii_le (a := 0) (by omega) (by omega)).mpr (by omega), (ii_lt (by omega) (by omega)).mpr hm⟩
theorem isM_of {n : Nat} {p : Int32} (hn : n ≤ 16) (h : isM n p) : ∃ m, m < n ∧ p = ii m := ii_of2 (by omega) h.1 h.2
theorem isM_sub {n : Nat} {p : Int32} (hn : n ≤ 16) : (0 ≤ p ∧ p ≤ ii n - 1) ↔ isM n p := by
  have h1 : (ii n - 1).toInt = (n : Int) - 1 := by
    rcases Nat.eq_zero_or_pos n with e | e
    · subst e; decide
    · rw [show (1 : Int32) = ii 1 from rfl, ii_sub e, ii_int (by omega)]; omega
  have h2 := ii_int (a := n) (by omega)
  constructor
  · rintro ⟨a, b⟩
    refine ⟨a, ?_⟩
    rw [Int32.le_iff_toInt_le] at b
    rw [Int32.lt_iff_toInt_lt]
    omega
  · rintro ⟨a, b⟩
    refine ⟨a, ?_⟩
    rw [Int32.lt_iff_toInt_lt] at b
    rw [Int32.le_iff_toInt_le]
    omega
theorem tn (hS : τ.2 1 = S) (h0 : S 0 = ii n) : t_a 1 0 τ = some (ii n, τ, 0, 0) := by subst hS; rw [← h0]; exact ta_ok (j := 1) (n := 0) (by decide)
theorem tisM (hS : τ.2 1 = S) (h0 : S 0 = ii n) (hn : n ≤ 16) {p : Int32} : t_X4_isModule p τ = some (bi (isM n p), τ, 0, 0) := by
  unfold t_X4_isModule
  rw [eb0 (tn hS h0), eb0 twithin, bi_iff (isM_sub hn), eb0 (z01 bi_01)]; rfl
/-- levels on the way up: never above l, a source's 0, any other's 1 at least -/
def LvOk (S : St) (n : Nat) (l x : Nat → Nat) : Prop := ∀ m, m < n → x m ≤ l m ∧ (isSrc S m → x m = 0) ∧ (¬ isSrc S m → 1 ≤ x m)
/-- a module's cords all come from lower levels -/
def lvChk (S : St) (n : Nat) (x : Nat → Nat) (m K : Nat) : Prop := ¬ isSrc S m → ∀ k, k < K → ∀ j, j < n → crd S m k = ii j → x j < x m
theorem lv_done {S : St} {n : Nat} (h : Inv S n) {l x : Nat → Nat} (hl : IsLev S n l) (hx : LvOk S n l x) (hc : ∀ m, m < n → lvChk S n x m 4) : ∀ m, m < n → x m = l m := by
  obtain ⟨ρ, hρ⟩ := h.rk
  have key : ∀ (r m : Nat), ρ m < r → m < n → x m = l m := by
    intro r
    induction r with
    | zero => intro m hr; omega
    | succ r ih =>
      intro m hr hm
      obtain ⟨h1, h2, h3⟩ := hx m hm
      have e := hl m hm
      unfold lvF at e
      by_cases hs : isSrc S m
      · have := h2 hs; rw [if_pos hs] at e; omega
      · rw [if_neg hs] at e
        have h4 := h3 hs
        have key2 : ∀ k, k < 4 → cl S l m k < x m := by
          intro k hk
          rcases Nat.eq_zero_or_pos (cl S l m k) with z | z
          · omega
          · obtain ⟨j, hj, ej, ec⟩ := cl_pos (l := l) h hm hk z
            have a := hc m hm hs k hk j hj ej
            have b := ih j (by have := hρ m hm hs k hk j hj ej; omega) hj
            omega
        have := key2 0 (by omega)
        have := key2 1 (by omega)
        have := key2 2 (by omega)
        have := key2 3 (by omega)
        omega
  intro m hm
  exact key (ρ m + 1) m (by omega) hm
/-- a level may rise above those that feed it -/
theorem lv_rise {S : St} {n : Nat} (h : Inv S n) {l x : Nat → Nat} (hl : IsLev S n l) (hx : LvOk S n l x) {m k j : Nat} (hm : m < n) (hs : ¬ isSrc S m) (hk : k < 4) (hj : j < n) (ej : crd S m k = ii j) : x j + 1 ≤ l m := by
  have e := hl m hm
  unfold lvF at e
  rw [if_neg hs] at e
  have hn := h.le
  have ec : cl S l m k = l j := by
    unfold cl
    rw [if_neg (by rw [ej]; exact ii_n1 (by omega)), ej, ii_nat (by omega)]
  have hj1 := (hx j hj).1
  have : cl S l m k = cl S l m 0 ∨ cl S l m k = cl S l m 1 ∨ cl S l m k = cl S l m 2 ∨ cl S l m k = cl S l m 3 := by
    rcases (show k = 0 ∨ k = 1 ∨ k = 2 ∨ k = 3 by omega) with e1 | e1 | e1 | e1 <;> subst e1 <;> simp
  omega
end TS
