/-! .. THAT MAKE NOTHING -/
def E0 {S α : Type} (f : PM S α) (σ : S) (Q : α → S → Prop) : Prop := ∃ a σ1, f σ = some (a, σ1, 0, 0) ∧ Q a σ1
section EZ
variable {S α β ρ τ : Type}
theorem E0.mono {f : PM S α} {σ : S} {Q Q' : α → S → Prop} (h : E0 f σ Q) (hq : ∀ a σ1, Q a σ1 → Q' a σ1) : E0 f σ Q' := by
  obtain ⟨a, s1, e, q⟩ := h
  exact ⟨a, s1, e, hq _ _ q⟩
theorem E0.r {a : α} {σ : S} {Q : α → S → Prop} (h : Q a σ) : E0 (pm_r a) σ Q := ⟨a, σ, rfl, h⟩
theorem E0.of {f : PM S α} {σ σ1 : S} {a : α} {Q : α → S → Prop} (e : f σ = some (a, σ1, 0, 0)) (h : Q a σ1) : E0 f σ Q := ⟨a, σ1, e, h⟩
theorem E0.s {x : PM S α} {f : α → PM S β} {σ σ1 : S} {a : α} {Q : β → S → Prop} (e : x σ = some (a, σ1, 0, 0)) (h : E0 (f a) σ1 Q) : E0 (pm_b x f) σ Q := by
  obtain ⟨b, s2, e2, q⟩ := h
  exact ⟨b, s2, by rw [eb0 e, e2], q⟩
theorem E0.b {x : PM S α} {f : α → PM S β} {σ : S} {Q : β → S → Prop} (h : E0 x σ (fun a σ1 => E0 (f a) σ1 Q)) : E0 (pm_b x f) σ Q := by
  obtain ⟨a, s1, e, q⟩ := h
  exact E0.s e q
theorem E0.rb {a : α} {f : α → PM S β} {σ : S} {Q : β → S → Prop} (h : E0 (f a) σ Q) : E0 (pm_b (pm_r a) f) σ Q := E0.s rfl h
theorem E0.as {γ : Type} {x : PM S α} {f : α → PM S β} {g : β → PM S γ} {σ : S} {Q : γ → S → Prop} (h : E0 (pm_b x (fun a => pm_b (f a) g)) σ Q) : E0 (pm_b (pm_b x f) g) σ Q := by rw [pm_b_as]; exact h
theorem E0.pos {P : Prop} [Decidable P] {x y : PM S α} {σ : S} {Q : α → S → Prop} (hp : P) (h : E0 x σ Q) : E0 (if P then x else y) σ Q := by rw [if_pos hp]; exact h
theorem E0.neg {P : Prop} [Decidable P] {x y : PM S α} {σ : S} {Q : α → S → Prop} (hp : ¬ P) (h : E0 y σ Q) : E0 (if P then x else y) σ Q := by rw [if_neg hp]; exact h
theorem E0.bpos {P : Prop} [Decidable P] {x y : PM S α} {f : α → PM S β} {σ : S} {Q : β → S → Prop} (hp : P) (h : E0 (pm_b x f) σ Q) : E0 (pm_b (if P then x else y) f) σ Q := by rw [if_pos hp]; exact h
theorem E0.bneg {P : Prop} [Decidable P] {x y : PM S α} {f : α → PM S β} {σ : S} {Q : β → S → Prop} (hp : ¬ P) (h : E0 (pm_b y f) σ Q) : E0 (pm_b (if P then x else y) f) σ Q := by rw [if_neg hp]; exact h
theorem E0.ite {P : Prop} [Decidable P] {x y : PM S α} {σ : S} {Q : α → S → Prop} (h1 : P → E0 x σ Q) (h2 : ¬ P → E0 y σ Q) : E0 (if P then x else y) σ Q := by
  by_cases hp : P
  · exact E0.pos hp (h1 hp)
  · exact E0.neg hp (h2 hp)
theorem E0.bite {P : Prop} [Decidable P] {x y : PM S α} {f : α → PM S β} {σ : S} {Q : β → S → Prop} (h1 : P → E0 (pm_b x f) σ Q) (h2 : ¬ P → E0 (pm_b y f) σ Q) : E0 (pm_b (if P then x else y) f) σ Q := by
  by_cases hp : P
  · exact E0.bpos hp (h1 hp)
  · exact E0.bneg hp (h2 hp)
theorem E0.wh {body : τ → PM S (τ ⊕ ρ)} {Q : ρ → S → Prop} (J : Nat → τ → S → Prop) (m : Nat) (s : τ) (σ : S) (h0 : J m s σ)
    (h : ∀ m s σ, J m s σ → E0 (body s) σ (fun r σ1 => match r with | .inl s' => ∃ m', m' < m ∧ J m' s' σ1 | .inr v => Q v σ1)) : E0 (pm_lp body s) σ Q := by
  have key : ∀ (M m : Nat), m ≤ M → ∀ s σ, J m s σ → E0 (pm_lp body s) σ Q := by
    intro M
    induction M with
    | zero =>
      intro m hm s σ hJ
      obtain ⟨r, s1, e, q⟩ := h m s σ hJ
      cases r with
      | inl s' => obtain ⟨m', hm', -⟩ := q; omega
      | inr v => exact ⟨v, s1, lp_end e, q⟩
    | succ M ih =>
      intro m hm s σ hJ
      obtain ⟨r, s1, e, q⟩ := h m s σ hJ
      cases r with
      | inl s' =>
        obtain ⟨m', hm', hJ'⟩ := q
        obtain ⟨v, s2, e2, q2⟩ := ih m' (by omega) s' s1 hJ'
        exact ⟨v, s2, by rw [lp_go e, ec0, e2], q2⟩
      | inr v => exact ⟨v, s1, lp_end e, q⟩
  exact key m m (Nat.le_refl m) s σ h0
/-- counting up to n -/
theorem E0.for {body : τ → PM S (τ ⊕ ρ)} {Q : ρ → S → Prop} (n : Nat) (J : Nat → τ → S → Prop) {s : τ} {σ : S} (h0 : J 0 s σ)
    (hs : ∀ i, i < n → ∀ s σ, J i s σ → E0 (body s) σ (fun r σ1 => ∃ s', r = .inl s' ∧ J (i + 1) s' σ1))
    (he : ∀ s σ, J n s σ → E0 (body s) σ (fun r σ1 => ∃ v, r = .inr v ∧ Q v σ1)) : E0 (pm_lp body s) σ Q := by
  refine E0.wh (fun m s σ => ∃ i, i ≤ n ∧ m = n - i ∧ J i s σ) (n - 0) s σ ⟨0, Nat.zero_le _, rfl, h0⟩ (fun m s σ hJ => ?_)
  obtain ⟨i, hi, rfl, hJ⟩ := hJ
  rcases Nat.lt_or_ge i n with h | h
  · refine (hs i h s σ hJ).mono (fun r σ1 q => ?_)
    obtain ⟨s', rfl, q⟩ := q
    exact ⟨n - (i + 1), by omega, i + 1, h, rfl, q⟩
  · have e : i = n := by omega
    subst e
    refine (he s σ hJ).mono (fun r σ1 q => ?_)
    obtain ⟨v, rfl, q⟩ := q
    exact q
end EZ
