/-! EVALUATION OF PURE PROGRAMS -/
def co {S α : Type} (k n : Nat) (o : Option (α × S × Nat × Nat)) : Option (α × S × Nat × Nat) := o.map fun t => (t.1, t.2.1, k + t.2.2.1, n + t.2.2.2)
section EVA
variable {S α β ρ τ : Type}
theorem ecs {k n : Nat} {a : α} {σ : S} {k1 n1 : Nat} : co k n (some (a, σ, k1, n1)) = some (a, σ, k + k1, n + n1) := rfl
theorem ec0 {o : Option (α × S × Nat × Nat)} : co 0 0 o = o := by
  cases o with
  | none => rfl
  | some t => simp [co]
theorem ebk {x : PM S α} {f : α → PM S β} {σ σ1 : S} {a : α} {k n : Nat} (h : x σ = some (a, σ1, k, n)) : pm_b x f σ = co k n (f a σ1) := by
  unfold pm_b
  rw [h, Option.bind_some]
  dsimp only
  cases f a σ1 with
  | none => rfl
  | some t => rfl
theorem eb0 {x : PM S α} {f : α → PM S β} {σ σ1 : S} {a : α} (h : x σ = some (a, σ1, 0, 0)) : pm_b x f σ = f a σ1 := by rw [ebk h, ec0]
theorem r0 {a : α} {σ : S} : pm_r a σ = some (a, σ, 0, 0) := rfl
theorem br {a : α} {f : α → PM S β} {σ : S} : pm_b (pm_r a) f σ = f a σ := by rw [pm_r_b]
/-- f comes to an end, and Q says with what: the answer, the state, the cells and slots made -/
def Ev (f : PM S α) (σ : S) (Q : α → S → Nat → Nat → Prop) : Prop := ∃ a σ1 k n, f σ = some (a, σ1, k, n) ∧ Q a σ1 k n
theorem Ev.mono {f : PM S α} {σ : S} {Q Q' : α → S → Nat → Nat → Prop} (h : Ev f σ Q) (hq : ∀ a σ1 k n, Q a σ1 k n → Q' a σ1 k n) : Ev f σ Q' := by
  obtain ⟨a, s1, k, n, e, q⟩ := h
  exact ⟨a, s1, k, n, e, hq _ _ _ _ q⟩
theorem Ev.r {a : α} {σ : S} {Q : α → S → Nat → Nat → Prop} (h : Q a σ 0 0) : Ev (pm_r a) σ Q := ⟨a, σ, 0, 0, rfl, h⟩
theorem Ev.b {x : PM S α} {f : α → PM S β} {σ : S} {Q : β → S → Nat → Nat → Prop} (h : Ev x σ (fun a σ1 k n => Ev (f a) σ1 (fun b σ2 k2 n2 => Q b σ2 (k + k2) (n + n2)))) : Ev (pm_b x f) σ Q := by
  obtain ⟨a, s1, k, n, e, b, s2, k2, n2, e2, q⟩ := h
  exact ⟨b, s2, k + k2, n + n2, by rw [ebk e, e2, ecs], q⟩
theorem Ev.b0 {x : PM S α} {f : α → PM S β} {σ σ1 : S} {a : α} {Q : β → S → Nat → Nat → Prop} (e : x σ = some (a, σ1, 0, 0)) (h : Ev (f a) σ1 Q) : Ev (pm_b x f) σ Q := by
  obtain ⟨b, s2, k2, n2, e2, q⟩ := h
  exact ⟨b, s2, k2, n2, by rw [eb0 e, e2], q⟩
theorem Ev.bk {x : PM S α} {f : α → PM S β} {σ σ1 : S} {a : α} {k n : Nat} {Q : β → S → Nat → Nat → Prop} (e : x σ = some (a, σ1, k, n)) (h : Ev (f a) σ1 (fun b σ2 k2 n2 => Q b σ2 (k + k2) (n + n2))) : Ev (pm_b x f) σ Q := by
  obtain ⟨b, s2, k2, n2, e2, q⟩ := h
  exact ⟨b, s2, k + k2, n + n2, by rw [ebk e, e2, ecs], q⟩
theorem Ev.pos {P : Prop} [Decidable P] {x y : PM S α} {σ : S} {Q : α → S → Nat → Nat → Prop} (hp : P) (h : Ev x σ Q) : Ev (if P then x else y) σ Q := by rw [if_pos hp]; exact h
theorem Ev.neg {P : Prop} [Decidable P] {x y : PM S α} {σ : S} {Q : α → S → Nat → Nat → Prop} (hp : ¬ P) (h : Ev y σ Q) : Ev (if P then x else y) σ Q := by rw [if_neg hp]; exact h
theorem Ev.ite {P : Prop} [Decidable P] {x y : PM S α} {σ : S} {Q : α → S → Nat → Nat → Prop} (h1 : P → Ev x σ Q) (h2 : ¬ P → Ev y σ Q) : Ev (if P then x else y) σ Q := by
  by_cases hp : P
  · exact Ev.pos hp (h1 hp)
  · exact Ev.neg hp (h2 hp)
theorem Ev.of {f : PM S α} {σ σ1 : S} {a : α} {k n : Nat} {Q : α → S → Nat → Nat → Prop} (e : f σ = some (a, σ1, k, n)) (h : Q a σ1 k n) : Ev f σ Q := ⟨a, σ1, k, n, e, h⟩
/-- a loop once round -/
theorem lp_go {body : τ → PM S (τ ⊕ ρ)} {s s' : τ} {σ σ1 : S} {k n : Nat} (h : body s σ = some (.inl s', σ1, k, n)) : pm_lp body s σ = co k n (pm_lp body s' σ1) := by
  rw [pm_lp_eq, ebk h]; rfl
theorem lp_end {body : τ → PM S (τ ⊕ ρ)} {s : τ} {v : ρ} {σ σ1 : S} {k n : Nat} (h : body s σ = some (.inr v, σ1, k, n)) : pm_lp body s σ = some (v, σ1, k, n) := by
  rw [pm_lp_eq, ebk h]
  show co k n (some (v, σ1, 0, 0)) = _
  rw [ecs, Nat.add_zero, Nat.add_zero]
/-- a loop by a measure -/
theorem Ev.lp {body : τ → PM S (τ ⊕ ρ)} {Q : ρ → S → Nat → Nat → Prop} (J : Nat → τ → S → Nat → Nat → Prop)
    (h : ∀ m s σ k n, J m s σ k n → Ev (body s) σ (fun r σ1 k1 n1 => match r with | .inl s' => ∃ m', m' < m ∧ J m' s' σ1 (k + k1) (n + n1) | .inr v => Q v σ1 (k + k1) (n + n1))) :
    ∀ (m : Nat) (s : τ) (σ : S), J m s σ 0 0 → Ev (pm_lp body s) σ Q := by
  have key : ∀ (M m : Nat), m ≤ M → ∀ (s : τ) (σ : S) (k n : Nat), J m s σ k n → Ev (pm_lp body s) σ (fun v σ1 k1 n1 => Q v σ1 (k + k1) (n + n1)) := by
    intro M
    induction M with
    | zero =>
      intro m hm s σ k n hJ
      obtain ⟨r, s1, k1, n1, e, q⟩ := h m s σ k n hJ
      cases r with
      | inl s' => obtain ⟨m', hm', -⟩ := q; omega
      | inr v => exact ⟨v, s1, k1, n1, lp_end e, q⟩
    | succ M ih =>
      intro m hm s σ k n hJ
      obtain ⟨r, s1, k1, n1, e, q⟩ := h m s σ k n hJ
      cases r with
      | inl s' =>
        obtain ⟨m', hm', hJ'⟩ := q
        obtain ⟨v, s2, k2, n2, e2, q2⟩ := ih m' (by omega) s' s1 _ _ hJ'
        exact ⟨v, s2, k1 + k2, n1 + n2, by rw [lp_go e, e2, ecs], by show Q v s2 (k + (k1 + k2)) (n + (n1 + n2)); rw [← Nat.add_assoc, ← Nat.add_assoc]; exact q2⟩
      | inr v => exact ⟨v, s1, k1, n1, lp_end e, q⟩
  intro m s σ hJ
  have := key m m (Nat.le_refl m) s σ 0 0 hJ
  obtain ⟨a, b, c, d, e, q⟩ := this
  exact ⟨a, b, c, d, e, by rw [Nat.zero_add, Nat.zero_add] at q; exact q⟩
/-- counting up to n: J i at the i-th round, Q where the round says "through"; each round makes at most K cells of N slots -/
theorem Ev.for {body : τ → PM S (τ ⊕ ρ)} {Q : ρ → S → Nat → Nat → Prop} (n K N : Nat) (J : Nat → τ → S → Prop)
    (hs : ∀ i, i < n → ∀ s σ, J i s σ → Ev (body s) σ (fun r σ1 k1 n1 => k1 ≤ K ∧ n1 ≤ N ∧ ∃ s', r = .inl s' ∧ J (i + 1) s' σ1))
    (he : ∀ s σ, J n s σ → Ev (body s) σ (fun r σ1 k1 n1 => ∃ v, r = .inr v ∧ ∀ k2 n2, k2 ≤ n * K → n2 ≤ n * N → Q v σ1 (k2 + k1) (n2 + n1))) :
    ∀ (s : τ) (σ : S), J 0 s σ → Ev (pm_lp body s) σ Q := by
  intro s σ h0
  refine Ev.lp (fun m s σ k n' => ∃ i, i ≤ n ∧ m = n - i ∧ k ≤ i * K ∧ n' ≤ i * N ∧ J i s σ) (fun m s σ k n' hJ => ?_) (n - 0) s σ ⟨0, Nat.zero_le _, rfl, by omega, by omega, h0⟩
  obtain ⟨i, hi, rfl, hk, hn, hJ⟩ := hJ
  rcases Nat.lt_or_ge i n with h | h
  · refine (hs i h s σ hJ).mono (fun r σ1 k1 n1 q => ?_)
    obtain ⟨q1, q2, s', rfl, q3⟩ := q
    exact ⟨n - (i + 1), by omega, i + 1, h, rfl, by rw [Nat.succ_mul]; omega, by rw [Nat.succ_mul]; omega, q3⟩
  · have e : i = n := by omega
    subst e
    refine (he s σ hJ).mono (fun r σ1 k1 n1 q => ?_)
    obtain ⟨v, rfl, q⟩ := q
    exact q k n' hk hn
/-- .. that makes nothing -/
theorem lp_for {body : τ → PM S (τ ⊕ ρ)} (n : Nat) (J : Nat → τ → S → Prop) (Q : ρ → S → Prop)
    (hs : ∀ i, i < n → ∀ s σ, J i s σ → ∃ s' σ1, body s σ = some (.inl s', σ1, 0, 0) ∧ J (i + 1) s' σ1)
    (he : ∀ s σ, J n s σ → ∃ v σ1, body s σ = some (.inr v, σ1, 0, 0) ∧ Q v σ1) (s : τ) (σ : S) (h0 : J 0 s σ) : ∃ v σ1, pm_lp body s σ = some (v, σ1, 0, 0) ∧ Q v σ1 := by
  have key : ∀ (m i : Nat), i + m = n → ∀ s σ, J i s σ → ∃ v σ1, pm_lp body s σ = some (v, σ1, 0, 0) ∧ Q v σ1 := by
    intro m
    induction m with
    | zero =>
      intro i hi s σ hJ
      have e : i = n := by omega
      subst e
      obtain ⟨v, s1, e1, q⟩ := he s σ hJ
      exact ⟨v, s1, lp_end e1, q⟩
    | succ m ih =>
      intro i hi s σ hJ
      obtain ⟨s', s1, e1, q⟩ := hs i (by omega) s σ hJ
      obtain ⟨v, s2, e2, q2⟩ := ih (i + 1) (by omega) s' s1 q
      exact ⟨v, s2, by rw [lp_go e1, ec0, e2], q2⟩
  exact key n 0 (by omega) s σ h0
end EVA
