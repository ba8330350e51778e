/-! SETS OF MODULES AS BITS -/
theorem b_hm : ∀ k, k < 16 → (ii k &&& 31) = ii k := by decide
theorem b_sm : ∀ k, k < 16 → ((ii k).toBitVec.smod 32).toNat = k := by decide
theorem b_one : ∀ i, i < 32 → ((1 : Int32)).toBitVec.getLsbD i = decide (i = 0) := by decide
theorem b_pow : ∀ j, j < 16 → ∀ k, k < 32 → ((1 : Int32) <<< (ii j &&& 31)).toBitVec.getLsbD k = decide (k = j) := by decide
abbrev hasB (x : Int32) (k : Nat) : Prop := x.toBitVec.getLsbD k = true
theorem b_has (x : Int32) (k : Nat) (hk : k < 16) : (x >>> (ii k &&& 31)) &&& 1 = 1 ↔ hasB x k := by
  unfold hasB
  rw [b_hm k hk, ← Int32.toBitVec_inj, Int32.toBitVec_and, Int32.toBitVec_shiftRight]
  have e : x.toBitVec.sshiftRight' ((ii k).toBitVec.smod 32) = x.toBitVec.sshiftRight k := by
    show x.toBitVec.sshiftRight (((ii k).toBitVec.smod 32).toNat) = _
    rw [b_sm k hk]
  rw [e]
  have z : (x.toBitVec.sshiftRight k).getLsbD 0 = x.toBitVec.getLsbD k := by
    rw [BitVec.getLsbD_sshiftRight, if_pos (by omega)]
    simp
  constructor
  · intro h
    have h2 := congrArg (fun v => v.getLsbD 0) h
    rw [BitVec.getLsbD_and, b_one 0 (by omega), z] at h2
    simpa using h2
  · intro h
    apply BitVec.eq_of_getLsbD_eq
    intro i hi
    rw [BitVec.getLsbD_and, b_one i hi]
    by_cases h0 : i = 0
    · subst h0; rw [z, h]; rfl
    · simp [h0]
def small (x : Int32) : Prop := ∀ k, 16 ≤ k → x.toBitVec.getLsbD k = false
theorem set_ext {x y : Int32} (hx : small x) (hy : small y) (h : ∀ k, k < 16 → (hasB x k ↔ hasB y k)) : x = y := by
  rw [← Int32.toBitVec_inj]
  apply BitVec.eq_of_getLsbD_eq
  intro i hi
  rcases Nat.lt_or_ge i 16 with a | a
  · have := h i a
    unfold hasB at this
    cases e1 : x.toBitVec.getLsbD i <;> cases e2 : y.toBitVec.getLsbD i <;> simp_all
  · rw [hx i a, hy i a]
theorem small_or {x y : Int32} (hx : small x) (hy : small y) : small (x ||| y) := fun k hk => by
  rw [Int32.toBitVec_or, BitVec.getLsbD_or, hx k hk, hy k hk]; rfl
theorem small_and {x y : Int32} (hx : small x) : small (x &&& y) := fun k hk => by
  rw [Int32.toBitVec_and, BitVec.getLsbD_and, hx k hk]; rfl
theorem small_0 : small 0 := fun k hk => by simp
theorem small_pow {j : Nat} (hj : j < 16) : small ((1 : Int32) <<< (ii j &&& 31)) := fun k hk => by
  rcases Nat.lt_or_ge k 32 with h | h
  · rw [b_pow j hj k h]; simp; omega
  · exact BitVec.getLsbD_of_ge _ _ h
theorem hasB_or {x y : Int32} {k : Nat} : hasB (x ||| y) k ↔ hasB x k ∨ hasB y k := by
  unfold hasB
  rw [Int32.toBitVec_or, BitVec.getLsbD_or, Bool.or_eq_true]
theorem hasB_0 {k : Nat} : ¬ hasB 0 k := by unfold hasB; simp
theorem hasB_pow {j k : Nat} (hj : j < 16) (hk : k < 16) : hasB ((1 : Int32) <<< (ii j &&& 31)) k ↔ k = j := by
  unfold hasB
  rw [b_pow j hj k (by omega)]
  simp
/-- x is the set of those below n that P says -/
def IsSet (x : Int32) (n : Nat) (P : Nat → Prop) : Prop := small x ∧ ∀ k, k < 16 → (hasB x k ↔ k < n ∧ P k)
theorem IsSet.uniq {x y : Int32} {n : Nat} {P : Nat → Prop} (hx : IsSet x n P) (hy : IsSet y n P) : x = y := set_ext hx.1 hy.1 (fun k hk => (hx.2 k hk).trans (hy.2 k hk).symm)
/-- one more looked at -/
theorem IsSet.add {x : Int32} {n : Nat} {P : Nat → Prop} {v : Int32} (hn : n < 16) (hx : IsSet x n P) (hv : P n → v = (1 : Int32) <<< (ii n &&& 31)) (hv0 : ¬ P n → v = 0) : IsSet (x ||| v) (n + 1) P := by
  by_cases hp : P n
  · rw [hv hp]
    refine ⟨small_or hx.1 (small_pow hn), fun k hk => ?_⟩
    rw [hasB_or, hx.2 k hk, hasB_pow hn hk]
    constructor
    · rintro (⟨a, b⟩ | rfl)
      · exact ⟨by omega, b⟩
      · exact ⟨by omega, hp⟩
    · rintro ⟨a, b⟩
      rcases Nat.lt_or_ge k n with c | c
      · exact Or.inl ⟨c, b⟩
      · exact Or.inr (by omega)
  · rw [hv0 hp]
    refine ⟨small_or hx.1 small_0, fun k hk => ?_⟩
    rw [hasB_or, hx.2 k hk]
    constructor
    · rintro (⟨a, b⟩ | a)
      · exact ⟨by omega, b⟩
      · exact absurd a hasB_0
    · rintro ⟨a, b⟩
      rcases Nat.lt_or_ge k n with c | c
      · exact Or.inl ⟨c, b⟩
      · have : k = n := by omega
        subst this; exact absurd b hp
theorem IsSet.z {P : Nat → Prop} : IsSet 0 0 P := ⟨small_0, fun k hk => ⟨fun h => absurd h hasB_0, fun h => by omega⟩⟩
/-- how many bits aren't set -/
def cnt (x : Int32) : Nat := sm (fun k => if hasB x k then 0 else 1) 16
theorem cnt_lt {a b : Int32} (ha : small a) (hb : small b) (hs : ∀ k, k < 16 → hasB a k → hasB b k) (hne : a ≠ b) : cnt b < cnt a := by
  refine sm_lt (fun k hk => ?_) ?_
  · by_cases h1 : hasB a k
    · rw [if_pos h1, if_pos (hs k hk h1)]; exact Nat.le_refl _
    · rw [if_neg h1]; split <;> omega
  · refine Classical.byContradiction fun hc => hne (set_ext ha hb (fun k hk => ⟨hs k hk, fun h2 => ?_⟩))
    refine Classical.byContradiction fun h1 => hc ⟨k, hk, ?_⟩
    rw [if_neg h1, if_pos h2]; decide
/-- the modules that feed one -/
def fdP (S : St) (n m j : Nat) : Prop := j < n ∧ ∃ k, k < 4 ∧ crd S m k = ii j
def fdc (S : St) (m k : Nat) : Int32 := if crd S m k = -1 then 0 else (1 : Int32) <<< (crd S m k &&& 31)
def fdv (S : St) (m : Nat) : Int32 := (((0 ||| fdc S m 0) ||| fdc S m 1) ||| fdc S m 2) ||| fdc S m 3
theorem fdc_set {S : St} {n m k : Nat} (h : Inv S n) (hm : m < n) (hk : k < 4) : small (fdc S m k) ∧ ∀ j, j < 16 → (hasB (fdc S m k) j ↔ j < n ∧ crd S m k = ii j) := by
  have hn := h.le
  unfold fdc
  rcases h.cr hm hk with e | ⟨j, hj, e⟩
  · rw [if_pos e]
    refine ⟨small_0, fun j hj => ⟨fun a => absurd a hasB_0, fun a => ?_⟩⟩
    rw [e] at a
    exact absurd a.2.symm (ii_n1 (by omega))
  · rw [if_neg (by rw [e]; exact ii_n1 (by omega)), e]
    refine ⟨small_pow (by omega), fun q hq => ?_⟩
    rw [hasB_pow (by omega) hq, ii_eq (by omega) (by omega)]
    constructor
    · rintro rfl; exact ⟨hj, rfl⟩
    · intro a; exact a.2.symm
theorem fdv_set {S : St} {n m : Nat} (h : Inv S n) (hm : m < n) : IsSet (fdv S m) n (fdP S n m) := by
  have f0 := fdc_set h hm (show 0 < 4 by omega)
  have f1 := fdc_set h hm (show 1 < 4 by omega)
  have f2 := fdc_set h hm (show 2 < 4 by omega)
  have f3 := fdc_set h hm (show 3 < 4 by omega)
  refine ⟨small_or (small_or (small_or (small_or small_0 f0.1) f1.1) f2.1) f3.1, fun j hj => ?_⟩
  unfold fdv fdP
  rw [hasB_or, hasB_or, hasB_or, hasB_or, f0.2 j hj, f1.2 j hj, f2.2 j hj, f3.2 j hj]
  constructor
  · rintro ((((a | a) | a) | a) | a)
    · exact absurd a hasB_0
    · exact ⟨a.1, a.1, 0, by omega, a.2⟩
    · exact ⟨a.1, a.1, 1, by omega, a.2⟩
    · exact ⟨a.1, a.1, 2, by omega, a.2⟩
    · exact ⟨a.1, a.1, 3, by omega, a.2⟩
  · rintro ⟨a, -, k, hk, e⟩
    rcases (show k = 0 ∨ k = 1 ∨ k = 2 ∨ k = 3 by omega) with rfl | rfl | rfl | rfl
    · exact Or.inl (Or.inl (Or.inl (Or.inr ⟨a, e⟩)))
    · exact Or.inl (Or.inl (Or.inr ⟨a, e⟩))
    · exact Or.inl (Or.inr ⟨a, e⟩)
    · exact Or.inr ⟨a, e⟩
/-- what's reached from X over modules that ok allows -/
def rI (fd : Nat → Nat → Prop) (ok X : Nat → Prop) : Nat → Nat → Prop
  | 0, k => X k
  | t + 1, k => rI fd ok X t k ∨ ∃ q, rI fd ok X t q ∧ ok q ∧ fd q k
def Rch (fd : Nat → Nat → Prop) (ok X : Nat → Prop) (k : Nat) : Prop := ∃ t, rI fd ok X t k
theorem Rch.z {fd : Nat → Nat → Prop} {ok X : Nat → Prop} {k : Nat} (h : X k) : Rch fd ok X k := ⟨0, h⟩
theorem Rch.s {fd : Nat → Nat → Prop} {ok X : Nat → Prop} {q k : Nat} (h : Rch fd ok X q) (ho : ok q) (hf : fd q k) : Rch fd ok X k := by
  obtain ⟨t, ht⟩ := h
  exact ⟨t + 1, Or.inr ⟨q, ht, ho, hf⟩⟩
theorem Rch.ind {fd : Nat → Nat → Prop} {ok X C : Nat → Prop} (h0 : ∀ k, X k → C k) (h1 : ∀ q k, C q → ok q → fd q k → C k) : ∀ k, Rch fd ok X k → C k := by
  have key : ∀ t k, rI fd ok X t k → C k := by
    intro t
    induction t with
    | zero => intro k h; exact h0 k h
    | succ t ih =>
      intro k h
      rcases h with h | ⟨q, a, b, c⟩
      · exact ih k h
      · exact h1 q k (ih q a) b c
  rintro k ⟨t, h⟩
  exact key t k h
section TBT
variable {τ : TM} {n m k : Nat} {S : St}
theorem thas {x : Int32} (hk : k < 16) : t_X4_has x (ii k) τ = some (bi (hasB x k), τ, 0, 0) := by
  unfold t_X4_has
  by_cases h : hasB x k
  · rw [if_pos ((b_has x k hk).mpr h), br, eb0 (z01 (Or.inr rfl)), bi_t h]; rfl
  · rw [if_neg (fun a => h ((b_has x k hk).mp a)), br, eb0 (z01 (Or.inl rfl)), bi_f h]; rfl
theorem tfeed (hS : τ.2 1 = S) (hm : m < 16) : t_X4_feedersOf (ii m) τ = some (fdv S m, τ, 0, 0) := by
  have key : E0 (t_X4_feedersOf (ii m)) τ (fun v σ => v = fdv S m ∧ σ = τ) := by
    unfold t_X4_feedersOf
    refine E0.b (E0.for 4 (fun i (s : Int32 × Int32) σ => σ = τ ∧ s.2 = ii i ∧ s.1 = [0, 0 ||| fdc S m 0, (0 ||| fdc S m 0) ||| fdc S m 1, ((0 ||| fdc S m 0) ||| fdc S m 1) ||| fdc S m 2, fdv S m].getD i 0) ⟨rfl, rfl, rfl⟩ (fun i hi s σ hJ => ?_) (fun s σ hJ => ?_))
    · obtain ⟨s1, s2⟩ := s
      obtain ⟨rfl, e1, e2⟩ := hJ
      dsimp only at e1 e2 ⊢
      subst e1
      refine E0.neg (by rw [show (4 : Int32) = ii 4 from rfl, ii_le (by omega) (by omega)]; omega) (E0.s (tcrd hS hm hi) ?_)
      have e3 : E0 (pm_b (if crd S m i = -1 then pm_r 0 else pm_b (t_X4_of (ii m) (5 + ii i)) fun x7 => pm_r ((1 : Int32) <<< (x7 &&& 31))) (fun (v5 : Int32) => pm_b (pm_r (s1 ||| v5)) fun x8 => (pm_r (Sum.inl (x8, ii i + 1)) : PM TM ((Int32 × Int32) ⊕ Int32)))) σ (fun r σ1 => r = .inl (s1 ||| fdc S m i, ii (i + 1)) ∧ σ1 = σ) := by
        by_cases hc : crd S m i = -1
        · rw [show fdc S m i = 0 from if_pos hc]
          refine E0.bpos hc (E0.rb (E0.rb (E0.r ?_)))
          exact ⟨by rw [i1], rfl⟩
        · rw [show fdc S m i = (1 : Int32) <<< (crd S m i &&& 31) from if_neg hc]
          refine E0.bneg hc (E0.as (E0.s (tcrd hS hm hi) (E0.rb (E0.rb (E0.r ?_)))))
          exact ⟨by rw [i1], rfl⟩
      refine e3.mono (fun r σ1 q => ?_)
      obtain ⟨rfl, rfl⟩ := q
      refine ⟨_, rfl, rfl, rfl, ?_⟩
      subst e2
      match i, hi with
      | 0, _ => rfl
      | 1, _ => rfl
      | 2, _ => rfl
      | 3, _ => rfl
    · obtain ⟨s1, s2⟩ := s
      obtain ⟨rfl, e1, e2⟩ := hJ
      dsimp only at e1 e2 ⊢
      subst e1
      exact E0.pos (by decide) (E0.r ⟨s1, rfl, E0.r ⟨e2, rfl⟩⟩)
  obtain ⟨v, σ1, e, rfl, rfl⟩ := key
  exact e
end TBT
