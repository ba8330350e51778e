/-! SMALL INTS BY THEIR NUMBERS -/
def ii (n : Nat) : Int32 := Int32.ofNat n
theorem ii_add (a b : Nat) : ii a + ii b = ii (a + b) := (Int32.ofNat_add a b).symm
theorem ii_mul (a b : Nat) : ii a * ii b = ii (a * b) := (Int32.ofNat_mul a b).symm
theorem ii_int {a : Nat} (h : a < 2 ^ 31) : (ii a).toInt = (a : Int) := Int32.toInt_ofNat_of_lt h
theorem ii_lt {a b : Nat} (ha : a < 2 ^ 31) (hb : b < 2 ^ 31) : ii a < ii b ↔ a < b := by rw [Int32.lt_iff_toInt_lt, ii_int ha, ii_int hb]; omega
theorem ii_le {a b : Nat} (ha : a < 2 ^ 31) (hb : b < 2 ^ 31) : ii a ≤ ii b ↔ a ≤ b := by rw [Int32.le_iff_toInt_le, ii_int ha, ii_int hb]; omega
theorem ii_eq {a b : Nat} (ha : a < 2 ^ 31) (hb : b < 2 ^ 31) : ii a = ii b ↔ a = b := by rw [← Int32.toInt_inj, ii_int ha, ii_int hb]; omega
theorem ii_nat {a : Nat} (ha : a < 2 ^ 31) : (ii a).toNatClampNeg = a := Int32.toNatClampNeg_ofNat_of_lt ha
theorem ii_nn {a : Nat} (ha : a < 2 ^ 31) : ¬ ii a < 0 := fun h => by have := (ii_lt ha (b := 0) (by decide)).mp h; omega
theorem ii_n1 {a : Nat} (ha : a < 2 ^ 31) : ii a ≠ -1 := fun h => by
  have h1 := congrArg Int32.toInt h
  rw [ii_int ha] at h1
  have h2 : (-1 : Int32).toInt = -1 := by decide
  omega
theorem ii_of {x : Int32} (h : 0 ≤ x) : ∃ n, n < 2 ^ 31 ∧ x = ii n := by
  refine ⟨x.toNatClampNeg, ?_, (Int32.ofNat_toNatClampNeg x h).symm⟩
  have h1 := Int32.toInt_lt x
  unfold Int32.toNatClampNeg
  omega
theorem ii_of2 {x : Int32} {m : Nat} (hm : m < 2 ^ 31) (h : 0 ≤ x) (h2 : x < ii m) : ∃ n, n < m ∧ x = ii n := by
  obtain ⟨n, hn, rfl⟩ := ii_of h
  exact ⟨n, (ii_lt hn hm).mp h2, rfl⟩
theorem ii_sub {a b : Nat} (h : b ≤ a) : ii a - ii b = ii (a - b) := by
  have : ii a = ii (a - b) + ii b := by rw [ii_add]; congr 1; omega
  rw [this]
  exact Int32.add_sub_cancel _ _
theorem i32_nlt {a b : Int32} : ¬ a < b ↔ b ≤ a := Int32.not_lt
theorem i32_nle {a b : Int32} : ¬ a ≤ b ↔ b < a := Int32.not_le
/-! THE REFERENCE's STATE, BY HAND -/
/-- a part of a module lies here -/
def mI (m c : Nat) : Nat := 34 + 13 * m + c
def sA (j : Nat) (τ : TM) (f : Nat → Int32) : TM := (τ.1, fun q => if q = j then f else τ.2 q)
def sF (j : Nat) (τ : TM) (v : Int32) : TM := (fun q => if q = j then v else τ.1 q, τ.2)
theorem sA_at {j : Nat} {τ : TM} {f : Nat → Int32} : (sA j τ f).2 j = f := if_pos rfl
theorem sA_ne {i j : Nat} {τ : TM} {f : Nat → Int32} (h : i ≠ j) : (sA j τ f).2 i = τ.2 i := if_neg h
theorem sA_1 {j : Nat} {τ : TM} {f : Nat → Int32} : (sA j τ f).1 = τ.1 := rfl
theorem sF_at {j : Nat} {τ : TM} {v : Int32} : (sF j τ v).1 j = v := if_pos rfl
theorem sF_ne {i j : Nat} {τ : TM} {v : Int32} (h : i ≠ j) : (sF j τ v).1 i = τ.1 i := if_neg h
theorem sF_2 {j : Nat} {τ : TM} {v : Int32} : (sF j τ v).2 = τ.2 := rfl
theorem sA_sA {j : Nat} {τ : TM} {f f' : Nat → Int32} : sA j (sA j τ f) f' = sA j τ f' := by
  refine Prod.ext rfl (funext fun q => ?_)
  show (if q = j then f' else if q = j then f else τ.2 q) = if q = j then f' else τ.2 q
  split <;> rfl
theorem sA_self {j : Nat} {τ : TM} : sA j τ (τ.2 j) = τ := by
  refine Prod.ext rfl (funext fun q => ?_)
  show (if q = j then τ.2 j else τ.2 q) = τ.2 q
  split
  · next h => rw [h]
  · rfl
theorem tl_small (j : Nat) : tl j ≤ 1452 := by
  unfold tl
  split <;> decide
theorem ta_ok {j n : Nat} {τ : TM} (h : n < tl j) : t_a j (ii n) τ = some (τ.2 j n, τ, 0, 0) := by
  have := tl_small j
  unfold t_a
  rw [ii_nat (by omega), if_neg]
  rintro (h1 | h1)
  · exact ii_nn (by omega) h1
  · omega
theorem tpa_ok {j n : Nat} {v : Int32} {τ : TM} (h : n < tl j) : t_pa j (ii n) v τ = some ((), sA j τ (upd (τ.2 j) n v), 0, 0) := by
  have := tl_small j
  unfold t_pa
  rw [ii_nat (by omega), if_neg]
  · rfl
  rintro (h1 | h1)
  · exact ii_nn (by omega) h1
  · omega
theorem ti_ok {j : Nat} {τ : TM} : t_i j τ = some (τ.1 j, τ, 0, 0) := rfl
theorem tp_ok {j : Nat} {v : Int32} {τ : TM} : t_p j v τ = some ((), sF j τ v, 0, 0) := rfl
theorem mI_ii (m c : Nat) : ((34 : Int32) + (13 * ii m)) + ii c = ii (mI m c) := by
  show (ii 34 + (ii 13 * ii m)) + ii c = _
  rw [ii_mul, ii_add, ii_add]; rfl
theorem mI_lt {m c : Nat} (hm : m < 16) (hc : c < 13) : mI m c < 242 := by unfold mI; omega
theorem tof {m c : Nat} {τ : TM} (hm : m < 16) (hc : c < 13) : t_X4_of (ii m) (ii c) τ = some (τ.2 1 (mI m c), τ, 0, 0) := by
  unfold t_X4_of
  rw [mI_ii, eb0 (ta_ok (mI_lt hm hc))]; rfl
theorem tputs {m c : Nat} {v : Int32} {τ : TM} (hm : m < 16) (hc : c < 13) : t_X4_puts (ii m) (ii c) v τ = some ((), sA 1 τ (upd (τ.2 1) (mI m c) v), 0, 0) := by
  unfold t_X4_puts
  rw [mI_ii, eb0 (tpa_ok (mI_lt hm hc))]; rfl
theorem z01 {S : Type} {v : Int32} {σ : S} (h : v = 0 ∨ v = 1) : pm_z v σ = some (v, σ, 0, 0) := by unfold pm_z; rw [if_pos h]; rfl
/-- a truth as an int -/
def bi (P : Prop) [Decidable P] : Int32 := if P then 1 else 0
theorem bi_01 {P : Prop} [Decidable P] : bi P = 0 ∨ bi P = 1 := by unfold bi; split <;> simp
theorem bi_t {P : Prop} [Decidable P] (h : P) : bi P = 1 := if_pos h
theorem bi_f {P : Prop} [Decidable P] (h : ¬ P) : bi P = 0 := if_neg h
theorem bi_0 {P : Prop} [Decidable P] : bi P = 0 ↔ ¬ P := by unfold bi; split <;> simp_all
theorem bi_1 {P : Prop} [Decidable P] : bi P = 1 ↔ P := by unfold bi; split <;> simp_all
theorem bi_iff {P Q : Prop} [Decidable P] [Decidable Q] (h : P ↔ Q) : bi P = bi Q := by
  unfold bi
  by_cases hp : P
  · rw [if_pos hp, if_pos (h.mp hp)]
  · rw [if_neg hp, if_neg (fun q => hp (h.mpr q))]
theorem twithin {p lo hi : Int32} {τ : TM} : t_X4_within p lo hi τ = some (bi (lo ≤ p ∧ p ≤ hi), τ, 0, 0) := by
  unfold t_X4_within
  by_cases h1 : p < lo
  · rw [if_pos h1, br, eb0 (z01 (Or.inl rfl)), bi_f (fun h => absurd h1 (i32_nlt.mpr h.1))]; rfl
  · rw [if_neg h1]
    by_cases h2 : hi < p
    · rw [if_pos h2, br, eb0 (z01 (Or.inl rfl)), bi_f (fun h => absurd h2 (i32_nlt.mpr h.2))]; rfl
    · rw [if_neg h2, br, eb0 (z01 (Or.inr rfl)), bi_t ⟨i32_nlt.mp h1, i32_nlt.mp h2⟩]; rfl
