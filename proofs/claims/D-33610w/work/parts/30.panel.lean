/-! A PANEL AS NUMBERS: the reference's state array, by its parts -/
abbrev St : Type := Nat → Int32
def kd (S : St) (m : Nat) : Int32 := S (mI m 0)
def stt (S : St) (m : Nat) : Int32 := S (mI m 1)
def spd (S : St) (m : Nat) : Int32 := S (mI m 2)
def chg (S : St) (m : Nat) : Int32 := S (mI m 3)
def pek (S : St) (m : Nat) : Int32 := S (mI m 4)
def crd (S : St) (m k : Nat) : Int32 := S (mI m (5 + k))
def wgt (S : St) (m k : Nat) : Int32 := S (mI m (9 + k))
def inpN (k : Int32) : Nat := if k = 5 then 0 else if k = 2 then 1 else if k = 3 then 2 else 4
abbrev isSrc (S : St) (m : Nat) : Prop := kd S m = 5 ∨ kd S m = 1
/-- n modules, each of one of the six kinds, their cords in place, no circle but through an integrator -/
def Inv (S : St) (n : Nat) : Prop :=
  S 0 = ii n ∧ n ≤ 16 ∧ (∀ m, m < n → ∃ c, c < 6 ∧ kd S m = ii c) ∧ (∀ m, m < n → ∀ k, k < 4 → crd S m k = -1 ∨ ∃ j, j < n ∧ crd S m k = ii j) ∧
  (∀ m, m < n → ∀ k, k < 4 → inpN (kd S m) ≤ k → crd S m k = -1) ∧ (∃ ρ : Nat → Nat, ∀ m, m < n → ¬ isSrc S m → ∀ k, k < 4 → ∀ j, j < n → crd S m k = ii j → ρ j < ρ m) ∧
  (∀ m, m < n → ∀ k, k < 4 → wgt S m k = 1 ∨ wgt S m k = 10) ∧ (∀ m, m < n → 1 ≤ spd S m ∧ spd S m ≤ 1000)
section INV
variable {S : St} {n : Nat}
theorem Inv.z (h : Inv S n) : S 0 = ii n := h.1
theorem Inv.le (h : Inv S n) : n ≤ 16 := h.2.1
theorem Inv.kin (h : Inv S n) {m : Nat} (hm : m < n) : ∃ c, c < 6 ∧ kd S m = ii c := h.2.2.1 m hm
theorem Inv.cr (h : Inv S n) {m k : Nat} (hm : m < n) (hk : k < 4) : crd S m k = -1 ∨ ∃ j, j < n ∧ crd S m k = ii j := h.2.2.2.1 m hm k hk
theorem Inv.no (h : Inv S n) {m k : Nat} (hm : m < n) (hk : k < 4) (hi : inpN (kd S m) ≤ k) : crd S m k = -1 := h.2.2.2.2.1 m hm k hk hi
theorem Inv.rk (h : Inv S n) : ∃ ρ : Nat → Nat, ∀ m, m < n → ¬ isSrc S m → ∀ k, k < 4 → ∀ j, j < n → crd S m k = ii j → ρ j < ρ m := h.2.2.2.2.2.1
theorem Inv.wt (h : Inv S n) {m k : Nat} (hm : m < n) (hk : k < 4) : wgt S m k = 1 ∨ wgt S m k = 10 := h.2.2.2.2.2.2.1 m hm k hk
theorem Inv.sp (h : Inv S n) {m : Nat} (hm : m < n) : 1 ≤ spd S m ∧ spd S m ≤ 1000 := h.2.2.2.2.2.2.2 m hm
end INV
/-! OUTPUTS -/
/-- an input's voltage, where the outputs are o -/
def inv (S : St) (o : Nat → Int32) (m k : Nat) : Int32 := if crd S m k = -1 then 0 else o (crd S m k).toNatClampNeg
def wsum (S : St) (o : Nat → Int32) (m : Nat) : Int32 := (((0 + wgt S m 0 * inv S o m 0) + wgt S m 1 * inv S o m 1) + wgt S m 2 * inv S o m 2) + wgt S m 3 * inv S o m 3
def free (S : St) (o : Nat → Int32) (m : Nat) : Int32 :=
  if kd S m = 0 then -wsum S o m else if kd S m = 1 then chg S m / 1000 else if kd S m = 2 then (inv S o m 0 * stt S m) / 1000 else if kd S m = 3 then (inv S o m 0 * inv S o m 1) / 10000
  else if kd S m = 4 then (if inv S o m 0 < inv S o m 1 then inv S o m 3 else inv S o m 2) else stt S m
def hld (v b : Int32) : Int32 := if v ≤ b then (if -b ≤ v then v else -b) else b
def IsOut (S : St) (n : Nat) (o : Nat → Int32) : Prop := ∀ m, m < n → o m = hld (free S o m) 10000
theorem inv_congr {S : St} {n : Nat} (h : Inv S n) {o o' : Nat → Int32} {m k : Nat} (hm : m < n) (hk : k < 4) (ho : ∀ j, j < n → crd S m k = ii j → o j = o' j) : inv S o m k = inv S o' m k := by
  unfold inv
  rcases h.cr hm hk with e | ⟨j, hj, e⟩
  · rw [if_pos e, if_pos e]
  · have hl := h.le
    rw [if_neg (by rw [e]; exact ii_n1 (by omega)), if_neg (by rw [e]; exact ii_n1 (by omega)), e, ii_nat (by omega)]
    exact ho j hj e
theorem free_congr {S : St} {n : Nat} (h : Inv S n) {o o' : Nat → Int32} {m : Nat} (hm : m < n) (ho : ¬ isSrc S m → ∀ k, k < 4 → ∀ j, j < n → crd S m k = ii j → o j = o' j) : free S o m = free S o' m := by
  by_cases hs : isSrc S m
  · unfold free
    rcases hs with e | e
    · simp [e]
    · simp [e]
  · have key : ∀ k, k < 4 → inv S o m k = inv S o' m k := fun k hk => inv_congr h hm hk (ho hs k hk)
    unfold free wsum
    rw [key 0 (by omega), key 1 (by omega), key 2 (by omega), key 3 (by omega)]
theorem IsOut.uniq {S : St} {n : Nat} (h : Inv S n) {o o' : Nat → Int32} (h1 : IsOut S n o) (h2 : IsOut S n o') : ∀ m, m < n → o m = o' m := by
  obtain ⟨ρ, hρ⟩ := h.rk
  have key : ∀ (r m : Nat), ρ m < r → m < n → o m = o' m := by
    intro r
    induction r with
    | zero => intro m hr; omega
    | succ r ih =>
      intro m hr hm
      rw [h1 m hm, h2 m hm, free_congr h hm (fun hs k hk j hj e => ih j (by have := hρ m hm hs k hk j hj e; omega) hj)]
  intro m hm
  exact key (ρ m + 1) m (by omega) hm
/-! LEVELS -/
def cl (S : St) (l : Nat → Nat) (m k : Nat) : Nat := if crd S m k = -1 then 0 else l (crd S m k).toNatClampNeg
def lvF (S : St) (l : Nat → Nat) (m : Nat) : Nat := if isSrc S m then 0 else 1 + max (max (max (max 0 (cl S l m 0)) (cl S l m 1)) (cl S l m 2)) (cl S l m 3)
def IsLev (S : St) (n : Nat) (l : Nat → Nat) : Prop := ∀ m, m < n → l m = lvF S l m
theorem cl_congr {S : St} {n : Nat} (h : Inv S n) {l l' : Nat → Nat} {m k : Nat} (hm : m < n) (hk : k < 4) (ho : ∀ j, j < n → crd S m k = ii j → l j = l' j) : cl S l m k = cl S l' m k := by
  unfold cl
  rcases h.cr hm hk with e | ⟨j, hj, e⟩
  · rw [if_pos e, if_pos e]
  · have hl := h.le
    rw [if_neg (by rw [e]; exact ii_n1 (by omega)), if_neg (by rw [e]; exact ii_n1 (by omega)), e, ii_nat (by omega)]
    exact ho j hj e
theorem cl_le {S : St} {n : Nat} (h : Inv S n) {l l' : Nat → Nat} {m k : Nat} (hm : m < n) (hk : k < 4) (ho : ∀ j, j < n → crd S m k = ii j → l j ≤ l' j) : cl S l m k ≤ cl S l' m k := by
  unfold cl
  rcases h.cr hm hk with e | ⟨j, hj, e⟩
  · rw [if_pos e, if_pos e]; exact Nat.le_refl _
  · have hl := h.le
    rw [if_neg (by rw [e]; exact ii_n1 (by omega)), if_neg (by rw [e]; exact ii_n1 (by omega)), e, ii_nat (by omega)]
    exact ho j hj e
theorem lvF_congr {S : St} {n : Nat} (h : Inv S n) {l l' : Nat → Nat} {m : Nat} (hm : m < n) (ho : ¬ isSrc S m → ∀ k, k < 4 → ∀ j, j < n → crd S m k = ii j → l j = l' j) : lvF S l m = lvF S l' m := by
  unfold lvF
  by_cases hs : isSrc S m
  · rw [if_pos hs, if_pos hs]
  · rw [if_neg hs, if_neg hs]
    have key : ∀ k, k < 4 → cl S l m k = cl S l' m k := fun k hk => cl_congr h hm hk (ho hs k hk)
    rw [key 0 (by omega), key 1 (by omega), key 2 (by omega), key 3 (by omega)]
theorem lvF_le {S : St} {n : Nat} (h : Inv S n) {l l' : Nat → Nat} {m : Nat} (hm : m < n) (ho : ∀ j, j < n → l j ≤ l' j) : lvF S l m ≤ lvF S l' m := by
  unfold lvF
  by_cases hs : isSrc S m
  · rw [if_pos hs, if_pos hs]; exact Nat.le_refl _
  · rw [if_neg hs, if_neg hs]
    have key : ∀ k, k < 4 → cl S l m k ≤ cl S l' m k := fun k hk => cl_le h hm hk (fun j hj _ => ho j hj)
    have k0 := key 0 (by omega)
    have k1 := key 1 (by omega)
    have k2 := key 2 (by omega)
    have k3 := key 3 (by omega)
    omega
theorem IsLev.uniq {S : St} {n : Nat} (h : Inv S n) {l l' : Nat → Nat} (h1 : IsLev S n l) (h2 : IsLev S n l') : ∀ m, m < n → l m = l' m := by
  obtain ⟨ρ, hρ⟩ := h.rk
  have key : ∀ (r m : Nat), ρ m < r → m < n → l m = l' m := by
    intro r
    induction r with
    | zero => intro m hr; omega
    | succ r ih =>
      intro m hr hm
      rw [h1 m hm, h2 m hm, lvF_congr h hm (fun hs k hk j hj e => ih j (by have := hρ m hm hs k hk j hj e; omega) hj)]
  intro m hm
  exact key (ρ m + 1) m (by omega) hm
def lvI (S : St) : Nat → Nat → Nat
  | 0 => fun _ => 0
  | t + 1 => lvF S (lvI S t)
theorem lv_ex {S : St} {n : Nat} (h : Inv S n) : ∃ l, IsLev S n l := by
  obtain ⟨ρ, hρ⟩ := h.rk
  have key : ∀ (r m : Nat), ρ m < r → m < n → ∀ t, r ≤ t → lvI S t m = lvI S (t + 1) m := by
    intro r
    induction r with
    | zero => intro m hr; omega
    | succ r ih =>
      intro m hr hm t ht
      cases t with
      | zero => omega
      | succ t =>
        show lvF S (lvI S t) m = lvF S (lvI S (t + 1)) m
        exact lvF_congr h hm (fun hs k hk j hj e => ih j (by have := hρ m hm hs k hk j hj e; omega) hj t (by omega))
  have hb : ∃ B, ∀ m, m < n → ρ m < B := by
    clear h hρ key
    induction n with
    | zero => exact ⟨0, fun m hm => by omega⟩
    | succ n ih =>
      obtain ⟨B, hB⟩ := ih
      exact ⟨max B (ρ n + 1), fun m hm => by
        rcases Nat.lt_or_ge m n with h | h
        · have := hB m h; omega
        · have : m = n := by omega
          subst this; omega⟩
  obtain ⟨B, hB⟩ := hb
  exact ⟨lvI S B, fun m hm => key B m (hB m hm) hm B (Nat.le_refl B)⟩
/-- values from 0 to a, each taken among the first n: then a ≤ n -/
theorem pigeon : ∀ (n a : Nat) (f : Nat → Nat), (∀ v, v < a → ∃ m, m < n ∧ f m = v) → a ≤ n := by
  intro n
  induction n with
  | zero =>
    intro a f h
    rcases Nat.eq_zero_or_pos a with e | e
    · omega
    · obtain ⟨m, hm, -⟩ := h 0 e; omega
  | succ n ih =>
    intro a f h
    rcases Nat.eq_zero_or_pos a with e | e
    · omega
    · have := ih (a - 1) (fun m => if f m = a - 1 then f n else f m) (fun v hv => by
        obtain ⟨m, hm, em⟩ := h v (by omega)
        rcases Nat.lt_or_ge m n with hl | hg
        · exact ⟨m, hl, by show (if f m = a - 1 then f n else f m) = v; rw [if_neg (by omega)]; exact em⟩
        · have e1 : m = n := by omega
          subst e1
          obtain ⟨m', hm', em'⟩ := h (a - 1) (by omega)
          have : m' ≠ m := fun e2 => by rw [e2] at em'; omega
          exact ⟨m', by omega, by show (if f m' = a - 1 then f m else f m') = v; rw [if_pos em']; exact em⟩)
      omega
theorem cl_pos {S : St} {n : Nat} (h : Inv S n) {l : Nat → Nat} {m k : Nat} (hm : m < n) (hk : k < 4) (hp : 0 < cl S l m k) : ∃ j, j < n ∧ crd S m k = ii j ∧ cl S l m k = l j := by
  unfold cl at hp ⊢
  rcases h.cr hm hk with e | ⟨j, hj, e⟩
  · rw [if_pos e] at hp; omega
  · have hl := h.le
    exact ⟨j, hj, e, by rw [if_neg (by rw [e]; exact ii_n1 (by omega)), e, ii_nat (by omega)]⟩
theorem lv_down {S : St} {n : Nat} (h : Inv S n) {l : Nat → Nat} (hl : IsLev S n l) : ∀ (d m : Nat), m < n → ∀ v, v + d = l m → 1 ≤ v → ∃ m', m' < n ∧ l m' = v := by
  intro d
  induction d with
  | zero => intro m hm v hv _; exact ⟨m, hm, by omega⟩
  | succ d ih =>
    intro m hm v hv h1
    obtain ⟨m', hm', e⟩ := ih m hm (v + 1) (by omega) (by omega)
    have e2 := hl m' hm'
    unfold lvF at e2
    split at e2
    · omega
    · have hx : ∃ k, k < 4 ∧ cl S l m' k = v := by
        have : cl S l m' 0 = v ∨ cl S l m' 1 = v ∨ cl S l m' 2 = v ∨ cl S l m' 3 = v := by omega
        rcases this with a | a | a | a
        · exact ⟨0, by omega, a⟩
        · exact ⟨1, by omega, a⟩
        · exact ⟨2, by omega, a⟩
        · exact ⟨3, by omega, a⟩
      obtain ⟨k, hk, ek⟩ := hx
      obtain ⟨j, hj, -, ej⟩ := cl_pos (l := l) h hm' hk (by omega)
      exact ⟨j, hj, by omega⟩
theorem lv_bound {S : St} {n : Nat} (h : Inv S n) {l : Nat → Nat} (hl : IsLev S n l) {m : Nat} (hm : m < n) : l m ≤ n := by
  refine pigeon n (l m) (fun q => l q - 1) (fun v hv => ?_)
  obtain ⟨m', hm', e⟩ := lv_down h hl (l m - (v + 1)) m hm (v + 1) (by omega) (by omega)
  exact ⟨m', hm', by show l m' - 1 = v; omega⟩
