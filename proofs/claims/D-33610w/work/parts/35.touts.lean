/-! OUTPUTS, the reference's way -/
noncomputable def cb (P : Prop) : Int32 := @bi P (Classical.propDecidable P)
theorem cb_t {P : Prop} (h : P) : cb P = 1 := if_pos h
theorem cb_f {P : Prop} (h : ¬ P) : cb P = 0 := if_neg h
theorem cb_01 {P : Prop} : cb P = 0 ∨ cb P = 1 := by
  by_cases h : P
  · exact Or.inr (cb_t h)
  · exact Or.inl (cb_f h)
/-- whether a cord from f into t makes a circle without an integrator -/
def circ (S : St) (n f t : Nat) : Prop := kd S f ≠ 1 ∧ kd S t ≠ 1 ∧ (f = t ∨ dR S n 0 f t)
def absv (x : Int32) : Int32 := if 0 ≤ x then x else -x
/-- overloaded, where outputs are o -/
def ovr (S : St) (o : Nat → Int32) (m : Nat) : Prop := if kd S m = 1 then absv (chg S m) = 10000000 else free S o m ≠ o m
theorem lev_lt {S : St} {n : Nat} (h : Inv S n) {l : Nat → Nat} (hl : IsLev S n l) {m k j : Nat} (hm : m < n) (hs : ¬ isSrc S m) (hk : k < 4) (hj : j < n) (ej : crd S m k = ii j) : l j < l m := by
  have e := hl m hm
  unfold lvF at e
  rw [if_neg hs] at e
  have hn := h.le
  have ec : cl S l m k = l j := by
    unfold cl
    rw [if_neg (by rw [ej]; exact ii_n1 (by omega)), ej, ii_nat (by omega)]
  have : cl S l m k = cl S l m 0 ∨ cl S l m k = cl S l m 1 ∨ cl S l m k = cl S l m 2 ∨ cl S l m k = cl S l m 3 := by
    rcases (show k = 0 ∨ k = 1 ∨ k = 2 ∨ k = 3 by omega) with e1 | e1 | e1 | e1 <;> subst e1 <;> simp
  omega
section TOU
variable {τ : TM} {n m k : Nat} {S : St}
theorem tcirc (h : Inv S n) (hS : τ.2 1 = S) {f t : Nat} (hf : f < n) (ht : t < n) : t_X4_circles (ii f) (ii t) τ = some (cb (circ S n f t), τ, 0, 0) := by
  have hn := h.le
  have key : E0 (t_X4_circles (ii f) (ii t)) τ (fun v σ => v = cb (circ S n f t) ∧ σ = τ) := by
    unfold t_X4_circles
    refine E0.s (tkind hS (by omega)) ?_
    by_cases h1 : kd S f = 1
    · exact E0.pos h1 (E0.r ⟨(cb_f (fun c => c.1 h1)).symm, rfl⟩)
    · refine E0.neg h1 (E0.s (tkind hS (by omega)) ?_)
      by_cases h2 : kd S t = 1
      · exact E0.pos h2 (E0.r ⟨(cb_f (fun c => c.2.1 h2)).symm, rfl⟩)
      · refine E0.neg h2 ?_
        by_cases h3 : f = t
        · refine E0.bpos (by rw [h3]) (E0.rb (E0.s (z01 (Or.inr rfl)) (E0.r ⟨(cb_t ⟨h1, h2, Or.inl h3⟩).symm, rfl⟩)))
        · refine E0.bneg (fun e => h3 ((ii_eq (by omega) (by omega)).mp e)) (E0.as (E0.b ((tdep h hS hf 0).mono (fun v σ q => ?_))))
          obtain ⟨rfl, q⟩ := q
          refine E0.as (E0.s (thas (by omega)) ?_)
          by_cases h4 : hasB v t
          · rw [bi_t h4]
            exact E0.bneg (by decide) (E0.rb (E0.s (z01 (Or.inr rfl)) (E0.r ⟨(cb_t ⟨h1, h2, Or.inr ((q.2 t (by omega)).mp h4).2⟩).symm, rfl⟩)))
          · rw [bi_f h4]
            exact E0.bpos rfl (E0.rb (E0.s (z01 (Or.inl rfl)) (E0.r ⟨(cb_f (fun c => c.2.2.elim h3 (fun r => h4 ((q.2 t (by omega)).mpr ⟨ht, r⟩)))).symm, rfl⟩)))
  obtain ⟨v, σ1, e, rfl, rfl⟩ := key
  exact e
theorem tin (h : Inv S n) (hS : τ.2 1 = S) {o : Nat → Int32} (ho : τ.2 8 = o) (hm : m < n) (hk : k < 4) : t_X4_in (ii m) (ii k) τ = some (inv S o m k, τ, 0, 0) := by
  have hn := h.le
  have key : E0 (t_X4_in (ii m) (ii k)) τ (fun v σ => v = inv S o m k ∧ σ = τ) := by
    unfold t_X4_in
    refine E0.s (tcrd hS (by omega) hk) ?_
    rcases h.cr hm hk with e | ⟨j, hj, e⟩
    · refine E0.bpos e (E0.rb (E0.r ⟨?_, rfl⟩))
      unfold inv; rw [if_pos e]
    · have e2 : crd S m k ≠ -1 := by rw [e]; exact ii_n1 (by omega)
      refine E0.bneg e2 ?_
      rw [e]
      refine E0.as (E0.s (ta_ok (j := 8) (n := j) (show j < 16 by omega)) (E0.rb (E0.r ⟨?_, rfl⟩)))
      subst ho
      unfold inv
      rw [if_neg e2, e, ii_nat (by omega)]
  obtain ⟨v, σ1, e, rfl, rfl⟩ := key
  exact e
theorem twsum (h : Inv S n) (hS : τ.2 1 = S) {o : Nat → Int32} (ho : τ.2 8 = o) (hm : m < n) : t_X4_weighted (ii m) τ = some (wsum S o m, τ, 0, 0) := by
  have hn := h.le
  have key : E0 (t_X4_weighted (ii m)) τ (fun v σ => v = wsum S o m ∧ σ = τ) := by
    unfold t_X4_weighted
    refine E0.b (E0.for 4 (fun i (s : Int32 × Int32) σ => σ = τ ∧ s.2 = ii i ∧ s.1 = [0, 0 + wgt S m 0 * inv S o m 0, (0 + wgt S m 0 * inv S o m 0) + wgt S m 1 * inv S o m 1, ((0 + wgt S m 0 * inv S o m 0) + wgt S m 1 * inv S o m 1) + wgt S m 2 * inv S o m 2, wsum S o m].getD i 0) ⟨rfl, rfl, rfl⟩ (fun i hi s σ hJ => ?_) (fun s σ hJ => ?_))
    · obtain ⟨s1, s2⟩ := s
      obtain ⟨rfl, e1, e2⟩ := hJ
      dsimp only at e1 e2 ⊢
      subst e1
      refine E0.neg (by rw [show (4 : Int32) = ii 4 from rfl, ii_le (by omega) (by omega)]; omega) (E0.s (twgt hS (by omega) hi) (E0.s (tin h hS ho hm hi) (E0.rb (E0.r ⟨_, rfl, rfl, i1 i, ?_⟩))))
      subst e2
      match i, hi with
      | 0, _ => rfl
      | 1, _ => rfl
      | 2, _ => rfl
      | 3, _ => rfl
    · obtain ⟨s1, s2⟩ := s
      obtain ⟨rfl, e1, e2⟩ := hJ
      dsimp only at e1 e2 ⊢
      subst e1
      exact E0.pos (by decide) (E0.r ⟨s1, rfl, E0.r ⟨e2, rfl⟩⟩)
  obtain ⟨v, σ1, e, rfl, rfl⟩ := key
  exact e
theorem tfree (h : Inv S n) (hS : τ.2 1 = S) {o : Nat → Int32} (ho : τ.2 8 = o) (hm : m < n) : t_X4_free (ii m) τ = some (free S o m, τ, 0, 0) := by
  have hn := h.le
  have key : E0 (t_X4_free (ii m)) τ (fun v σ => v = free S o m ∧ σ = τ) := by
    unfold t_X4_free free
    refine E0.s (tkind hS (by omega)) ?_
    by_cases h0 : kd S m = 0
    · rw [if_pos h0, if_pos h0]
      exact E0.as (E0.s (twsum h hS ho hm) (E0.rb (E0.r ⟨rfl, rfl⟩)))
    rw [if_neg h0, if_neg h0]
    by_cases h1 : kd S m = 1
    · rw [if_pos h1, if_pos h1]
      exact E0.as (E0.s (tof3 hS (by omega)) (E0.rb (E0.r ⟨rfl, rfl⟩)))
    rw [if_neg h1, if_neg h1]
    by_cases h2 : kd S m = 2
    · rw [if_pos h2, if_pos h2]
      exact E0.as (E0.s (tin (k := 0) h hS ho hm (by omega)) (E0.as (E0.s (tof1 hS (by omega)) (E0.rb (E0.r ⟨rfl, rfl⟩)))))
    rw [if_neg h2, if_neg h2]
    by_cases h3 : kd S m = 3
    · rw [if_pos h3, if_pos h3]
      exact E0.as (E0.s (tin (k := 0) h hS ho hm (by omega)) (E0.as (E0.s (tin (k := 1) h hS ho hm (by omega)) (E0.rb (E0.r ⟨rfl, rfl⟩)))))
    rw [if_neg h3, if_neg h3]
    by_cases h4 : kd S m = 4
    · rw [if_pos h4, if_pos h4]
      refine E0.as (E0.s (tin (k := 0) h hS ho hm (by omega)) (E0.as (E0.s (tin (k := 1) h hS ho hm (by omega)) ?_)))
      by_cases h5 : inv S o m 0 < inv S o m 1
      · rw [if_pos h5, if_pos h5]
        exact E0.as (E0.s (tin (k := 3) h hS ho hm (by omega)) (E0.rb (E0.r ⟨rfl, rfl⟩)))
      · rw [if_neg h5, if_neg h5]
        exact E0.as (E0.s (tin (k := 2) h hS ho hm (by omega)) (E0.rb (E0.r ⟨rfl, rfl⟩)))
    · rw [if_neg h4, if_neg h4]
      exact E0.as (E0.s (tof1 hS (by omega)) (E0.rb (E0.r ⟨rfl, rfl⟩)))
  obtain ⟨v, σ1, e, rfl, rfl⟩ := key
  exact e
theorem theld {p b : Int32} : t_X4_held p b τ = some (hld p b, τ, 0, 0) := by
  unfold t_X4_held hld
  by_cases h1 : p ≤ b
  · rw [if_pos h1, if_pos h1]
    by_cases h2 : -b ≤ p
    · rw [if_pos h2, if_pos h2]; rfl
    · rw [if_neg h2, if_neg h2]; rfl
  · rw [if_neg h1, if_neg h1]; rfl
theorem tsize {p : Int32} : t_X4_size p τ = some (absv p, τ, 0, 0) := by
  unfold t_X4_size absv
  by_cases h1 : 0 ≤ p
  · rw [if_pos h1, if_pos h1]; rfl
  · rw [if_neg h1, if_neg h1]; rfl
theorem sF_sF {j : Nat} {τ : TM} {v v' : Int32} : sF j (sF j τ v) v' = sF j τ v' := by
  refine Prod.ext (funext fun q => ?_) rfl
  show (if q = j then v' else if q = j then v else τ.1 q) = if q = j then v' else τ.1 q
  split <;> rfl
/-- laid so far -/
def oD (l : Nat → Nat) (i j m : Nat) : Prop := l m < i ∨ l m = i ∧ m < j
def oP (S : St) (n : Nat) (l : Nat → Nat) (i j : Nat) (o : Nat → Int32) (ov : Int32) : Prop := (∀ m, m < n → oD l i j m → o m = hld (free S o m) 10000) ∧ small ov ∧ ∀ k, k < 16 → (hasB ov k ↔ k < n ∧ oD l i j k ∧ ovr S o k)
/-- what outputs and overloads are laid: oS of a state -/
def oS (τ : TM) (f o : Nat → Int32) (ov : Int32) : TM := sF 9 (sA 8 (sA 7 τ f) o) ov
theorem oP.skip {S : St} {n : Nat} {l : Nat → Nat} {i j : Nat} {o : Nat → Int32} {ov : Int32} (g : oP S n l i j o ov) (hl : l j ≠ i) : oP S n l i (j + 1) o ov := by
  have e : ∀ m, oD l i (j + 1) m ↔ oD l i j m := fun m => by
    unfold oD
    constructor
    · rintro (a | ⟨a, b⟩)
      · exact Or.inl a
      · rcases Nat.lt_or_ge m j with c | c
        · exact Or.inr ⟨a, c⟩
        · have : m = j := by omega
          subst this; exact absurd a hl
    · rintro (a | ⟨a, b⟩)
      · exact Or.inl a
      · exact Or.inr ⟨a, by omega⟩
  exact ⟨fun m hm hd => g.1 m hm ((e m).mp hd), g.2.1, fun k hk => by rw [g.2.2 k hk, e k]⟩
theorem oP.next {S : St} {n : Nat} {l : Nat → Nat} {i : Nat} {o : Nat → Int32} {ov : Int32} (g : oP S n l i n o ov) : oP S n l (i + 1) 0 o ov := by
  have e : ∀ m, m < n → (oD l (i + 1) 0 m ↔ oD l i n m) := fun m hm => by unfold oD; omega
  exact ⟨fun m hm hd => g.1 m hm ((e m hm).mp hd), g.2.1, fun k hk => by
    rw [g.2.2 k hk]
    constructor
    · rintro ⟨a, b, c⟩; exact ⟨a, (e k a).mpr b, c⟩
    · rintro ⟨a, b, c⟩; exact ⟨a, (e k a).mp b, c⟩⟩
theorem oP.lay {S : St} {n : Nat} {l : Nat → Nat} {i j : Nat} {o : Nat → Int32} {ov v : Int32} (h : Inv S n) (hl : IsLev S n l) (g : oP S n l i j o ov) (hj : j < n) (hi : l j = i) (hv : ovr S (upd o j (hld (free S o j) 10000)) j → v = (1 : Int32) <<< (ii j &&& 31)) (hv0 : ¬ ovr S (upd o j (hld (free S o j) 10000)) j → v = 0) : oP S n l i (j + 1) (upd o j (hld (free S o j) 10000)) (ov ||| v) := by
  have hn := h.le
  have fr : ∀ m, m < n → l m ≤ i → free S (upd o j (hld (free S o j) 10000)) m = free S o m := fun m hm hle => free_congr h hm (fun hs k hk q hq eq => by
    have := lev_lt h hl hm hs hk hq eq
    rw [upd_ne (by intro e; subst e; omega)])
  have ov' : ∀ m, m < n → l m ≤ i → m ≠ j → (ovr S (upd o j (hld (free S o j) 10000)) m ↔ ovr S o m) := fun m hm hle hne => by
    unfold ovr
    rw [fr m hm hle, upd_ne hne]
  refine ⟨fun m hm hd => ?_, ?_, fun k hk => ?_⟩
  · by_cases e : m = j
    · subst e; rw [upd_at, fr m hm (by omega)]
    · rw [upd_ne e, fr m hm (by unfold oD at hd; omega)]
      exact g.1 m hm (by unfold oD at hd ⊢; omega)
  · by_cases hp : ovr S (upd o j (hld (free S o j) 10000)) j
    · rw [hv hp]; exact small_or g.2.1 (small_pow (by omega))
    · rw [hv0 hp]; exact small_or g.2.1 small_0
  · rw [hasB_or, g.2.2 k hk]
    have hvk : hasB v k ↔ k = j ∧ ovr S (upd o j (hld (free S o j) 10000)) j := by
      by_cases hp : ovr S (upd o j (hld (free S o j) 10000)) j
      · rw [hv hp, hasB_pow (by omega) hk]; exact ⟨fun a => ⟨a, hp⟩, fun a => a.1⟩
      · rw [hv0 hp]; exact ⟨fun a => absurd a hasB_0, fun a => absurd a.2 hp⟩
    rw [hvk]
    constructor
    · rintro (⟨a, b, c⟩ | ⟨rfl, c⟩)
      · refine ⟨a, by unfold oD at b ⊢; omega, ?_⟩
        have hne : k ≠ j := fun e => by subst e; unfold oD at b; omega
        exact (ov' k a (by unfold oD at b; omega) hne).mpr c
      · exact ⟨hj, by unfold oD; omega, c⟩
    · rintro ⟨a, b, c⟩
      by_cases e : k = j
      · subst e; exact Or.inr ⟨rfl, c⟩
      · exact Or.inl ⟨a, by unfold oD at b ⊢; omega, (ov' k a (by unfold oD at b; omega) e).mp c⟩
set_option maxHeartbeats 1000000 in
theorem tlaysO (h : Inv S n) (hS : τ.2 1 = S) : E0 t_X4_laysOuts τ (fun _ σ => ∃ f o ov l, σ = oS τ f o ov ∧ IsLev S n l ∧ (∀ m, m < n → f m = ii (l m)) ∧ IsOut S n o ∧ IsSet ov n (ovr S o)) := by
  have hn := h.le
  obtain ⟨l, hl⟩ := lv_ex h
  unfold t_X4_laysOuts
  refine E0.b ((tlays h hl hS).mono (fun _ σ q => ?_))
  obtain ⟨f, rfl, hf⟩ := q
  refine E0.s tp_ok (E0.b (E0.for 17 (fun i (s : Int32) σ => s = ii i ∧ ∃ o ov, σ = oS τ f o ov ∧ oP S n l i 0 o ov) ⟨rfl, τ.2 8, 0, by
      unfold oS
      have : sA 8 (sA 7 τ f) (τ.2 8) = sA 7 τ f := by
        have e : (sA 7 τ f).2 8 = τ.2 8 := rfl
        rw [← e]; exact sA_self
      rw [this], fun m hm hd => by unfold oD at hd; omega, small_0, fun k hk => ⟨fun a => absurd a hasB_0, fun a => by have := a.2.1; unfold oD at this; omega⟩⟩ (fun i hi s σ hJ => ?_) (fun s σ hJ => ?_)))
  · obtain ⟨rfl, o, ov, rfl, g⟩ := hJ
    refine E0.neg (by rw [show (16 : Int32) = ii 16 from rfl, ii_lt (by omega) (by omega)]; omega) (E0.b (E0.for n (fun j (s : Int32) σ => s = ii j ∧ ∃ o ov, σ = oS τ f o ov ∧ oP S n l i j o ov) ⟨rfl, o, ov, rfl, g⟩ (fun j hj s σ hJ => ?_) (fun s σ hJ => ?_)))
    · obtain ⟨rfl, o, ov, rfl, g⟩ := hJ
      have hlj := lv_bound h hl hj
      have hS' : (oS τ f o ov).2 1 = S := hS
      refine E0.s (tn hS' h.z) (E0.neg (by rw [ii_le (by omega) (by omega)]; omega) (E0.s (ta_ok (j := 7) (n := j) (show j < 16 by omega)) ?_))
      have e7 : (oS τ f o ov).2 7 j = ii (l j) := hf j hj
      rw [e7]
      by_cases hlv : l j = i
      · refine E0.bpos (by rw [hlv]) (E0.as (E0.s (tfree h hS' rfl hj) (E0.as (E0.s theld (E0.as (E0.s (tpa_ok (j := 8) (n := j) (show j < 16 by omega)) ?_))))))
        have e8 : (oS τ f o ov).2 8 = o := rfl
        rw [e8]
        have eσ : sA 8 (oS τ f o ov) (upd o j (hld (free S o j) 10000)) = oS τ f (upd o j (hld (free S o j) 10000)) ov := by
          unfold oS
          show sF 9 (sA 8 (sA 8 (sA 7 τ f) o) _) ov = _
          rw [sA_sA]
        rw [eσ]
        have hS2 : (oS τ f (upd o j (hld (free S o j) 10000)) ov).2 1 = S := hS
        have fin : ∀ v9 : Int32, (v9 = 0 ∨ v9 = 1) → (v9 = 1 ↔ ovr S (upd o j (hld (free S o j) 10000)) j) → E0 (pm_b (pm_b (t_i 9) fun x24 => pm_b (if v9 = 0 then pm_r 0 else pm_r ((1 : Int32) <<< (ii j &&& 31))) fun (v25 : Int32) => pm_b (t_p 9 (x24 ||| v25)) fun _ => (pm_r () : PM TM Unit)) (fun _ => (pm_r (Sum.inl (ii j + 1)) : PM TM (Int32 ⊕ Unit)))) (oS τ f (upd o j (hld (free S o j) 10000)) ov) (fun r σ2 => ∃ s', r = .inl s' ∧ s' = ii (j + 1) ∧ ∃ o ov, σ2 = oS τ f o ov ∧ oP S n l i (j + 1) o ov) := by
          intro v9 h01 hiff
          refine E0.as (E0.s ti_ok ?_)
          have e9 : (oS τ f (upd o j (hld (free S o j) 10000)) ov).1 9 = ov := rfl
          have eF : ∀ w, sF 9 (oS τ f (upd o j (hld (free S o j) 10000)) ov) w = oS τ f (upd o j (hld (free S o j) 10000)) w := fun w => sF_sF
          rw [e9]
          by_cases z : v9 = 0
          · refine E0.as (E0.bpos z (E0.rb (E0.as (E0.s tp_ok (E0.rb (E0.r ⟨_, rfl, i1 j, _, _, eF _, oP.lay h hl g hj hlv (fun q => ?_) (fun _ => rfl)⟩))))))
            have := hiff.mpr q; rw [z] at this; exact absurd this (by decide)
          · have z1 : v9 = 1 := h01.resolve_left z
            exact E0.as (E0.bneg z (E0.rb (E0.as (E0.s tp_ok (E0.rb (E0.r ⟨_, rfl, i1 j, _, _, eF _, oP.lay h hl g hj hlv (fun _ => rfl) (fun q => absurd (hiff.mp z1) q)⟩))))))
        refine E0.as (E0.s (tkind hS2 (by omega)) (E0.as ?_))
        have hfr : free S (upd o j (hld (free S o j) 10000)) j = free S o j := free_congr h hj (fun hs k hk q hq eq => by
          have := lev_lt h hl hj hs hk hq eq
          rw [upd_ne (by intro e; subst e; omega)])
        by_cases hk : kd S j = 1
        · refine E0.bpos hk (E0.as (E0.s (tof3 hS2 (by omega)) (E0.as (E0.s tsize ?_))))
          have ho : ovr S (upd o j (hld (free S o j) 10000)) j ↔ absv (chg S j) = 10000000 := by unfold ovr; rw [if_pos hk]
          by_cases ha : absv (chg S j) = 10000000
          · exact E0.bpos ha (E0.rb (fin 1 (Or.inr rfl) ⟨fun _ => ho.mpr ha, fun _ => rfl⟩))
          · exact E0.bneg ha (E0.rb (fin 0 (Or.inl rfl) ⟨fun q => absurd q (by decide), fun q => absurd (ho.mp q) ha⟩))
        · refine E0.bneg hk (E0.as (E0.s (ta_ok (j := 8) (n := j) (show j < 16 by omega)) ?_))
          have e8' : (oS τ f (upd o j (hld (free S o j) 10000)) ov).2 8 j = hld (free S o j) 10000 := upd_at
          rw [e8']
          have ho : ovr S (upd o j (hld (free S o j) 10000)) j ↔ free S o j ≠ hld (free S o j) 10000 := by unfold ovr; rw [if_neg hk, hfr, upd_at]
          by_cases ha : free S o j = hld (free S o j) 10000
          · exact E0.bpos ha (E0.rb (fin 0 (Or.inl rfl) ⟨fun q => absurd q (by decide), fun q => absurd ha (ho.mp q)⟩))
          · exact E0.bneg ha (E0.rb (fin 1 (Or.inr rfl) ⟨fun _ => ho.mpr ha, fun _ => rfl⟩))
      · refine E0.bneg (fun e => hlv ((ii_eq (by omega) (by omega)).mp e)) (E0.rb (E0.r ⟨_, rfl, i1 j, o, ov, rfl, g.skip hlv⟩))
    · obtain ⟨rfl, o, ov, rfl, g⟩ := hJ
      have hS' : (oS τ f o ov).2 1 = S := hS
      exact E0.s (tn hS' h.z) (E0.pos (by rw [ii_le (by omega) (by omega)]; omega) (E0.r ⟨(), rfl, E0.r ⟨_, rfl, i1 i, o, ov, rfl, g.next⟩⟩))
  · obtain ⟨rfl, o, ov, rfl, g⟩ := hJ
    refine E0.pos (by rw [show (16 : Int32) = ii 16 from rfl, ii_lt (by omega) (by omega)]; omega) (E0.r ⟨(), rfl, E0.r ⟨f, o, ov, l, rfl, hl, hf, fun m hm => g.1 m hm (Or.inl (by have := lv_bound h hl hm; omega)), g.2.1, fun k hk => ?_⟩⟩)
    rw [g.2.2 k hk]
    exact ⟨fun a => ⟨a.1, a.2.2⟩, fun a => ⟨a.1, Or.inl (by have := lv_bound h hl a.1; omega), a.2⟩⟩
end TOU
