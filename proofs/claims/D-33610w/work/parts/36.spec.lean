/-! WHAT A PANEL's NUMBERS DETERMINE -/
/-- a part of the modules below n, where P, set -/
noncomputable def setF (S : St) (n c : Nat) (P : Nat → Prop) (v : Nat → Int32) : St := fun q => @ite _ (34 ≤ q ∧ (q - 34) % 13 = c ∧ (q - 34) / 13 < n ∧ P ((q - 34) / 13)) (Classical.propDecidable _) (v ((q - 34) / 13)) (S q)
theorem mI_div {m c : Nat} (hc : c < 13) : (mI m c - 34) / 13 = m := by unfold mI; omega
theorem mI_mod {m c : Nat} (hc : c < 13) : (mI m c - 34) % 13 = c := by unfold mI; omega
theorem mI_inj {m c m' c' : Nat} (hc : c < 13) (hc' : c' < 13) (h : mI m c = mI m' c') : m = m' ∧ c = c' := by unfold mI at h; omega
theorem mI_ge {m c : Nat} : 34 ≤ mI m c := by unfold mI; omega
theorem mI_of {q : Nat} (h : 34 ≤ q) : q = mI ((q - 34) / 13) ((q - 34) % 13) := by unfold mI; omega
section SPF
variable {S : St} {n c : Nat} {P : Nat → Prop} {v : Nat → Int32}
theorem setF_at {m : Nat} (hc : c < 13) (hm : m < n) (hp : P m) : setF S n c P v (mI m c) = v m := by
  unfold setF
  rw [if_pos ⟨mI_ge, mI_mod hc, by rw [mI_div hc]; exact hm, by rw [mI_div hc]; exact hp⟩, mI_div hc]
theorem setF_not {m : Nat} (hc : c < 13) (h : ¬ (m < n ∧ P m)) : setF S n c P v (mI m c) = S (mI m c) := by
  unfold setF
  rw [if_neg]
  rintro ⟨-, -, a, b⟩
  rw [mI_div hc] at a b
  exact h ⟨a, b⟩
theorem setF_ne {m c' : Nat} (hc' : c' < 13) (h : c' ≠ c) : setF S n c P v (mI m c') = S (mI m c') := by
  unfold setF
  rw [if_neg]
  rintro ⟨-, a, -⟩
  rw [mI_mod hc'] at a
  exact h a
theorem setF_lo {q : Nat} (h : q < 34) : setF S n c P v q = S q := by
  unfold setF
  rw [if_neg]
  rintro ⟨a, -⟩
  omega
theorem setF_0 : setF S 0 c P v = S := by
  funext q
  unfold setF
  rw [if_neg]
  rintro ⟨-, -, a, -⟩
  omega
theorem setF_up (hc : c < 13) (hp : P n) : upd (setF S n c P v) (mI n c) (v n) = setF S (n + 1) c P v := by
  funext q
  by_cases h : q = mI n c
  · subst h; rw [upd_at, setF_at hc (by omega) hp]
  · rw [upd_ne h]
    unfold setF
    by_cases hq : 34 ≤ q ∧ (q - 34) % 13 = c ∧ (q - 34) / 13 < n ∧ P ((q - 34) / 13)
    · rw [if_pos hq, if_pos ⟨hq.1, hq.2.1, by omega, hq.2.2.2⟩]
    · rw [if_neg hq, if_neg]
      rintro ⟨a, b, d, e⟩
      have : (q - 34) / 13 ≠ n := fun z => h (by rw [mI_of a, z, b])
      exact hq ⟨a, b, by omega, e⟩
theorem setF_sk (hp : ¬ P n) : setF S (n + 1) c P v = setF S n c P v := by
  funext q
  unfold setF
  by_cases hq : 34 ≤ q ∧ (q - 34) % 13 = c ∧ (q - 34) / 13 < n ∧ P ((q - 34) / 13)
  · rw [if_pos hq, if_pos ⟨hq.1, hq.2.1, by omega, hq.2.2.2⟩]
  · rw [if_neg hq, if_neg]
    rintro ⟨a, b, d, e⟩
    have : (q - 34) / 13 ≠ n := fun z => hp (by rw [← z]; exact e)
    exact hq ⟨a, b, by omega, e⟩
theorem setF_congr {v' : Nat → Int32} (h : ∀ m, m < n → P m → v m = v' m) : setF S n c P v = setF S n c P v' := by
  funext q
  unfold setF
  by_cases hq : 34 ≤ q ∧ (q - 34) % 13 = c ∧ (q - 34) / 13 < n ∧ P ((q - 34) / 13)
  · rw [if_pos hq, if_pos hq]; exact h _ hq.2.2.1 hq.2.2.2
  · rw [if_neg hq, if_neg hq]
theorem setF_setF {P' : Nat → Prop} {v' : Nat → Int32} (h : ∀ m, m < n → (P m ↔ P' m)) : setF (setF S n c P v) n c P' v' = setF S n c P' v' := by
  funext q
  unfold setF
  by_cases hq : 34 ≤ q ∧ (q - 34) % 13 = c ∧ (q - 34) / 13 < n ∧ P' ((q - 34) / 13)
  · rw [if_pos hq, if_pos hq]
  · rw [if_neg hq, if_neg hq, if_neg]
    rintro ⟨a, b, d, e⟩
    exact hq ⟨a, b, d, (h _ d).mp e⟩
end SPF
/-- what the invariant reads -/
theorem Inv.congr {S S' : St} {n : Nat} (h : Inv S n) (h0 : S' 0 = S 0) (hc : ∀ m c, m < n → c < 13 → c ≠ 1 → c ≠ 3 → c ≠ 4 → S' (mI m c) = S (mI m c)) : Inv S' n := by
  obtain ⟨a1, a2, a3, a4, a5, a6, a7, a8⟩ := h
  have ek : ∀ m, m < n → kd S' m = kd S m := fun m hm => hc m 0 hm (by omega) (by omega) (by omega) (by omega)
  have ec : ∀ m k, m < n → k < 4 → crd S' m k = crd S m k := fun m k hm hk => hc m (5 + k) hm (by omega) (by omega) (by omega) (by omega)
  have ew : ∀ m k, m < n → k < 4 → wgt S' m k = wgt S m k := fun m k hm hk => hc m (9 + k) hm (by omega) (by omega) (by omega) (by omega)
  have es : ∀ m, m < n → spd S' m = spd S m := fun m hm => hc m 2 hm (by omega) (by omega) (by omega) (by omega)
  refine ⟨by rw [h0]; exact a1, a2, fun m hm => by rw [ek m hm]; exact a3 m hm, fun m hm k hk => by rw [ec m k hm hk]; exact a4 m hm k hk, fun m hm k hk hi => ?_, ?_, fun m hm k hk => by rw [ew m k hm hk]; exact a7 m hm k hk, fun m hm => by rw [es m hm]; exact a8 m hm⟩
  · rw [ek m hm] at hi; rw [ec m k hm hk]; exact a5 m hm k hk hi
  · obtain ⟨ρ, hρ⟩ := a6
    refine ⟨ρ, fun m hm hs k hk j hj e => ?_⟩
    rw [ec m k hm hk] at e
    exact hρ m hm (by unfold isSrc at hs ⊢; rw [ek m hm] at hs; exact hs) k hk j hj e
theorem Inv_setF {S : St} {n n' c : Nat} {P : Nat → Prop} {v : Nat → Int32} (h : Inv S n) (hc : c = 1 ∨ c = 3 ∨ c = 4) : Inv (setF S n' c P v) n := h.congr (setF_lo (by omega)) (fun m c' _ hc' h1 h3 h4 => setF_ne hc' (by omega))
theorem Inv_upd {S : St} {n q : Nat} {v : Int32} (h : Inv S n) (hq : 0 < q ∧ q < 34) : Inv (upd S q v) n := h.congr (upd_ne (by omega)) (fun m c _ _ _ _ _ => upd_ne (by have := mI_ge (m := m) (c := c); omega))
/-- the outputs -/
noncomputable def outs (S : St) (n : Nat) : Nat → Int32 := fun m => @dite _ (∃ o, IsOut S n o) (Classical.propDecidable _) (fun h => if m < n then Classical.choose h m else 0) (fun _ => 0)
noncomputable def lev (S : St) (n : Nat) : Nat → Nat := fun m => @dite _ (∃ l, IsLev S n l) (Classical.propDecidable _) (fun h => if m < n then Classical.choose h m else 0) (fun _ => 0)
noncomputable def ovs (S : St) (n : Nat) : Int32 := @dite _ (∃ x, IsSet x n (ovr S (outs S n))) (Classical.propDecidable _) (fun h => Classical.choose h) (fun _ => 0)
noncomputable def dpv (S : St) (n : Nat) (a : Int32) (m : Nat) : Int32 := @dite _ (∃ x, IsSet x n (dR S n a m)) (Classical.propDecidable _) (fun h => Classical.choose h) (fun _ => 0)
/-- a reference whose state is S -/
def tmOf (S : St) : TM := (fun _ => 0, fun _ => S)
theorem out_ex {S : St} {n : Nat} (h : Inv S n) : ∃ o, IsOut S n o := by
  obtain ⟨_, _, _, f, o, ov, l, -, -, -, ho, -⟩ := tlaysO (τ := tmOf S) h rfl
  exact ⟨o, ho⟩
theorem outs_is {S : St} {n : Nat} (h : Inv S n) : IsOut S n (outs S n) := by
  have hx := out_ex h
  have e : ∀ m, m < n → outs S n m = Classical.choose hx m := fun m hm => by
    unfold outs
    rw [dif_pos hx, if_pos hm]
  intro m hm
  rw [e m hm, Classical.choose_spec hx m hm, free_congr h hm (fun _ k _ j hj _ => (e j hj).symm)]
theorem out_eq {S : St} {n : Nat} (h : Inv S n) {o : Nat → Int32} (ho : IsOut S n o) : ∀ m, m < n → o m = outs S n m := IsOut.uniq h ho (outs_is h)
theorem lev_is {S : St} {n : Nat} (h : Inv S n) : IsLev S n (lev S n) := by
  have hx := lv_ex h
  have e : ∀ m, m < n → lev S n m = Classical.choose hx m := fun m hm => by
    unfold lev
    rw [dif_pos hx, if_pos hm]
  intro m hm
  rw [e m hm, Classical.choose_spec hx m hm, lvF_congr h hm (fun _ k _ j hj _ => (e j hj).symm)]
theorem lev_eq {S : St} {n : Nat} (h : Inv S n) {l : Nat → Nat} (hl : IsLev S n l) : ∀ m, m < n → l m = lev S n m := IsLev.uniq h hl (lev_is h)
theorem ovr_congr {S : St} {n : Nat} (h : Inv S n) {o o' : Nat → Int32} (ho : ∀ m, m < n → o m = o' m) {m : Nat} (hm : m < n) : ovr S o m ↔ ovr S o' m := by
  unfold ovr
  rw [free_congr h hm (fun _ k _ j hj _ => ho j hj), ho m hm]
theorem IsSet.cong {x : Int32} {n : Nat} {P P' : Nat → Prop} (h : IsSet x n P) (hp : ∀ m, m < n → (P m ↔ P' m)) : IsSet x n P' := ⟨h.1, fun k hk => (h.2 k hk).trans ⟨fun a => ⟨a.1, (hp k a.1).mp a.2⟩, fun a => ⟨a.1, (hp k a.1).mpr a.2⟩⟩⟩
theorem ovs_is {S : St} {n : Nat} (h : Inv S n) : IsSet (ovs S n) n (ovr S (outs S n)) := by
  have hx : ∃ x, IsSet x n (ovr S (outs S n)) := by
    obtain ⟨_, _, _, f, o, ov, l, -, -, -, ho, hs⟩ := tlaysO (τ := tmOf S) h rfl
    exact ⟨ov, hs.cong (fun m hm => ovr_congr h (out_eq h ho) hm)⟩
  unfold ovs
  rw [dif_pos hx]
  exact Classical.choose_spec hx
theorem ovs_eq {S : St} {n : Nat} (h : Inv S n) {o : Nat → Int32} {x : Int32} (ho : IsOut S n o) (hx : IsSet x n (ovr S o)) : x = ovs S n := (hx.cong (fun m hm => ovr_congr h (out_eq h ho) hm)).uniq (ovs_is h)
theorem dpv_is {S : St} {n : Nat} (h : Inv S n) {a : Int32} {m : Nat} (hm : m < n) : IsSet (dpv S n a m) n (dR S n a m) := by
  have hx : ∃ x, IsSet x n (dR S n a m) := by
    obtain ⟨v, _, _, -, hs⟩ := tdep (τ := tmOf S) h rfl hm a
    exact ⟨v, hs⟩
  unfold dpv
  rw [dif_pos hx]
  exact Classical.choose_spec hx
theorem tdepE {S : St} {n m : Nat} {τ : TM} (h : Inv S n) (hS : τ.2 1 = S) (hm : m < n) (a : Int32) : t_X4_depends (ii m) a τ = some (dpv S n a m, τ, 0, 0) := by
  obtain ⟨v, σ1, e, rfl, hs⟩ := tdep h hS hm a
  rw [e, hs.uniq (dpv_is h hm)]
theorem tout {S : St} {n : Nat} {τ : TM} (h : Inv S n) (hS : τ.2 1 = S) : E0 t_X4_laysOuts τ (fun _ σ => ∃ f o, σ = oS τ f o (ovs S n) ∧ (∀ m, m < n → f m = ii (lev S n m)) ∧ (∀ m, m < n → o m = outs S n m)) := by
  refine (tlaysO h hS).mono (fun _ σ q => ?_)
  obtain ⟨f, o, ov, l, rfl, hl, hf, ho, hs⟩ := q
  exact ⟨f, o, by rw [ovs_eq h ho hs], fun m hm => by rw [hf m hm, lev_eq h hl m hm], out_eq h ho⟩
