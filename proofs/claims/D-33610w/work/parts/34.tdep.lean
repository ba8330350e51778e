/-! WHAT DEPENDS ON WHAT, the reference's way -/
/-- a set looked at in one round: from b, over those below i -/
def grow (S : St) (n : Nat) (ok : Nat → Prop) (R : Nat → Prop) (b acc : Int32) (i : Nat) : Prop :=
  small acc ∧ (∀ k, k < 16 → hasB b k → hasB acc k) ∧ (∀ k, k < 16 → hasB acc k → k < n ∧ R k) ∧ (∀ q, q < i → hasB b q → ok q → ∀ k, fdP S n q k → hasB acc k)
theorem grow.z {S : St} {n : Nat} {ok R : Nat → Prop} {b : Int32} (hb : small b) (hR : ∀ k, k < 16 → hasB b k → k < n ∧ R k) : grow S n ok R b b 0 := ⟨hb, fun _ _ h => h, hR, fun q hq => by omega⟩
/-- .. one more -/
theorem grow.s {S : St} {n : Nat} {ok R : Nat → Prop} {b acc : Int32} {i : Nat} (h : Inv S n) (hi : i < n) (hR : ∀ q k, R q → ok q → fdP S n q k → R k) (hb : ∀ k, k < 16 → hasB b k → k < n ∧ R k) (g : grow S n ok R b acc i) {v : Int32} (hv : hasB b i ∧ ok i → v = fdv S i) (hv0 : ¬ (hasB b i ∧ ok i) → v = 0) : grow S n ok R b (acc ||| v) (i + 1) := by
  have hn := h.le
  have hf := fdv_set h hi
  obtain ⟨g1, g2, g3, g4⟩ := g
  by_cases hc : hasB b i ∧ ok i
  · rw [hv hc]
    refine ⟨small_or g1 hf.1, fun k hk hb => hasB_or.mpr (Or.inl (g2 k hk hb)), fun k hk ha => ?_, fun q hq hbq hoq k hf2 => ?_⟩
    · rcases hasB_or.mp ha with a | a
      · exact g3 k hk a
      · have := (hf.2 k hk).mp a
        exact ⟨this.1, hR i k (hb i (by omega) hc.1).2 hc.2 this.2⟩
    · rcases Nat.lt_or_ge q i with a | a
      · exact hasB_or.mpr (Or.inl (g4 q a hbq hoq k hf2))
      · have e : q = i := by omega
        subst e
        exact hasB_or.mpr (Or.inr ((hf.2 k (by have := hf2.1; omega)).mpr ⟨hf2.1, hf2⟩))
  · rw [hv0 hc]
    refine ⟨small_or g1 small_0, fun k hk hb => hasB_or.mpr (Or.inl (g2 k hk hb)), fun k hk ha => ?_, fun q hq hbq hoq k hf2 => ?_⟩
    · rcases hasB_or.mp ha with a | a
      · exact g3 k hk a
      · exact absurd a hasB_0
    · rcases Nat.lt_or_ge q i with a | a
      · exact hasB_or.mpr (Or.inl (g4 q a hbq hoq k hf2))
      · have e : q = i := by omega
        subst e
        exact absurd ⟨hbq, hoq⟩ hc
/-- a closed set between X and what's reached from it is what's reached -/
theorem reach_set {S : St} {n : Nat} {ok X : Nat → Prop} {b : Int32} (h : Inv S n) (hb : small b) (hR : ∀ k, k < 16 → hasB b k → k < n ∧ Rch (fdP S n) ok X k) (hX : ∀ k, X k → k < n ∧ hasB b k) (hc : ∀ q, q < n → hasB b q → ok q → ∀ k, fdP S n q k → hasB b k) : IsSet b n (Rch (fdP S n) ok X) := by
  have hn := h.le
  refine ⟨hb, fun k hk => ⟨hR k hk, fun a => ?_⟩⟩
  have key : ∀ k, Rch (fdP S n) ok X k → k < n ∧ hasB b k := Rch.ind (fun k hk => hX k hk) (fun q k hq ho hf => ⟨hf.1, hc q hq.1 hq.2 ho k hf⟩)
  exact (key k a.2).2
def dX (S : St) (n : Nat) (a : Int32) (m k : Nat) : Prop := (a = 0 → kd S m ≠ 1) ∧ fdP S n m k
def dOk (S : St) (a : Int32) (q : Nat) : Prop := a = 0 → kd S q ≠ 1
def dR (S : St) (n : Nat) (a : Int32) (m : Nat) : Nat → Prop := Rch (fdP S n) (dOk S a) (dX S n a m)
theorem dR_lt {S : St} {n : Nat} {a : Int32} {m k : Nat} (h : dR S n a m k) : k < n := Rch.ind (C := fun k => k < n) (fun k h => h.2.1) (fun q k _ _ h => h.1) k h
section TDP
variable {τ : TM} {n m k : Nat} {S : St}
theorem tdep (h : Inv S n) (hS : τ.2 1 = S) (hm : m < n) (a : Int32) : E0 (t_X4_depends (ii m) a) τ (fun v σ => σ = τ ∧ IsSet v n (dR S n a m)) := by
  have hn := h.le
  have hf := fdv_set h hm
  have hRs : ∀ q k, dR S n a m q → dOk S a q → fdP S n q k → dR S n a m k := fun q k h1 h2 h3 => Rch.s h1 h2 h3
  unfold t_X4_depends
  have st : ∀ (b : Int32), (∀ k, k < 16 → (hasB b k ↔ k < n ∧ dX S n a m k)) → small b → E0 (pm_b (pm_lp (fun (s6 : Int32 × Int32) => if s6.2 = s6.1 then pm_r (Sum.inr s6.1) else pm_b (pm_lp (fun (s9 : Int32 × Int32) => pm_b (t_a 1 0) fun x13 => if x13 ≤ s9.2 then pm_r (Sum.inr s9.1) else pm_b (t_X4_has s6.2 s9.2) fun x14 => pm_b (if x14 = 0 then pm_r 0 else if a = 0 then pm_b (t_X4_kind s9.2) fun x18 => if x18 = 1 then pm_r 0 else pm_b (t_X4_feedersOf s9.2) fun x19 => pm_r x19 else pm_b (t_X4_feedersOf s9.2) fun x17 => pm_r x17) fun (v15 : Int32) => pm_b (pm_r (s9.1 ||| v15)) fun x20 => pm_r (Sum.inl (x20, s9.2 + 1))) (s6.2, 0)) fun (v21 : Int32) => pm_r (Sum.inl (s6.2, v21))) (0, b)) fun (v22 : Int32) => pm_r v22) τ (fun v σ => σ = τ ∧ IsSet v n (dR S n a m)) := by
    intro b hb hsb
    refine E0.b (E0.wh (fun μ (s : Int32 × Int32) σ => σ = τ ∧ μ = cnt s.1 ∧ small s.1 ∧ small s.2 ∧ (∀ k, k < 16 → hasB s.1 k → hasB s.2 k) ∧ (∀ k, k < 16 → hasB s.2 k → k < n ∧ dR S n a m k) ∧ (∀ k, dX S n a m k → k < n ∧ hasB s.2 k) ∧ (∀ q, q < n → hasB s.1 q → dOk S a q → ∀ k, fdP S n q k → hasB s.2 k)) (cnt 0) (0, b) τ ⟨rfl, rfl, small_0, hsb, fun k _ h => absurd h hasB_0, fun k hk h => ⟨((hb k hk).mp h).1, Rch.z ((hb k hk).mp h).2⟩, fun k hk => ⟨hk.2.1, (hb k (by have := hk.2.1; omega)).mpr ⟨hk.2.1, hk⟩⟩, fun q _ h => absurd h hasB_0⟩ (fun μ s σ hJ => ?_))
    obtain ⟨c, d⟩ := s
    obtain ⟨rfl, rfl, h1, h2, h3, h4, h5, h6⟩ := hJ
    dsimp only at h1 h2 h3 h4 h5 h6 ⊢
    by_cases he : d = c
    · subst he
      exact E0.pos rfl (E0.r (E0.r ⟨rfl, reach_set h h2 h4 h5 h6⟩))
    · refine E0.neg he (E0.b (E0.for n (fun i (s : Int32 × Int32) σ' => σ' = σ ∧ s.2 = ii i ∧ grow S n (dOk S a) (dR S n a m) d s.1 i) ⟨rfl, rfl, grow.z h2 h4⟩ (fun i hi s σ' hJ => ?_) (fun s σ' hJ => ?_)))
      · obtain ⟨s1, s2⟩ := s
        obtain ⟨rfl, e1, g⟩ := hJ
        dsimp only at e1 g ⊢
        subst e1
        refine E0.s (tn hS h.z) (E0.neg (by rw [ii_le (by omega) (by omega)]; omega) (E0.s (thas (by omega)) ?_))
        have fin : ∀ v, (hasB d i ∧ dOk S a i → v = fdv S i) → (¬ (hasB d i ∧ dOk S a i) → v = 0) → E0 (pm_b (pm_r v) fun (v15 : Int32) => pm_b (pm_r (s1 ||| v15)) fun x20 => (pm_r (Sum.inl (x20, ii i + 1)) : PM TM ((Int32 × Int32) ⊕ Int32))) σ' (fun r σ1 => ∃ s', r = .inl s' ∧ σ1 = σ' ∧ s'.2 = ii (i + 1) ∧ grow S n (dOk S a) (dR S n a m) d s'.1 (i + 1)) := fun v q1 q2 => E0.rb (E0.rb (E0.r ⟨_, rfl, rfl, i1 i, grow.s h hi hRs h4 g q1 q2⟩))
        by_cases hb1 : hasB d i
        · rw [bi_t hb1]
          refine E0.bneg (by decide) ?_
          by_cases ha : a = 0
          · refine E0.bpos ha (E0.as (E0.s (tkind hS (by omega)) ?_))
            by_cases hk : kd S i = 1
            · exact E0.bpos hk (fin 0 (fun q => absurd hk (q.2 ha)) (fun _ => rfl))
            · exact E0.bneg hk (E0.as (E0.s (tfeed hS (by omega)) (fin _ (fun _ => rfl) (fun q => absurd ⟨hb1, fun _ => hk⟩ q))))
          · exact E0.bneg ha (E0.as (E0.s (tfeed hS (by omega)) (fin _ (fun _ => rfl) (fun q => absurd ⟨hb1, fun z => absurd z ha⟩ q))))
        · rw [bi_f hb1]
          exact E0.bpos rfl (fin 0 (fun q => absurd q.1 hb1) (fun _ => rfl))
      · obtain ⟨s1, s2⟩ := s
        obtain ⟨rfl, e1, g1, g2, g3, g4⟩ := hJ
        dsimp only at e1 g1 g2 g3 g4 ⊢
        subst e1
        refine E0.s (tn hS h.z) (E0.pos (by rw [ii_le (by omega) (by omega)]; omega) (E0.r ⟨s1, rfl, E0.r ⟨cnt d, cnt_lt h1 h2 h3 (fun e => he e.symm), rfl, rfl, h2, g1, g2, g3, fun k hk => ⟨(h5 k hk).1, g2 k (by have := (h5 k hk).1; omega) (h5 k hk).2⟩, g4⟩⟩))
  by_cases ha : a = 0
  · refine E0.bpos ha (E0.as (E0.s (tkind hS (by omega)) ?_))
    by_cases hk : kd S m = 1
    · refine E0.bpos hk (E0.rb (st 0 (fun k _ => ⟨fun q => absurd q hasB_0, fun q => absurd hk (q.2.1 ha)⟩) small_0))
    · refine E0.bneg hk (E0.as (E0.s (tfeed hS (by omega)) (E0.rb (st _ (fun k hk2 => (hf.2 k hk2).trans ⟨fun q => ⟨q.1, fun _ => hk, q.2⟩, fun q => ⟨q.1, q.2.2⟩⟩) hf.1))))
  · refine E0.bneg ha (E0.as (E0.s (tfeed hS (by omega)) (E0.rb (st _ (fun k hk2 => (hf.2 k hk2).trans ⟨fun q => ⟨q.1, fun z => absurd z ha, q.2⟩, fun q => ⟨q.1, q.2.2⟩⟩) hf.1))))
end TDP
