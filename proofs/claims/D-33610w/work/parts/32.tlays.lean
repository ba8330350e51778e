/-! THE REFERENCE LAYS THE LEVELS -/
/-- a pass over the levels, begun with x0: now x; f1 says whether one rose -/
def lvP (S : St) (n : Nat) (l x0 x : Nat → Nat) (f1 : Int32) : Prop := LvOk S n l x ∧ (∀ m, m < n → x0 m ≤ x m) ∧ (f1 = 0 ∧ (∀ m, m < n → x m = x0 m) ∨ f1 = 1 ∧ ∃ m, m < n ∧ x0 m < x m)
theorem upd_at {f : Nat → Int32} {i : Nat} {v : Int32} : upd f i v i = v := by unfold upd; simp
theorem upd_ne {f : Nat → Int32} {i j : Nat} {v : Int32} (h : j ≠ i) : upd f i v j = f j := by unfold upd; simp [h]
def updN (f : Nat → Nat) (i v : Nat) : Nat → Nat := fun q => if q = i then v else f q
theorem updN_at {f : Nat → Nat} {i v : Nat} : updN f i v i = v := if_pos rfl
theorem updN_ne {f : Nat → Nat} {i j v : Nat} (h : j ≠ i) : updN f i v j = f j := if_neg h
theorem i1 (k : Nat) : ii k + 1 = ii (k + 1) := ii_add k 1
set_option maxHeartbeats 1000000 in
theorem tlays {S : St} {n : Nat} {l : Nat → Nat} (h : Inv S n) (hl : IsLev S n l) {τ : TM} (hS : τ.2 1 = S) : E0 t_X4_laysLevels τ (fun _ σ => ∃ f, σ = sA 7 τ f ∧ ∀ m, m < n → f m = ii (l m)) := by
  have hn := h.le
  have hS7 : ∀ f, (sA 7 τ f).2 1 = S := fun f => hS
  unfold t_X4_laysLevels
  refine E0.b (E0.for n (fun i (s : Int32) σ => s = ii i ∧ ∃ f, σ = sA 7 τ f ∧ ∀ m, m < i → f m = ii (if isSrc S m then 0 else 1)) ⟨rfl, τ.2 7, sA_self.symm, fun m hm => by omega⟩ (fun i hi s σ hJ => ?_) (fun s σ hJ => ?_))
  · obtain ⟨rfl, f, rfl, hf⟩ := hJ
    refine E0.s (tn (hS7 f) h.z) (E0.neg (by rw [ii_le (by omega) (by omega)]; omega) (E0.s (thasV (hS7 f) (by omega)) ?_))
    have e2 : (if bi (isSrc S i) = 0 then (pm_r 1 : PM TM Int32) else pm_r 0) = pm_r (ii (if isSrc S i then 0 else 1)) := by
      by_cases hs : isSrc S i
      · rw [bi_t hs, if_neg (by decide), if_pos hs]; rfl
      · rw [bi_f hs, if_pos rfl, if_neg hs]; rfl
    rw [e2]
    refine E0.rb (E0.s (tpa_ok (j := 7) (show i < 16 by omega)) (E0.r ⟨ii (i + 1), by rw [i1], rfl, upd f i (ii (if isSrc S i then 0 else 1)), by rw [sA_at, sA_sA], fun m hm => ?_⟩))
    by_cases e : m = i
    · subst e; exact upd_at
    · rw [upd_ne e]; exact hf m (by omega)
  · obtain ⟨rfl, f, rfl, hf⟩ := hJ
    refine E0.s (tn (hS7 f) h.z) (E0.pos (by rw [ii_le (by omega) (by omega)]; omega) (E0.r ⟨(), rfl, ?_⟩))
    -- raised until nothing rises
    refine E0.b (E0.wh (fun m (s : Int32) σ => ∃ f x, σ = sA 7 τ f ∧ (∀ m, m < n → f m = ii (x m)) ∧ LvOk S n l x ∧ (s = 0 ∧ m = 0 ∧ (∀ m, m < n → lvChk S n x m 4) ∨ s = 1 ∧ m = sm (fun q => l q - x q) n + 1)) (sm (fun q => l q - (if isSrc S q then 0 else 1)) n + 1) 1 (sA 7 τ f) ⟨f, fun q => if isSrc S q then 0 else 1, rfl, hf, fun m hm => ?_, Or.inr ⟨rfl, rfl⟩⟩ (fun m s σ hJ => ?_))
    · have e := hl m hm
      unfold lvF at e
      by_cases hs : isSrc S m
      · dsimp only; rw [if_pos hs]; exact ⟨Nat.zero_le _, fun _ => rfl, fun a => absurd hs a⟩
      · rw [if_neg hs] at e
        dsimp only; rw [if_neg hs]
        exact ⟨by omega, fun a => absurd a hs, fun _ => Nat.le_refl _⟩
    · obtain ⟨f, x, rfl, hf, hx, ⟨rfl, -, hc⟩ | ⟨rfl, rfl⟩⟩ := hJ
      · exact E0.pos rfl (E0.r (E0.r ⟨f, rfl, fun m hm => by rw [hf m hm, lv_done h hl hx hc m hm]⟩))
      · refine E0.neg (by decide) ?_
        -- one pass
        refine E0.b (E0.for n (fun i (s : Int32 × Int32) σ => s.2 = ii i ∧ ∃ f x', σ = sA 7 τ f ∧ (∀ m, m < n → f m = ii (x' m)) ∧ lvP S n l x x' s.1 ∧ (s.1 = 0 → ∀ m, m < i → lvChk S n x m 4)) ⟨rfl, f, x, rfl, hf, ⟨hx, fun _ _ => Nat.le_refl _, Or.inl ⟨rfl, fun _ _ => rfl⟩⟩, fun _ m hm => by omega⟩ (fun i hi s σ hJ => ?_) (fun s σ hJ => ?_))
        · obtain ⟨s1, s2⟩ := s
          obtain ⟨es, f, x', rfl, hf, hP, hc⟩ := hJ
          dsimp only at es hP hc ⊢
          subst es
          refine E0.s (tn (hS7 f) h.z) (E0.neg (by rw [ii_le (by omega) (by omega)]; omega) ?_)
          -- the inputs of one
          refine E0.b (E0.wh (fun m (s : Int32 × Int32) σ => ∃ k, k ≤ 4 ∧ m = 4 - k ∧ s.2 = ii k ∧ ∃ f x', σ = sA 7 τ f ∧ (∀ m, m < n → f m = ii (x' m)) ∧ lvP S n l x x' s.1 ∧ (s.1 = 0 → (∀ m, m < i → lvChk S n x m 4) ∧ lvChk S n x i k)) 4 (s1, 0) (sA 7 τ f) ⟨0, by omega, rfl, rfl, f, x', rfl, hf, hP, fun z => ⟨hc z, fun _ k hk => by omega⟩⟩ (fun m s σ hJ => ?_))
          obtain ⟨s1, s2⟩ := s
          obtain ⟨k, hk, rfl, es, f, x', rfl, hf, hP, hc⟩ := hJ
          dsimp only at es hP hc ⊢
          subst es
          have fin : (s1 = 0 → ∀ m, m < i + 1 → lvChk S n x m 4) → E0 (pm_r (Sum.inl (s1, ii i + 1)) : PM TM ((Int32 × Int32) ⊕ Int32)) (sA 7 τ f) (fun r σ1 => ∃ s', r = .inl s' ∧ s'.2 = ii (i + 1) ∧ ∃ f x', σ1 = sA 7 τ f ∧ (∀ m, m < n → f m = ii (x' m)) ∧ lvP S n l x x' s'.1 ∧ (s'.1 = 0 → ∀ m, m < i + 1 → lvChk S n x m 4)) := fun q => E0.r ⟨_, rfl, by rw [i1], f, x', rfl, hf, hP, q⟩
          by_cases hk4 : k = 4
          · subst hk4
            refine E0.pos (by decide) (E0.r (fin (fun z m hm => ?_)))
            rcases Nat.lt_or_ge m i with a | a
            · exact (hc z).1 m a
            · have e : m = i := by omega
              subst e; exact (hc z).2
          · refine E0.neg (by rw [show (4 : Int32) = ii 4 from rfl, ii_le (by omega) (by omega)]; omega) (E0.s (thasV (hS7 f) (by omega)) ?_)
            by_cases hs : isSrc S i
            · rw [bi_t hs]
              refine E0.neg (by decide) (E0.r (fin (fun z m hm => ?_)))
              rcases Nat.lt_or_ge m i with a | a
              · exact (hc z).1 m a
              · have e : m = i := by omega
                subst e; exact fun b => absurd hs b
            · rw [bi_f hs]
              refine E0.pos rfl (E0.s (tcrd (hS7 f) (by omega) (by omega)) ?_)
              rcases h.cr hi (show k < 4 by omega) with ec | ⟨j, hj, ec⟩
              · refine E0.bpos ec (E0.rb (E0.r ⟨4 - (k + 1), by omega, k + 1, by omega, rfl, i1 k, f, x', rfl, hf, hP, fun z => ⟨(hc z).1, fun hs k' hk' j' hj' ej' => ?_⟩⟩))
                by_cases e : k' = k
                · subst e; rw [ec] at ej'; exact absurd ej'.symm (ii_n1 (by omega))
                · exact (hc z).2 hs k' (by omega) j' hj' ej'
              · have hxi := (hP.1 i hi).1
                have hxj := (hP.1 j hj).1
                have hb1 := lv_bound h hl hi
                have hb2 := lv_bound h hl hj
                refine E0.bneg (by rw [ec]; exact ii_n1 (by omega)) ?_
                rw [ec]
                refine E0.as (E0.s (ta_ok (j := 7) (n := j) (show j < 16 by omega)) (E0.as (E0.s (ta_ok (j := 7) (n := i) (show i < 16 by omega)) ?_)))
                rw [sA_at, hf j hj, hf i hi]
                by_cases hlt : x' j < x' i
                · refine E0.bpos ((ii_lt (by omega) (by omega)).mpr hlt) (E0.rb (E0.r ⟨4 - (k + 1), by omega, k + 1, by omega, rfl, i1 k, f, x', rfl, hf, hP, fun z => ⟨(hc z).1, fun hs k' hk' j' hj' ej' => ?_⟩⟩))
                  by_cases e : k' = k
                  · subst e
                    have e2 : j' = j := (ii_eq (by omega) (by omega)).mp (ej'.symm.trans ec)
                    subst e2
                    rcases hP.2.2 with ⟨-, q⟩ | ⟨q, -⟩
                    · rw [← q _ hj, ← q _ hi]; exact hlt
                    · exfalso; rw [q] at z; exact absurd (show (1 : Int32) = 0 from z) (by decide)
                  · exact (hc z).2 hs k' (by omega) j' hj' ej'
                · have hr := lv_rise h hl hP.1 hi hs (show k < 4 by omega) hj ec
                  refine E0.bneg (by rw [ii_lt (by omega) (by omega)]; exact hlt) (E0.as (E0.s (ta_ok (j := 7) (n := j) (show j < 16 by omega)) ?_))
                  rw [sA_at, hf j hj, i1]
                  refine E0.as (E0.s (tpa_ok (j := 7) (show i < 16 by omega)) (E0.rb (E0.r ⟨4 - (k + 1), by omega, k + 1, by omega, rfl, i1 k, upd f i (ii (x' j + 1)), updN x' i (x' j + 1), by rw [sA_at, sA_sA], fun m hm => ?_, ⟨fun m hm => ?_, fun m hm => ?_, Or.inr ⟨rfl, i, hi, ?_⟩⟩, fun z => absurd (show (1 : Int32) = 0 from z) (by decide)⟩)))
                  · by_cases e : m = i
                    · subst e; rw [upd_at, updN_at]
                    · rw [upd_ne e, updN_ne e]; exact hf m hm
                  · by_cases e : m = i
                    · subst e; rw [updN_at]; exact ⟨hr, fun a => absurd a hs, fun _ => by omega⟩
                    · rw [updN_ne e]; exact hP.1 m hm
                  · have := hP.2.1 m hm
                    by_cases e : m = i
                    · subst e; rw [updN_at]; omega
                    · rw [updN_ne e]; exact this
                  · have := hP.2.1 i hi
                    rw [updN_at]; omega
        · obtain ⟨s1, s2⟩ := s
          obtain ⟨es, f, x', rfl, hf, hP, hc⟩ := hJ
          dsimp only at es hP hc ⊢
          subst es
          refine E0.s (tn (hS7 f) h.z) (E0.pos (by rw [ii_le (by omega) (by omega)]; omega) (E0.r ⟨s1, rfl, E0.r ?_⟩))
          rcases hP.2.2 with ⟨z, q⟩ | ⟨z, q⟩
          · refine ⟨0, by omega, f, x', rfl, hf, hP.1, Or.inl ⟨z, rfl, fun m hm hs k hk j hj ej => ?_⟩⟩
            rw [q m hm, q j hj]
            exact hc z m hm hs k hk j hj ej
          · refine ⟨sm (fun q => l q - x' q) n + 1, ?_, f, x', rfl, hf, hP.1, Or.inr ⟨z, rfl⟩⟩
            have : sm (fun q => l q - x' q) n < sm (fun q => l q - x q) n := sm_lt (fun m hm => by have := hP.2.1 m hm; show l m - x' m ≤ l m - x m; omega) (by
              obtain ⟨m, hm, hq⟩ := q
              exact ⟨m, hm, by have := (hP.1 m hm).1; show l m - x' m < l m - x m; omega⟩)
            omega
