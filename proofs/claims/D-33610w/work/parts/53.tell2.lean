section TE2
variable {g : sm_G} {σ : Sto} {Λ : Lay} {n : Nat} {S : St} {X : Scr} {F : Nat → Prop} {σ0 : Sto}
theorem updX_self {q : Nat} : updX X q (X q) = X := by
  funext r
  unfold updX
  split
  · next h => rw [h]
  · rfl
theorem PW.pa (h : PW g F σ0 Λ n S X σ) : PA g σ Λ n S X := h.1
theorem PW.wf (h : PW g F σ0 Λ n S X σ) : wfS g σ := h.2.1.wf
theorem cTellI (h : PW g F σ0 Λ n S X σ) (hI : Inv S n) {i : Nat} (hi : i < n) : E0 (f_X2_tellInputs g (lP Λ) (lQ Λ i)) σ (fun _ σ1 => ∃ f, PW g F σ0 Λ n S (updX X 1 f) σ1 ∧ ∀ q, q < inpN (kd S i) → f q = inv S (X 0) i q) := by
  have hn := hI.le
  have h4 := inpN_4 (kd S i)
  unfold f_X2_tellInputs
  refine E0.b (E0.for (inpN (kd S i)) (fun k (s : Int32) σ1 => s = ii k ∧ ∃ f, PW g F σ0 Λ n S (updX X 1 f) σ1 ∧ ∀ q, q < k → f q = inv S (X 0) i q) ⟨rfl, X 1, by rw [updX_self]; exact h, fun q hq => by omega⟩ (fun k hk s σ1 hJ => ?_) (fun s σ1 hJ => ?_))
  · obtain ⟨rfl, f, hw, hf⟩ := hJ
    have hp := hw.pa
    refine E0.s (cRef hp hI hi) (E0.s (cLen hp hw.wf hi) (E0.neg (by rw [ii_le (by omega) (by omega)]; omega) (E0.s (gr_at hp.obj List.mem_cons_self rfl) (E0.s (cRef hp hI hi) (E0.s (cCord hp hi hk) ?_)))))
    have fin : ∀ v, v = inv S (X 0) i k → E0 (pm_b (pm_r v) fun (v9 : Int32) => pm_b (pa_i 0 (lA Λ 3) (ii k) v9) fun _ => (pm_r (Sum.inl (ii k + 1)) : PM Sto (Int32 ⊕ Unit))) σ1 (fun r σ2 => ∃ s', r = .inl s' ∧ s' = ii (k + 1) ∧ ∃ f, PW g F σ0 Λ n S (updX X 1 f) σ2 ∧ ∀ q, q < k + 1 → f q = inv S (X 0) i q) := by
      rintro v rfl
      have hin := hp.inn
      rw [updX_at] at hin
      refine E0.rb (E0.s (pai_at hin (n := k) (by omega) (by omega)) (E0.r ⟨_, rfl, i1 k, upd f k (inv S (X 0) i k), ?_, fun q hq => ?_⟩))
      · have := hw.in (upd f k (inv S (X 0) i k))
        rw [updX_updX] at this
        exact this
      · by_cases e : q = k
        · subst e; exact upd_at
        · rw [upd_ne e]; exact hf q (by omega)
    rcases hI.cr hi (show k < 4 by omega) with ec | ⟨j, hj, ec⟩
    · exact E0.bpos ec (fin 0 (by unfold inv; rw [if_pos ec]))
    · have hne : crd S i k ≠ -1 := by rw [ec]; exact ii_n1 (by omega)
      refine E0.bneg hne (E0.as (E0.s (gr_at hp.obj List.mem_cons_self rfl) (E0.as (E0.s (cRef hp hI hi) (E0.as (E0.s (cCord hp hi hk) (E0.as ?_)))))))
      rw [ec]
      have hout := hp.out
      rw [updX_ne (by omega)] at hout
      refine E0.s (ai_at hout (n := j) (by omega) (by omega)) (fin _ ?_)
      unfold inv
      rw [if_neg hne, ec, ii_nat (by omega)]
  · obtain ⟨rfl, f, hw, hf⟩ := hJ
    have hp := hw.pa
    exact E0.s (cRef hp hI hi) (E0.s (cLen hp hw.wf hi) (E0.pos (by rw [ii_le (by omega) (by omega)]; omega) (E0.r ⟨(), rfl, E0.r ⟨f, hw, hf⟩⟩)))
/-- an order in which every part stands behind those that feed it -/
def OrdOk (S : St) (n : Nat) (ord : Nat → Int32) : Prop := ∃ oN : Nat → Nat, (∀ q, q < n → ord q = ii (oN q) ∧ oN q < n) ∧ (∀ m, m < n → ∃ q, q < n ∧ oN q = m) ∧ ∀ q, q < n → ¬ isSrc S (oN q) → ∀ k, k < 4 → ∀ j, j < n → crd S (oN q) k = ii j → ∃ q', q' < q ∧ oN q' = j
theorem cTellO (h : PW g F σ0 Λ n S X σ) (hI : Inv S n) (ho : OrdOk S n (X 4)) : E0 (f_X2_tellOutputs g (lP Λ)) σ (fun _ σ1 => ∃ f o, PW g F σ0 Λ n S (updX (updX X 1 f) 0 o) σ1 ∧ ∀ m, m < n → o m = outs S n m) := by
  have hn := hI.le
  obtain ⟨oN, o1, o2, o3⟩ := ho
  unfold f_X2_tellOutputs
  refine E0.b (E0.for n (fun q (s : Int32) σ1 => s = ii q ∧ ∃ f o, PW g F σ0 Λ n S (updX (updX X 1 f) 0 o) σ1 ∧ ∀ q', q' < q → o (oN q') = outs S n (oN q')) ⟨rfl, X 1, X 0, by
      have e : updX (updX X 1 (X 1)) 0 (X 0) = X := by rw [updX_self, updX_self]
      rw [e]; exact h, fun q' hq => by omega⟩ (fun q hq s σ1 hJ => ?_) (fun s σ1 hJ => ?_))
  · obtain ⟨rfl, f, o, hw, hf⟩ := hJ
    have hp := hw.pa
    obtain ⟨e4, hm⟩ := o1 q hq
    have hord := hp.ord
    rw [updX_ne (by omega), updX_ne (by omega)] at hord
    refine E0.s (cSizeO hp) (E0.neg (by rw [ii_le (by omega) (by omega)]; omega) (E0.s (gr_at hp.obj List.mem_cons_self rfl) (E0.s (ai_at hord (n := q) (by omega) (by omega)) ?_)))
    rw [e4]
    refine E0.s (cPartO hp hI hm) ?_
    obtain ⟨u, σ2, e2, f2, hw2, hf2⟩ := cTellI hw hI hm
    rw [updX_at] at hf2
    have eX : updX (updX (updX X 1 f) 0 o) 1 f2 = updX (updX X 1 f2) 0 o := by
      funext r
      unfold updX
      by_cases r1 : r = 1
      · subst r1; rfl
      · rw [if_neg r1]
        by_cases r0 : r = 0
        · rw [if_pos r0, if_pos r0]
        · rw [if_neg r0, if_neg r0, if_neg r1, if_neg r1]
    rw [eX] at hw2
    have hp2 := hw2.pa
    have hord2 := hp2.ord
    rw [updX_ne (by omega), updX_ne (by omega)] at hord2
    have hin2 := hp2.inn
    rw [updX_ne (by omega), updX_at] at hin2
    have hout2 := hp2.out
    rw [updX_at] at hout2
    refine E0.s (on_at hp.obj e2) (E0.s (gr_at hp2.obj List.mem_cons_self rfl) (E0.s (gr_at hp2.obj List.mem_cons_self rfl) (E0.s (ai_at hord2 (n := q) (by omega) (by omega)) (E0.s (gr_at hp2.obj List.mem_cons_self rfl) (E0.s (cRaw hp2 hI hm hin2) (E0.s cHeld ?_))))))
    rw [e4]
    have ev : hld (rawS S f2 (oN q)) 10000 = outs S n (oN q) := by
      rw [outs_is hI (oN q) hm, rawS_congr hI hm hf2, ← free_raw, free_congr hI hm (fun hs k hk j hj ej => ?_)]
      obtain ⟨q', hq', e⟩ := o3 q hq hs k hk j hj ej
      rw [← e]
      exact hf q' hq'
    rw [ev]
    refine E0.s (pai_at hout2 (n := oN q) (by omega) (by omega)) (E0.r ⟨_, rfl, i1 q, f2, upd o (oN q) (outs S n (oN q)), ?_, fun q' hq' => ?_⟩)
    · have := hw2.outs (upd o (oN q) (outs S n (oN q)))
      rw [updX_updX] at this
      exact this
    · by_cases e : oN q' = oN q
      · rw [e, upd_at]
      · rw [upd_ne e]
        exact hf q' (by rcases Nat.lt_or_ge q' q with a | a; exact a; exact absurd (by rw [show q' = q by omega]) e)
  · obtain ⟨rfl, f, o, hw, hf⟩ := hJ
    refine E0.s (cSizeO hw.pa) (E0.pos (by rw [ii_le (by omega) (by omega)]; omega) (E0.r ⟨(), rfl, E0.r ⟨f, o, hw, fun m hm => ?_⟩⟩))
    obtain ⟨q, hq, e⟩ := o2 m hm
    rw [← e]
    exact hf q hq
end TE2
