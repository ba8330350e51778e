/-! INPUTS AND OUTPUTS TOLD, the component's way -/
def updX (X : Scr) (q : Nat) (f : Nat → Int32) : Scr := fun r => if r = q then f else X r
theorem updX_at {X : Scr} {q : Nat} {f : Nat → Int32} : updX X q f q = f := if_pos rfl
theorem updX_ne {X : Scr} {q r : Nat} {f : Nat → Int32} (h : r ≠ q) : updX X q f r = X r := if_neg h
theorem updX_updX {X : Scr} {q : Nat} {f f' : Nat → Int32} : updX (updX X q f) q f' = updX X q f' := by
  funext r
  unfold updX
  split <;> rfl
theorem up_ne {σ : Sto} {a b : Nat} {o : sm_O} (h : b ≠ a) : (so_up σ a o).1 b = σ.1 b := if_neg h
theorem up_at {σ : Sto} {a : Nat} {o : sm_O} : (so_up σ a o).1 a = some o := if_pos rfl
theorem ne_of {α : Type} {ρ : Nat → α} {a b : Nat} {x y : α} (ha : ρ a = x) (hb : ρ b = y) (h : x ≠ y) : a ≠ b := fun e => h (by rw [← ha, ← hb, e])
section TEL
variable {g : sm_G} {σ : Sto} {Λ : Lay} {n : Nat} {S : St} {X : Scr}
theorem ptF_X {i q : Nat} {f : Nat → Int32} (hq : q ≠ 2 ∧ q ≠ 3 ∧ q ≠ 7) : ptF Λ S (updX X q f) i = ptF Λ S X i := by
  unfold ptF
  rw [updX_ne (by omega), updX_ne (by omega), updX_ne (by omega)]
theorem pnF_X {q : Nat} {f : Nat → Int32} (hq : q ≠ 6) : pnF g Λ S (updX X q f) = pnF g Λ S X := by
  unfold pnF
  rw [updX_ne (by omega)]
/-- the array in written -/
theorem PA.upIn (h : PA g σ Λ n S X) (f : Nat → Int32) : PA g (so_up σ (lA Λ 3) (.inl (0, 4, .inl f))) Λ n S (updX X 1 f) := by
  obtain ⟨ρ, r0, r1, r2⟩ := h.dst
  have nA : ∀ j, j < 6 → j ≠ 3 → lA Λ j ≠ lA Λ 3 := fun j hj hne => ne_of (r1 j hj) (r1 3 (by omega)) (fun e => hne (by simpa using e))
  refine ⟨?_, ?_, ?_, ?_, ?_, ?_, ?_, fun i hi => ⟨?_, ?_⟩, fun i hi k hk => ?_, h.dst⟩
  · rw [up_ne (ne_of r0 (r1 3 (by omega)) (by simp)), pnF_X (by omega)]; exact h.obj
  · rw [up_ne (nA 0 (by omega) (by omega)), updX_ne (by omega)]; exact h.lst
  · rcases h.eda with a | ⟨a, b, fe, c, d⟩
    · exact Or.inl a
    · exact Or.inr ⟨a, b, fe, by rw [up_ne (nA 5 (by omega) (by omega))]; exact c, d⟩
  · rw [up_ne (nA 1 (by omega) (by omega)), updX_ne (by omega)]; exact h.ord
  · rw [up_ne (nA 2 (by omega) (by omega)), updX_ne (by omega)]; exact h.out
  · rw [up_at, updX_at]
  · rw [up_ne (nA 4 (by omega) (by omega)), updX_ne (by omega)]; exact h.rec
  · rw [up_ne (ne_of (r2 i hi).1 (r1 3 (by omega)) (by simp)), ptF_X (by omega)]; exact h.prt hi
  · rw [up_ne (ne_of (r2 i hi).2 (r1 3 (by omega)) (by simp))]; exact h.cds hi
  · rw [updX_ne (by omega)]; exact h.hvy hi hk
/-- the array of outputs written -/
theorem PA.upOut (h : PA g σ Λ n S X) (f : Nat → Int32) : PA g (so_up σ (lA Λ 2) (.inl (0, 16, .inl f))) Λ n S (updX X 0 f) := by
  obtain ⟨ρ, r0, r1, r2⟩ := h.dst
  have nA : ∀ j, j < 6 → j ≠ 2 → lA Λ j ≠ lA Λ 2 := fun j hj hne => ne_of (r1 j hj) (r1 2 (by omega)) (fun e => hne (by simpa using e))
  refine ⟨?_, ?_, ?_, ?_, ?_, ?_, ?_, fun i hi => ⟨?_, ?_⟩, fun i hi k hk => ?_, h.dst⟩
  · rw [up_ne (ne_of r0 (r1 2 (by omega)) (by simp)), pnF_X (by omega)]; exact h.obj
  · rw [up_ne (nA 0 (by omega) (by omega)), updX_ne (by omega)]; exact h.lst
  · rcases h.eda with a | ⟨a, b, fe, c, d⟩
    · exact Or.inl a
    · exact Or.inr ⟨a, b, fe, by rw [up_ne (nA 5 (by omega) (by omega))]; exact c, d⟩
  · rw [up_ne (nA 1 (by omega) (by omega)), updX_ne (by omega)]; exact h.ord
  · rw [up_at, updX_at]
  · rw [up_ne (nA 3 (by omega) (by omega)), updX_ne (by omega)]; exact h.inn
  · rw [up_ne (nA 4 (by omega) (by omega)), updX_ne (by omega)]; exact h.rec
  · rw [up_ne (ne_of (r2 i hi).1 (r1 2 (by omega)) (by simp)), ptF_X (by omega)]; exact h.prt hi
  · rw [up_ne (ne_of (r2 i hi).2 (r1 2 (by omega)) (by simp))]; exact h.cds hi
  · rw [updX_ne (by omega)]; exact h.hvy hi hk
theorem fp_A {j : Nat} (hj : j < 5) : fpL Λ n (lA Λ j) := Or.inr (Or.inl ⟨j, hj, rfl⟩)
/-- the panel now, and what was touched since σ0 -/
def PW (g : sm_G) (F : Nat → Prop) (σ0 : Sto) (Λ : Lay) (n : Nat) (S : St) (X : Scr) (σ : Sto) : Prop := PA g σ Λ n S X ∧ Mod g F σ0 σ ∧ ∀ a, fpL Λ n a → F a ∨ σ0.2 ≤ a
theorem PW.in {F : Nat → Prop} {σ0 : Sto} (h : PW g F σ0 Λ n S X σ) (f : Nat → Int32) : PW g F σ0 Λ n S (updX X 1 f) (so_up σ (lA Λ 3) (.inl (0, 4, .inl f))) := ⟨h.1.upIn f, h.2.1.up h.1.inn (h.2.2 _ (fp_A (by omega))), h.2.2⟩
theorem PW.outs {F : Nat → Prop} {σ0 : Sto} (h : PW g F σ0 Λ n S X σ) (f : Nat → Int32) : PW g F σ0 Λ n S (updX X 0 f) (so_up σ (lA Λ 2) (.inl (0, 16, .inl f))) := ⟨h.1.upOut f, h.2.1.up h.1.out (h.2.2 _ (fp_A (by omega))), h.2.2⟩
/-- the sum of a weighted part -/
theorem cSum (h : PA g σ Λ n S X) (hI : Inv S n) {i : Nat} (hi : i < n) (hd : kd S i = 0 ∨ kd S i = 1) {a : Nat} {fi : Nat → Int32} (ha : σ.1 a = some (.inl (0, 4, .inl fi))) : f_X7_turnedSum g (lQ Λ i) a σ = some (-((((0 + wgt S i 0 * fi 0) + wgt S i 1 * fi 1) + wgt S i 2 * fi 2) + wgt S i 3 * fi 3), σ, 0, 0) := by
  have key : E0 (f_X7_turnedSum g (lQ Λ i) a) σ (fun v σ1 => v = (((0 - wgt S i 0 * fi 0) - wgt S i 1 * fi 1) - wgt S i 2 * fi 2) - wgt S i 3 * fi 3 ∧ σ1 = σ) := by
    unfold f_X7_turnedSum
    refine E0.b (E0.for 4 (fun k (s : Int32 × Int32) σ1 => σ1 = σ ∧ s.2 = ii k ∧ s.1 = [0, 0 - wgt S i 0 * fi 0, (0 - wgt S i 0 * fi 0) - wgt S i 1 * fi 1, ((0 - wgt S i 0 * fi 0) - wgt S i 1 * fi 1) - wgt S i 2 * fi 2, (((0 - wgt S i 0 * fi 0) - wgt S i 1 * fi 1) - wgt S i 2 * fi 2) - wgt S i 3 * fi 3].getD k 0) ⟨rfl, rfl, rfl⟩ (fun k hk s σ1 hJ => ?_) (fun s σ1 hJ => ?_))
    · obtain ⟨s1, s2⟩ := s
      obtain ⟨rfl, e1, e2⟩ := hJ
      dsimp only at e1 e2 ⊢
      subst e1
      have ev : pm_vd [2, 3] (lQ Λ i) (fun _ => f_X7_weight g (lQ Λ i) (ii k)) σ1 = some (wgt S i k, σ1, 0, 0) := vd_at (h.prt hi) (by unfold ptC; rcases hd with e | e <;> rw [e] <;> decide) (cWgt h hI hi hk hd)
      refine E0.neg (by rw [show (4 : Int32) = ii 4 from rfl, ii_le (by omega) (by omega)]; omega) (E0.s ev (E0.s (ai_at ha hk (by omega)) (E0.rb (E0.r ⟨_, rfl, rfl, i1 k, ?_⟩))))
      subst e2
      match k, hk with
      | 0, _ => rfl
      | 1, _ => rfl
      | 2, _ => rfl
      | 3, _ => rfl
    · obtain ⟨s1, s2⟩ := s
      obtain ⟨rfl, e1, e2⟩ := hJ
      dsimp only at e1 e2 ⊢
      subst e1
      exact E0.pos (by decide) (E0.r ⟨s1, rfl, E0.r ⟨e2, rfl⟩⟩)
  obtain ⟨v, σ1, e, rfl, rfl⟩ := key
  rw [e, sub4]
/-- a part's raw output -/
theorem cRaw (h : PA g σ Λ n S X) (hI : Inv S n) {i : Nat} (hi : i < n) {a : Nat} {fi : Nat → Int32} (ha : σ.1 a = some (.inl (0, 4, .inl fi))) : pm_vd [2, 3, 4, 5, 6, 7] (lQ Λ i) (fun ci => if ci = 2 then f_X12_raw g (lQ Λ i) a else if ci = 3 then f_X8_raw g (lQ Λ i) a else if ci = 4 then f_X9_raw g (lQ Λ i) a else if ci = 5 then f_X10_raw g (lQ Λ i) a else if ci = 6 then f_X6_raw g (lQ Λ i) a else if ci = 7 then f_X11_raw g (lQ Λ i) a else pm_n) σ = some (rawS S fi i, σ, 0, 0) := by
  have a0 : a_i 0 a 0 σ = some (fi 0, σ, 0, 0) := ai_at (n := 0) ha (by omega) (by omega)
  have a1 : a_i 0 a 1 σ = some (fi 1, σ, 0, 0) := ai_at (n := 1) ha (by omega) (by omega)
  have a2 : a_i 0 a 2 σ = some (fi 2, σ, 0, 0) := ai_at (n := 2) ha (by omega) (by omega)
  have a3 : a_i 0 a 3 σ = some (fi 3, σ, 0, 0) := ai_at (n := 3) ha (by omega) (by omega)
  refine cVd h hI hi (fun c hc e hp => ?_)
  rcases (show c = 0 ∨ c = 1 ∨ c = 2 ∨ c = 3 ∨ c = 4 ∨ c = 5 by omega) with rfl | rfl | rfl | rfl | rfl | rfl
  · show f_X12_raw g (lQ Λ i) a σ = _
    unfold f_X12_raw
    rw [eb0 (on_at hp (cSum h hI hi (Or.inl e) ha)), rawS_0 e]; rfl
  · show f_X8_raw g (lQ Λ i) a σ = _
    unfold f_X8_raw
    rw [eb0 (gi_at hp List.mem_cons_self (by unfold ptF; rw [e]; rfl)), rawS_1 e]; rfl
  · show f_X9_raw g (lQ Λ i) a σ = _
    unfold f_X9_raw
    rw [eb0 a0, eb0 (gi_at hp List.mem_cons_self (by unfold ptF; rw [e]; rfl)), rawS_2 e]; rfl
  · show f_X10_raw g (lQ Λ i) a σ = _
    unfold f_X10_raw
    rw [eb0 a0, eb0 a1, rawS_3 e]; rfl
  · show f_X6_raw g (lQ Λ i) a σ = _
    unfold f_X6_raw
    rw [eb0 a0, eb0 a1, rawS_4 e]
    by_cases z : fi 0 < fi 1
    · rw [if_pos z, if_pos z, pm_b_as, eb0 a3]; rfl
    · rw [if_neg z, if_neg z, pm_b_as, eb0 a2]; rfl
  · show f_X11_raw g (lQ Λ i) a σ = _
    unfold f_X11_raw
    rw [eb0 (gi_at hp List.mem_cons_self (by unfold ptF; rw [e]; rfl)), rawS_5 e]; rfl
end TEL
