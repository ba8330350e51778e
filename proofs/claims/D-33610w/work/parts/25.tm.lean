/-! THE REFERENCE's OWN STATE: its int fields by their places, its arrays by theirs; and the store that shows it -/
abbrev TM : Type := (Nat → Int32) × (Nat → Nat → Int32)
/-- where it stands: its address, its arrays' addresses by the field's place, the rest of the store -/
abbrev TC : Type := Nat × (Nat → Nat) × Sto
def tl : Nat → Nat := fun j => match j with
  | 1 => 242 | 2 => 1452 | 4 => 242 | 6 => 242 | 7 => 16 | 8 => 16 | 10 => 16 | 11 => 16 | 12 => 60 | _ => 0
def tfs (ad : Nat → Nat) (τ : TM) : List Value := [.int (τ.1 0), .ref (ad 1), .ref (ad 2), .int (τ.1 3), .ref (ad 4), .int (τ.1 5), .ref (ad 6), .ref (ad 7), .ref (ad 8), .int (τ.1 9), .ref (ad 10), .ref (ad 11), .ref (ad 12), .int (τ.1 13), .int (τ.1 14), .int (τ.1 15), .int (τ.1 16), .int (τ.1 17), .int (τ.1 18), .int (τ.1 19)]
def tar (j : Nat) (τ : TM) : sm_O := .inl (0, tl j, .inl (τ.2 j))
def tw (c : TC) (τ : TM) : Sto := (fun q => if q = c.1 then some (.inr (12, tfs c.2.1 τ)) else
  if q = c.2.1 1 then some (tar 1 τ) else if q = c.2.1 2 then some (tar 2 τ) else if q = c.2.1 4 then some (tar 4 τ) else if q = c.2.1 6 then some (tar 6 τ) else if q = c.2.1 7 then some (tar 7 τ) else if q = c.2.1 8 then some (tar 8 τ) else if q = c.2.1 10 then some (tar 10 τ) else if q = c.2.1 11 then some (tar 11 τ) else if q = c.2.1 12 then some (tar 12 τ) else c.2.2.1 q, c.2.2.2)
def tjs : List Nat := [1, 2, 4, 6, 7, 8, 10, 11, 12]
def tw_ok (c : TC) : Prop := (∀ j ∈ tjs, c.2.1 j ≠ c.1) ∧ ∀ i ∈ tjs, ∀ j ∈ tjs, i ≠ j → c.2.1 i ≠ c.2.1 j
def t_i (j : Nat) : PM TM Int32 := fun τ => some (τ.1 j, τ, 0, 0)
def t_p (j : Nat) (v : Int32) : PM TM Unit := fun τ => some ((), (fun q => if q = j then v else τ.1 q, τ.2), 0, 0)
def t_a (j : Nat) (i : Int32) : PM TM Int32 := fun τ => if i < 0 ∨ tl j ≤ i.toNatClampNeg then none else some (τ.2 j i.toNatClampNeg, τ, 0, 0)
def t_pa (j : Nat) (i v : Int32) : PM TM Unit := fun τ => if i < 0 ∨ tl j ≤ i.toNatClampNeg then none else some ((), (τ.1, fun q => if q = j then upd (τ.2 j) i.toNatClampNeg v else τ.2 q), 0, 0)
/-- what the program t says of the state, f says of the store -/
def Rf {α : Type} (c : TC) (f : PM Sto α) (t : PM TM α) : Prop := ∀ (τ : TM) (r : α) (τ' : TM) (k n : Nat), t τ = some (r, τ', k, n) → f (tw c τ) = some (r, tw c τ', k, n)
theorem tw_obj (c : TC) (τ : TM) : (tw c τ).1 c.1 = some (.inr (12, tfs c.2.1 τ)) := if_pos rfl
theorem tw_arr {c : TC} (H : tw_ok c) (τ : TM) {j : Nat} (hj : j ∈ tjs) : (tw c τ).1 (c.2.1 j) = some (tar j τ) := by
  obtain ⟨h0, h1⟩ := H
  have h := h0 j hj
  unfold tw
  dsimp only
  rw [if_neg h]
  simp only [tjs, List.mem_cons, List.not_mem_nil, or_false] at hj
  rcases hj with rfl | rfl | rfl | rfl | rfl | rfl | rfl | rfl | rfl
  · rw [if_pos rfl]
  · rw [if_neg (h1 2 (by decide) 1 (by decide) (by decide)), if_pos rfl]
  · rw [if_neg (h1 4 (by decide) 1 (by decide) (by decide)), if_neg (h1 4 (by decide) 2 (by decide) (by decide)), if_pos rfl]
  · rw [if_neg (h1 6 (by decide) 1 (by decide) (by decide)), if_neg (h1 6 (by decide) 2 (by decide) (by decide)), if_neg (h1 6 (by decide) 4 (by decide) (by decide)), if_pos rfl]
  · rw [if_neg (h1 7 (by decide) 1 (by decide) (by decide)), if_neg (h1 7 (by decide) 2 (by decide) (by decide)), if_neg (h1 7 (by decide) 4 (by decide) (by decide)), if_neg (h1 7 (by decide) 6 (by decide) (by decide)), if_pos rfl]
  · rw [if_neg (h1 8 (by decide) 1 (by decide) (by decide)), if_neg (h1 8 (by decide) 2 (by decide) (by decide)), if_neg (h1 8 (by decide) 4 (by decide) (by decide)), if_neg (h1 8 (by decide) 6 (by decide) (by decide)), if_neg (h1 8 (by decide) 7 (by decide) (by decide)), if_pos rfl]
  · rw [if_neg (h1 10 (by decide) 1 (by decide) (by decide)), if_neg (h1 10 (by decide) 2 (by decide) (by decide)), if_neg (h1 10 (by decide) 4 (by decide) (by decide)), if_neg (h1 10 (by decide) 6 (by decide) (by decide)), if_neg (h1 10 (by decide) 7 (by decide) (by decide)), if_neg (h1 10 (by decide) 8 (by decide) (by decide)), if_pos rfl]
  · rw [if_neg (h1 11 (by decide) 1 (by decide) (by decide)), if_neg (h1 11 (by decide) 2 (by decide) (by decide)), if_neg (h1 11 (by decide) 4 (by decide) (by decide)), if_neg (h1 11 (by decide) 6 (by decide) (by decide)), if_neg (h1 11 (by decide) 7 (by decide) (by decide)), if_neg (h1 11 (by decide) 8 (by decide) (by decide)), if_neg (h1 11 (by decide) 10 (by decide) (by decide)), if_pos rfl]
  · rw [if_neg (h1 12 (by decide) 1 (by decide) (by decide)), if_neg (h1 12 (by decide) 2 (by decide) (by decide)), if_neg (h1 12 (by decide) 4 (by decide) (by decide)), if_neg (h1 12 (by decide) 6 (by decide) (by decide)), if_neg (h1 12 (by decide) 7 (by decide) (by decide)), if_neg (h1 12 (by decide) 8 (by decide) (by decide)), if_neg (h1 12 (by decide) 10 (by decide) (by decide)), if_neg (h1 12 (by decide) 11 (by decide) (by decide)), if_pos rfl]
/-- an array of it written -/
theorem tw_upA {c : TC} (H : tw_ok c) (τ : TM) {j : Nat} (hj : j ∈ tjs) (f : Nat → Int32) : so_up (tw c τ) (c.2.1 j) (.inl (0, tl j, .inl f)) = tw c (τ.1, fun q => if q = j then f else τ.2 q) := by
  refine Prod.ext (funext fun q => ?_) rfl
  show (if q = c.2.1 j then some (.inl (0, tl j, .inl f)) else (tw c τ).1 q) = _
  by_cases hq : q = c.2.1 j
  · subst hq
    rw [if_pos rfl, tw_arr H _ hj]
    unfold tar
    simp
  · rw [if_neg hq]
    have key : ∀ i, q = c.2.1 i → tar i τ = tar i (τ.1, fun q => if q = j then f else τ.2 q) := by
      intro i hi
      have : i ≠ j := fun e => hq (by rw [hi, e])
      unfold tar
      simp [this]
    unfold tw
    dsimp only
    by_cases h0 : q = c.1
    · rw [if_pos h0, if_pos h0]; rfl
    · rw [if_neg h0, if_neg h0]
      by_cases h1 : q = c.2.1 1
      · rw [if_pos h1, if_pos h1, key 1 h1]
      · rw [if_neg h1, if_neg h1]
        by_cases h2 : q = c.2.1 2
        · rw [if_pos h2, if_pos h2, key 2 h2]
        · rw [if_neg h2, if_neg h2]
          by_cases h4 : q = c.2.1 4
          · rw [if_pos h4, if_pos h4, key 4 h4]
          · rw [if_neg h4, if_neg h4]
            by_cases h6 : q = c.2.1 6
            · rw [if_pos h6, if_pos h6, key 6 h6]
            · rw [if_neg h6, if_neg h6]
              by_cases h7 : q = c.2.1 7
              · rw [if_pos h7, if_pos h7, key 7 h7]
              · rw [if_neg h7, if_neg h7]
                by_cases h8 : q = c.2.1 8
                · rw [if_pos h8, if_pos h8, key 8 h8]
                · rw [if_neg h8, if_neg h8]
                  by_cases h10 : q = c.2.1 10
                  · rw [if_pos h10, if_pos h10, key 10 h10]
                  · rw [if_neg h10, if_neg h10]
                    by_cases h11 : q = c.2.1 11
                    · rw [if_pos h11, if_pos h11, key 11 h11]
                    · rw [if_neg h11, if_neg h11]
                      by_cases h12 : q = c.2.1 12
                      · rw [if_pos h12, if_pos h12, key 12 h12]
                      · rw [if_neg h12, if_neg h12]
/-- a field of it written -/
theorem tw_upF {c : TC} (H : tw_ok c) (τ : TM) (v : Nat → Int32) : so_up (tw c τ) c.1 (.inr (12, tfs c.2.1 (v, τ.2))) = tw c (v, τ.2) := by
  refine Prod.ext (funext fun q => ?_) rfl
  show (if q = c.1 then some (.inr (12, tfs c.2.1 (v, τ.2))) else (tw c τ).1 q) = _
  unfold tw
  dsimp only
  by_cases h0 : q = c.1
  · rw [if_pos h0, if_pos h0]
  · rw [if_neg h0, if_neg h0, if_neg h0]; rfl
section RFR
variable {c : TC} {α β γ : Type}
theorem rf_n {f : PM Sto α} : Rf c f pm_n := fun τ r τ' k n h => by cases h
theorem rf_r {a : α} : Rf c (pm_r a) (pm_r a) := fun τ r τ' k n h => by cases h; rfl
theorem rf_b {x : PM Sto α} {y : PM TM α} {G : α → PM Sto β} {K : α → PM TM β} (h1 : Rf c x y) (h2 : ∀ a, Rf c (G a) (K a)) : Rf c (pm_b x G) (pm_b y K) := by
  intro τ r τ' k n h
  obtain ⟨a, s1, k1, n1, k2, n2, e1, e2, rfl, rfl⟩ := pm_b_some.mp h
  exact pm_b_at (h1 _ _ _ _ _ e1) (h2 _ _ _ _ _ _ e2)
theorem rf_cut {x : PM Sto α} {y : PM TM α} {G : α → PM Sto β} {K : α → PM TM β} (h2 : ∀ a, Rf c (G a) (K a)) (h1 : Rf c x y) : Rf c (pm_b x G) (pm_b y K) := rf_b h1 h2
theorem rf_ite {P : Prop} [Decidable P] {x1 x2 : PM Sto α} {y1 y2 : PM TM α} (h1 : Rf c x1 y1) (h2 : Rf c x2 y2) : Rf c (if P then x1 else x2) (if P then y1 else y2) := by
  split
  · exact h1
  · exact h2
theorem rf_rb {a : α} {G : α → PM Sto β} {K : α → PM TM β} (h : ∀ a, Rf c (G a) (K a)) : Rf c (pm_b (pm_r a) G) (pm_b (pm_r a) K) := rf_b rf_r h
theorem rf_lpN {τ ρ : Type} {b1 : τ → PM Sto (τ ⊕ ρ)} {b2 : τ → PM TM (τ ⊕ ρ)} (h : ∀ s, Rf c (b1 s) (b2 s)) : ∀ (n : Nat) (s : τ), Rf c (pm_lpN b1 n s) (pm_lpN b2 n s) := by
  intro n
  induction n with
  | zero => intro s; exact rf_n
  | succ n ih =>
    intro s
    refine rf_b (h s) (fun a => ?_)
    cases a with
    | inl a => exact ih a
    | inr a => exact rf_r
theorem rf_lp {τ ρ : Type} {b1 : τ → PM Sto (τ ⊕ ρ)} {b2 : τ → PM TM (τ ⊕ ρ)} {s : τ} (h : ∀ s, Rf c (b1 s) (b2 s)) : Rf c (pm_lp b1 s) (pm_lp b2 s) := by
  intro σ r σ' k n hf
  obtain ⟨m, hm⟩ := pm_lp_iff.mp hf
  exact pm_lp_iff.mpr ⟨m, rf_lpN h m s _ _ _ _ _ hm⟩
theorem rf_loop {τ ρ : Type} {b1 : τ → PM Sto (τ ⊕ ρ)} {b2 : τ → PM TM (τ ⊕ ρ)} {s : τ} {G : ρ → PM Sto β} {K : ρ → PM TM β} (h2 : ∀ v, Rf c (G v) (K v)) (h : ∀ s, Rf c (b1 s) (b2 s)) : Rf c (pm_b (pm_lp b1 s) G) (pm_b (pm_lp b2 s) K) := rf_b (rf_lp h) h2
theorem rf_loop3 {τ ρ ρ1 ρ2 : Type} {b1 : τ → PM Sto (τ ⊕ (ρ ⊕ (ρ1 ⊕ ρ2)))} {b2 : τ → PM TM (τ ⊕ (ρ ⊕ (ρ1 ⊕ ρ2)))} {s : τ} {G0 : ρ → PM Sto β} {K0 : ρ → PM TM β} {G1 : ρ1 → PM Sto β} {K1 : ρ1 → PM TM β} {G2 : ρ2 → PM Sto β} {K2 : ρ2 → PM TM β} (h0 : ∀ v, Rf c (G0 v) (K0 v)) (h1 : ∀ v, Rf c (G1 v) (K1 v)) (h2 : ∀ v, Rf c (G2 v) (K2 v)) (h : ∀ s, Rf c (b1 s) (b2 s)) : Rf c (pm_b (pm_lp b1 s) (Sum.elim G0 (Sum.elim G1 G2))) (pm_b (pm_lp b2 s) (Sum.elim K0 (Sum.elim K1 K2))) := by
  refine rf_b (rf_lp h) (fun a => ?_)
  rcases a with a | a | a
  · exact h0 a
  · exact h1 a
  · exact h2 a
theorem rf_z {v : Int32} {G : Int32 → PM Sto β} {K : Int32 → PM TM β} (h : ∀ x, Rf c (G x) (K x)) : Rf c (pm_b (pm_z v) G) (pm_b (pm_z v) K) := by
  refine rf_b ?_ h
  unfold pm_z
  exact rf_ite rf_r rf_n
theorem rf_dv {x y : Int32} {G : Int32 → PM Sto β} {K : Int32 → PM TM β} (h : ∀ x, Rf c (G x) (K x)) : Rf c (pm_b (pm_dv x y) G) (pm_b (pm_dv x y) K) := by
  refine rf_b ?_ h
  unfold pm_dv
  exact rf_ite rf_n rf_r
theorem rf_dd {x y : UInt64} {G : UInt64 → PM Sto β} {K : UInt64 → PM TM β} (h : ∀ x, Rf c (G x) (K x)) : Rf c (pm_b (pm_dd x y) G) (pm_b (pm_dd x y) K) := by
  refine rf_b ?_ h
  unfold pm_dd
  exact rf_ite rf_r rf_n
theorem rf_on {f : PM Sto α} {t : PM TM α} {G : α → PM Sto β} {K : α → PM TM β} (hf : Rf c f t) (h : ∀ x, Rf c (G x) (K x)) : Rf c (pm_b (pm_on 12 c.1 f) G) (pm_b t K) := by
  refine rf_b (fun τ r τ' k n e => ?_) h
  have hc : so_cls c.1 (tw c τ) = some 12 := by
    unfold so_cls
    rw [so_obj_some.mpr (tw_obj c τ)]
    rfl
  unfold pm_on
  rw [if_pos hc]
  exact hf _ _ _ _ _ e
theorem rf_gi {j : Nat} (hj : ∀ τ : TM, (tfs c.2.1 τ)[j]? = some (.int (τ.1 j))) {G : Int32 → PM Sto β} {K : Int32 → PM TM β} (h : ∀ x, Rf c (G x) (K x)) : Rf c (pm_b (g_i [12] j c.1) G) (pm_b (t_i j) K) := by
  refine rf_b (fun τ r τ' k n e => ?_) h
  unfold t_i at e
  cases e
  unfold g_i
  rw [so_fld_some.mpr ⟨12, _, tw_obj c τ, by decide, hj τ⟩]
theorem rf_gr {j : Nat} (hj : ∀ τ : TM, (tfs c.2.1 τ)[j]? = some (.ref (c.2.1 j))) {G : Nat → PM Sto β} {t : PM TM β} (h : Rf c (G (c.2.1 j)) t) : Rf c (pm_b (g_r [12] j c.1) G) t := by
  intro τ r τ' k n e
  have h1 := h τ r τ' k n e
  have h2 : g_r [12] j c.1 (tw c τ) = some (c.2.1 j, tw c τ, 0, 0) := by
    unfold g_r
    rw [so_fld_some.mpr ⟨12, _, tw_obj c τ, by decide, hj τ⟩]
  have h3 := pm_b_at (f := G) h2 h1
  rw [Nat.zero_add, Nat.zero_add] at h3
  exact h3
theorem rf_pf {j : Nat} (H : tw_ok c) (hj : ∀ (τ : TM) (v : Int32), (tfs c.2.1 τ).set j (.int v) = tfs c.2.1 (fun q => if q = j then v else τ.1 q, τ.2)) (hl : j < 20) {v : Int32} {G : Unit → PM Sto β} {K : Unit → PM TM β} (h : Rf c (G ()) (K ())) : Rf c (pm_b (p_f [12] j c.1 (.int v)) G) (pm_b (t_p j v) K) := by
  refine rf_b (fun τ r τ' k n e => ?_) (fun _ => h)
  unfold t_p at e
  cases e
  unfold p_f
  rw [so_obj_some.mpr (tw_obj c τ), Option.bind_some, if_pos ⟨List.mem_cons_self, hl⟩]
  dsimp only
  rw [hj τ v, tw_upF H]
theorem rf_ai {j : Nat} (H : tw_ok c) (hj : j ∈ tjs) {i : Int32} {G : Int32 → PM Sto β} {K : Int32 → PM TM β} (h : ∀ x, Rf c (G x) (K x)) : Rf c (pm_b (a_i 0 (c.2.1 j) i) G) (pm_b (t_a j i) K) := by
  refine rf_b (fun τ r τ' k n e => ?_) h
  unfold t_a at e
  split at e
  · cases e
  · next hi =>
    cases e
    unfold a_i
    rw [so_arr_some.mpr (tw_arr H τ hj)]
    dsimp only
    rw [if_pos ⟨rfl, hi⟩]
theorem rf_pa {j : Nat} (H : tw_ok c) (hj : j ∈ tjs) {i v : Int32} {G : Unit → PM Sto β} {K : Unit → PM TM β} (h : Rf c (G ()) (K ())) : Rf c (pm_b (pa_i 0 (c.2.1 j) i v) G) (pm_b (t_pa j i v) K) := by
  refine rf_b (fun τ r τ' k n e => ?_) (fun _ => h)
  unfold t_pa at e
  split at e
  · cases e
  · next hi =>
    cases e
    unfold pa_i
    rw [so_arr_some.mpr (tw_arr H τ hj)]
    dsimp only
    rw [if_pos ⟨rfl, hi⟩, tw_upA H τ hj]
    rfl
end RFR
