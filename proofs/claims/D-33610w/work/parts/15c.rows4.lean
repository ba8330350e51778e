section SR5
variable {S ρ α β : Type} {Y : sm_Y S (ρ ⊕ String)} {pc : Nat} {L : List (Nat × Value)} {st : List Value}
/-- .. where what is bound may throw -/
theorem s_cutX {x : PM S (α ⊕ String)} {g : α → PM S (β ⊕ String)} {K : β ⊕ String → PM S (ρ ⊕ String)} {J : Nat} {LJ : α → List (Nat × Value)} {SJ : α → List Value} (hX : ∀ E, K (.inr E) = pm_r (.inr E)) (hK : ∀ v, Sim Y (pm_b (g v) K) J (LJ v) (SJ v)) (k : ∀ K' : α ⊕ String → PM S (ρ ⊕ String), (∀ E, K' (.inr E) = pm_r (.inr E)) → (∀ v, Sim Y (K' (.inl v)) J (LJ v) (SJ v)) → Sim Y (pm_b x K') pc L st) : Sim Y (pm_b (pm_b x (Sum.elim g (fun E => pm_r (.inr E)))) K) pc L st := by
  rw [pm_b_as]
  refine k _ (fun E => ?_) (fun v => hK v)
  show pm_b (pm_r (.inr E)) K = _
  rw [pm_r_b]
  exact hX E
end SR5
section SR6
variable {S ρ α β γ δ τ : Type} {Y : sm_Y S ρ} {pc : Nat} {L : List (Nat × Value)}
theorem s_loop3 {body : τ → PM S (τ ⊕ (β ⊕ (γ ⊕ δ)))} {α2 : Type} {G0 : β → PM S α2} {G1 : γ → PM S α2} {G2 : δ → PM S α2} {K : α2 → PM S ρ} (LJ : τ → List (Nat × Value)) (LX0 : β → List (Nat × Value)) (LX1 : γ → List (Nat × Value)) (LX2 : δ → List (Nat × Value)) (e0 e1 e2 : Nat) (s0 : τ) (hL : LJ s0 = L) (hx0 : ∀ v, Sim Y (pm_b (G0 v) K) e0 (LX0 v) []) (hx1 : ∀ v, Sim Y (pm_b (G1 v) K) e1 (LX1 v) []) (hx2 : ∀ v, Sim Y (pm_b (G2 v) K) e2 (LX2 v) [])
    (hb : ∀ (K' : τ ⊕ (β ⊕ (γ ⊕ δ)) → PM S ρ) (s : τ), (∀ s', Sim Y (K' (.inl s')) pc (LJ s') []) → (∀ v, Sim Y (K' (.inr (.inl v))) e0 (LX0 v) []) → (∀ v, Sim Y (K' (.inr (.inr (.inl v)))) e1 (LX1 v) []) → (∀ v, Sim Y (K' (.inr (.inr (.inr v)))) e2 (LX2 v) []) → Sim Y (pm_b (body s) K') pc (LJ s) []) : Sim Y (pm_b (pm_b (pm_lp body s0) (Sum.elim G0 (Sum.elim G1 G2))) K) pc L [] := by
  rw [pm_b_as]
  refine s_lp (LJ := LJ) s0 hL (fun K' s hk hr => ?_)
  exact hb K' s hk (fun v => by rw [hr]; exact hx0 v) (fun v => by rw [hr]; exact hx1 v) (fun v => by rw [hr]; exact hx2 v)
end SR6
