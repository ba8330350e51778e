/-! THE LAW's OWN ROWS: its script, which nobody writes; its loop, left by returns alone -/
def sc_a (n : Nat) (xs : Nat → Int32) (i : Int32) : PM Sto Int32 := fun σ => if ¬ (i < 0 ∨ n ≤ i.toNatClampNeg) then some (xs i.toNatClampNeg, σ, 0, 0) else none
section SRL
variable {ρ α β : Type} {Y : sm_Y Sto ρ} {g : sm_G} {own : String} {ret : Option FieldType} {nL fr lo : Nat} {emb : ρ → Option Value ⊕ String} {th : Bool} {pc : Nat} {L : List (Nat × Value)} {st : List Value} {cc : ByteArray}
theorem s_sld (C : sm_C Y g cc own ret nL fr lo emb th) {b n : Nat} {xs : Nat → Int32} (hX : va_X b n xs (yS Y) (yS Y).heap ∧ b < (yS Y).heap.size ∧ ¬ yA Y b) (hd : decode cc pc = .ok (.iaload, 1)) {i : Int32} {G : Int32 → PM Sto β} {K : β → PM Sto ρ} (pc' : Nat) (hp : pc + 1 = pc') (kk : ∀ x, Sim Y (pm_b (G x) K) pc' L (.int x :: st)) : Sim Y (pm_b (pm_b (sc_a n xs i) G) K) pc L (.int i :: .ref b :: st) := by
  rw [pm_b_as]
  intro σ k1 n1 H locs cells slots ls hf hW hS hc hs hl
  obtain ⟨x, s1, k1, n1, k2, n2, h1, h2, rfl, rfl⟩ := pm_b_some.mp hf
  unfold sc_a at h1
  split at h1
  · next hin =>
    cases h1
    subst hp
    exact va_sld C.x C.b hX.1 hX.2.1 hX.2.2 hS hin hd (kk _ σ k2 n2 H locs cells slots ls h2 hW hS (by omega) (by omega) hl)
  · cases h1
theorem s_slen (C : sm_C Y g cc own ret nL fr lo emb th) {b n : Nat} {xs : Nat → Int32} (hX : va_X b n xs (yS Y) (yS Y).heap ∧ b < (yS Y).heap.size ∧ ¬ yA Y b) (hd : decode cc pc = .ok (.arraylength, 1)) {f : PM Sto ρ} (pc' : Nat) (hp : pc + 1 = pc') (kk : Sim Y f pc' L (.int n.toInt32 :: st)) : Sim Y f pc L (.ref b :: st) := by
  intro σ k1 n1 H locs cells slots ls hf hW hS hc hs hl
  subst hp
  exact va_slen C.x C.b hX.1 hX.2.1 hX.2.2 hS hd (kk σ k1 n1 H locs cells slots ls hf hW hS hc hs hl)
variable {τ : Type}
theorem s_loopR {body : τ → PM Sto (τ ⊕ ρ)} (LJ : τ → List (Nat × Value)) (s0 : τ) (hL : LJ s0 = L)
    (hb : ∀ (K' : τ ⊕ ρ → PM Sto ρ) (s : τ), (∀ s', Sim Y (K' (.inl s')) pc (LJ s') []) → (∀ v, K' (.inr v) = pm_b (pm_r v) pm_r) → Sim Y (pm_b (body s) K') pc (LJ s) []) : Sim Y (pm_b (pm_b (pm_lp body s0) (fun v => pm_r v)) pm_r) pc L [] := by
  rw [pm_b_as]
  exact s_lp (LJ := LJ) s0 hL (fun K' s hk hr => hb K' s hk hr)
end SRL
