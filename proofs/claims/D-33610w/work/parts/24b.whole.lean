/-! FROM THE PURE LAW TO THE MACHINE -/
/-- what the pure law owes: at every start's numbers the law's program answers 1, within the room -/
def lw_Pure : Prop := ∀ (g : sm_G), (∀ k, k < 4 → g.2.2.2.2 k < g.2.2.2.1) → g.2.2.2.2 0 ≠ g.2.2.2.2 1 → ∀ (n : Nat) (xs : Nat → Int32), n ≤ 96 → ∃ (σ' : Sto) (k j : Nat), f_L_law g n xs (fun _ => none, g.2.2.2.1) = some (1, σ', k, j) ∧ k ≤ 1200144 ∧ j ≤ 5496634
theorem st_W (hpure : lw_Pure) {p : Program} {e : Env} {s : State} {m : MethodId} {below : List Frame} {meth : Method} {c : Code} (l : Launch) (hflags : l.flags = flags0) {b L : Nat} {xs : Nat → Int32} (hL : L ≤ 96) (C0 : lw_At p s m meth c b L xs) : W p l e room_1 s m #[Value.ref b] below meth c s.heap [] 0 0 (lw_Z below #[Value.ref b] s) (entryFrame m ([Value.ref b] : List Value).toArray 9) := by
  obtain ⟨hx, hb, hr, hml, hown, hts, hX, hbl, hlocks, hgv⟩ := id C0
  obtain ⟨g, hb0, hK, hlt, hne⟩ := st_K hts hgv
  obtain ⟨σ', k, j, hf, hk, hj⟩ := hpure g (fun q hq => by rw [hb0]; exact hlt q hq) hne L xs hL
  have htr : l.stackTraces = false := by
    unfold Launch.stackTraces
    rw [hflags]
    decide +kernel
  have hAq : ∀ q, s.heap.size ≤ q → so_A g (fun _ => False) q := fun q h => ⟨by rw [hb0]; exact h, fun z => z⟩
  have hAb : ¬ so_A g (fun _ => False) b := fun z => absurd z.1 (by rw [hb0]; exact Nat.not_le.mpr hbl)
  have hl := lv_entry ([.ref b]) (n := 9) (Nat.le_of_ble_eq_true rfl)
  have C : sm_C ((p, l, e, room_1, s, m, #[Value.ref b], below, meth, c), so_R g (fun _ => False), so_A g (fun _ => False), MQ below (sm_Qq (so_R g (fun _ => False)) (so_A g (fun _ => False)) em_i 1 σ') #[Value.ref b] s 1200144 5496634 (so_A g (fun _ => False)), (1, σ'), 1200144, 5496634, 9) g cL_law "PatchCordsLaw" (some .boolean) 9 8192 104096 em_i false :=
    ⟨hx, hb, hml, rfl, hown, st_all hts, hr, hlocks, hK, ⟨rfl, rfl, rfl, rfl⟩, hAq, fun _ => rfl, (fun h => by cases h), rfl⟩
  have hw := wk_law (b := b) (n := L) (xs := xs) (TA := fun _ => False) C htr rfl rfl ⟨hX, hbl, hAb⟩
  have h0 : so_R g (fun _ => False) (fun _ => none, g.2.2.2.1) s.heap := ⟨hb0.symm, Nat.le_refl _, fun q h => h.elim, fun a o h => by cases h⟩
  have h1 := hw _ k j s.heap [] 0 0 _ hf h0 va_S.rf (by show 0 + k ≤ 1200144; omega) (by show 0 + j ≤ 5496634; omega) hl
  rw [lg_entry_eq]
  intro T hT X
  obtain ⟨t, a1, o, b1, b2, ⟨⟨v, hv, ho, -⟩, -⟩, Ls, hF, hLs⟩ := h1 T hT X
  cases hv
  refine ⟨t, a1, o, b1, b2, ho, hF.1, hF.2.1, ?_⟩
  exact State.sameButNew.weaken hF.2.2 (fun y hy hlt => absurd hlt (Nat.not_lt.mpr (by have := (hLs y hy).1; rw [hb0] at this; exact this))) (Nat.le_refl _) (Nat.le_refl _)
