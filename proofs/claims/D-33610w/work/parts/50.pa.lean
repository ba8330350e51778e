/-! THE COMPONENT's PANEL IN THE STORE -/
/-- where it lies: the panel; its list, order, outputs, in, records, the list's array; its parts; their cords; the array's length -/
abbrev Lay : Type := Nat × (Nat → Nat) × (Nat → Nat) × (Nat → Nat) × Nat
abbrev lP (Λ : Lay) : Nat := Λ.1
abbrev lA (Λ : Lay) : Nat → Nat := Λ.2.1
abbrev lQ (Λ : Lay) : Nat → Nat := Λ.2.2.1
abbrev lC (Λ : Lay) : Nat → Nat := Λ.2.2.2.1
abbrev lK (Λ : Lay) : Nat := Λ.2.2.2.2
/-- scratch: 0 outputs 1 in 2 before 3 rates 4 order 5 records 6 (0 latest crossing, 1 the list's count of changes) 7 heavy inputs -/
abbrev Scr : Type := Nat → Nat → Int32
def wayR (g : sm_G) (S : St) : Nat := if S 2 = 1 then g.2.2.2.2 1 else g.2.2.2.2 0
def pnF (g : sm_G) (Λ : Lay) (S : St) (X : Scr) : List Value := [.ref (lA Λ 0), .ref (lA Λ 1), .ref (lA Λ 2), .ref (lA Λ 3), .ref (lA Λ 4), .ref (wayR g S), .int (S 3), .int (S 1), .int (S 4), .int (S 5), .int (S 6), .int (S 7), .int (X 6 0), .int (S 9)]
/-- a part's class, its fields -/
def ptC (S : St) (i : Nat) : Nat := 2 + (kd S i).toNatClampNeg
def ptF (Λ : Lay) (S : St) (X : Scr) (i : Nat) : List Value := match (kd S i).toNatClampNeg with
  | 0 => [.ref (lC Λ i), .int (pek S i), .int (X 7 i)]
  | 1 => [.ref (lC Λ i), .int (pek S i), .int (X 7 i), .int (stt S i), .int (spd S i), .int (chg S i), .int (X 2 i), .int (X 3 i)]
  | 2 => [.ref (lC Λ i), .int (pek S i), .int (stt S i)]
  | 3 => [.ref (lC Λ i), .int (pek S i)]
  | 4 => [.ref (lC Λ i), .int (pek S i)]
  | _ => [.ref (lC Λ i), .int (pek S i), .int (stt S i)]
/-- no two of its places are one -/
def lDst (Λ : Lay) (n : Nat) : Prop := ∃ ρ : Nat → Nat × Nat, ρ (lP Λ) = (0, 0) ∧ (∀ j, j < 6 → ρ (lA Λ j) = (1, j)) ∧ ∀ i, i < n → ρ (lQ Λ i) = (2, i) ∧ ρ (lC Λ i) = (3, i)
def PA (g : sm_G) (σ : Sto) (Λ : Lay) (n : Nat) (S : St) (X : Scr) : Prop :=
  σ.1 (lP Λ) = some (.inr (1, pnF g Λ S X)) ∧ σ.1 (lA Λ 0) = some (.inr (10, [.int (X 6 1), .ref (lA Λ 5), .int (ii n)])) ∧
  (n = 0 ∧ lA Λ 5 = g.2.2.2.2 3 ∧ lK Λ = 0 ∨ (0 < n ∧ n ≤ lK Λ) ∧ lK Λ ≤ 64 ∧ ∃ fe, σ.1 (lA Λ 5) = some (.inl (4, lK Λ, .inr (.inr (.inr (.inr fe))))) ∧ ∀ i, i < n → fe i = some (lQ Λ i)) ∧
  σ.1 (lA Λ 1) = some (.inl (0, 16, .inl (X 4))) ∧ σ.1 (lA Λ 2) = some (.inl (0, 16, .inl (X 0))) ∧ σ.1 (lA Λ 3) = some (.inl (0, 4, .inl (X 1))) ∧ σ.1 (lA Λ 4) = some (.inl (0, 24, .inl (X 5))) ∧
  (∀ i, i < n → σ.1 (lQ Λ i) = some (.inr (ptC S i, ptF Λ S X i)) ∧ ∃ f, σ.1 (lC Λ i) = some (.inl (0, inpN (kd S i), .inl f)) ∧ ∀ k, k < inpN (kd S i) → f k = crd S i k) ∧
  (∀ i, i < n → ∀ k, k < 4 → (hasB (X 7 i) k ↔ wgt S i k = 10)) ∧ lDst Λ n
/-- the places that are its own -/
def fpL (Λ : Lay) (n : Nat) (a : Nat) : Prop := a = lP Λ ∨ (∃ j, j < 5 ∧ a = lA Λ j) ∨ (0 < n ∧ a = lA Λ 5) ∨ ∃ i, i < n ∧ (a = lQ Λ i ∨ a = lC Λ i)
/-- nothing lies above the heap's size, nothing below the law's own cells; the empty array is below -/
def wfS (g : sm_G) (σ : Sto) : Prop := (∀ a, σ.2 ≤ a → σ.1 a = none) ∧ (∀ a, a < g.2.2.2.1 → σ.1 a = none) ∧ g.2.2.2.1 ≤ σ.2 ∧ g.2.2.2.2 3 < g.2.2.2.1
theorem wf_lt {g : sm_G} {σ : Sto} {a : Nat} {o : sm_O} (h : wfS g σ) (e : σ.1 a = some o) : a < σ.2 := Nat.lt_of_not_le (fun q => by rw [h.1 a q] at e; cases e)
theorem wf_ge {g : sm_G} {σ : Sto} {a : Nat} {o : sm_O} (h : wfS g σ) (e : σ.1 a = some o) : g.2.2.2.1 ≤ a := Nat.le_of_not_lt (fun q => by rw [h.2.1 a q] at e; cases e)
theorem wf_e {g : sm_G} {σ : Sto} {a : Nat} {o : sm_O} (h : wfS g σ) (e : σ.1 a = some o) : a ≠ g.2.2.2.2 3 := fun q => by
  have := wf_ge h e
  have := h.2.2.2
  omega
/-- since σ0 only places of F were touched -/
def Mod (g : sm_G) (F : Nat → Prop) (σ0 σ : Sto) : Prop := wfS g σ ∧ σ0.2 ≤ σ.2 ∧ ∀ a, ¬ F a → a < σ0.2 → σ.1 a = σ0.1 a
section MOD
variable {g : sm_G} {F : Nat → Prop} {σ σ0 σ1 σ2 : Sto}
theorem Mod.rf (h : wfS g σ) : Mod g F σ σ := ⟨h, Nat.le_refl _, fun _ _ _ => rfl⟩
theorem Mod.wf (h : Mod g F σ0 σ) : wfS g σ := h.1
theorem Mod.tr (h1 : Mod g F σ σ1) (h2 : Mod g F σ1 σ2) : Mod g F σ σ2 := ⟨h2.1, Nat.le_trans h1.2.1 h2.2.1, fun a hF hl => by rw [h2.2.2 a hF (Nat.lt_of_lt_of_le hl h1.2.1), h1.2.2 a hF hl]⟩
theorem Mod.up {a : Nat} {o o' : sm_O} (h : Mod g F σ0 σ) (e : σ.1 a = some o') (ha : F a ∨ σ0.2 ≤ a) : Mod g F σ0 (so_up σ a o) := by
  have hs := wf_lt h.1 e
  have hb := wf_ge h.1 e
  refine ⟨⟨fun b hb' => ?_, fun b hb' => ?_, h.1.2.2.1, h.1.2.2.2⟩, h.2.1, fun b hF hl => ?_⟩
  · show (if b = a then some o else σ.1 b) = none
    have hb2 : σ.2 ≤ b := hb'
    rw [if_neg (by omega)]
    exact h.1.1 b hb2
  · show (if b = a then some o else σ.1 b) = none
    rw [if_neg (by omega)]
    exact h.1.2.1 b hb'
  · show (if b = a then some o else σ.1 b) = σ0.1 b
    rw [if_neg (fun e => by subst e; exact ha.elim hF (fun q => by omega))]
    exact h.2.2 b hF hl
theorem Mod.new {o : sm_O} (h : Mod g F σ0 σ) : Mod g F σ0 (so_new σ o) := by
  have h1 := h.1
  refine ⟨⟨fun b hb => ?_, fun b hb => ?_, by show _ ≤ σ.2 + 1; have := h1.2.2.1; omega, h1.2.2.2⟩, by show σ0.2 ≤ σ.2 + 1; have := h.2.1; omega, fun b hF hl => ?_⟩
  · have hb' : σ.2 + 1 ≤ b := hb
    show (if b = σ.2 then some o else σ.1 b) = none
    rw [if_neg (by omega)]
    exact h1.1 b (by omega)
  · show (if b = σ.2 then some o else σ.1 b) = none
    have := h1.2.2.1
    rw [if_neg (by omega)]
    exact h1.2.1 b hb
  · show (if b = σ.2 then some o else σ.1 b) = σ0.1 b
    have := h.2.1
    rw [if_neg (by omega)]
    exact h.2.2 b hF hl
end MOD
section PAR
variable {g : sm_G} {σ : Sto} {Λ : Lay} {n : Nat} {S : St} {X : Scr}
theorem PA.obj (h : PA g σ Λ n S X) : σ.1 (lP Λ) = some (.inr (1, pnF g Λ S X)) := h.1
theorem PA.lst (h : PA g σ Λ n S X) : σ.1 (lA Λ 0) = some (.inr (10, [.int (X 6 1), .ref (lA Λ 5), .int (ii n)])) := h.2.1
theorem PA.eda (h : PA g σ Λ n S X) : n = 0 ∧ lA Λ 5 = g.2.2.2.2 3 ∧ lK Λ = 0 ∨ (0 < n ∧ n ≤ lK Λ) ∧ lK Λ ≤ 64 ∧ ∃ fe, σ.1 (lA Λ 5) = some (.inl (4, lK Λ, .inr (.inr (.inr (.inr fe))))) ∧ ∀ i, i < n → fe i = some (lQ Λ i) := h.2.2.1
theorem PA.ord (h : PA g σ Λ n S X) : σ.1 (lA Λ 1) = some (.inl (0, 16, .inl (X 4))) := h.2.2.2.1
theorem PA.out (h : PA g σ Λ n S X) : σ.1 (lA Λ 2) = some (.inl (0, 16, .inl (X 0))) := h.2.2.2.2.1
theorem PA.inn (h : PA g σ Λ n S X) : σ.1 (lA Λ 3) = some (.inl (0, 4, .inl (X 1))) := h.2.2.2.2.2.1
theorem PA.rec (h : PA g σ Λ n S X) : σ.1 (lA Λ 4) = some (.inl (0, 24, .inl (X 5))) := h.2.2.2.2.2.2.1
theorem PA.prt (h : PA g σ Λ n S X) {i : Nat} (hi : i < n) : σ.1 (lQ Λ i) = some (.inr (ptC S i, ptF Λ S X i)) := (h.2.2.2.2.2.2.2.1 i hi).1
theorem PA.cds (h : PA g σ Λ n S X) {i : Nat} (hi : i < n) : ∃ f, σ.1 (lC Λ i) = some (.inl (0, inpN (kd S i), .inl f)) ∧ ∀ k, k < inpN (kd S i) → f k = crd S i k := (h.2.2.2.2.2.2.2.1 i hi).2
theorem PA.hvy (h : PA g σ Λ n S X) {i k : Nat} (hi : i < n) (hk : k < 4) : hasB (X 7 i) k ↔ wgt S i k = 10 := h.2.2.2.2.2.2.2.2.1 i hi k hk
theorem PA.dst (h : PA g σ Λ n S X) : lDst Λ n := h.2.2.2.2.2.2.2.2.2
end PAR
/-! reads of a store -/
theorem gi_at {σ : Sto} {a ci k : Nat} {cs : List Nat} {fs : List Value} {x : Int32} (h : σ.1 a = some (.inr (ci, fs))) (hc : ci ∈ cs) (hk : fs[k]? = some (.int x)) : g_i cs k a σ = some (x, σ, 0, 0) := by
  unfold g_i
  rw [so_fld_some.mpr ⟨ci, fs, h, hc, hk⟩]
theorem gr_at {σ : Sto} {a ci k : Nat} {cs : List Nat} {fs : List Value} {x : Nat} (h : σ.1 a = some (.inr (ci, fs))) (hc : ci ∈ cs) (hk : fs[k]? = some (.ref x)) : g_r cs k a σ = some (x, σ, 0, 0) := by
  unfold g_r
  rw [so_fld_some.mpr ⟨ci, fs, h, hc, hk⟩]
theorem pf_at {σ : Sto} {a ci k : Nat} {cs : List Nat} {fs : List Value} {v : Value} (h : σ.1 a = some (.inr (ci, fs))) (hc : ci ∈ cs) (hk : k < fs.length) : p_f cs k a v σ = some ((), so_up σ a (.inr (ci, fs.set k v)), 0, 0) := by
  unfold p_f
  rw [so_obj_some.mpr h, Option.bind_some, if_pos ⟨hc, hk⟩]
theorem ai_at {σ : Sto} {a N n : Nat} {f : Nat → Int32} (h : σ.1 a = some (.inl (0, N, .inl f))) (hn : n < N) (hN : N < 2 ^ 31) : a_i 0 a (ii n) σ = some (f n, σ, 0, 0) := by
  unfold a_i
  rw [so_arr_some.mpr h]
  dsimp only
  rw [ii_nat (by omega), if_pos]
  exact ⟨rfl, fun q => q.elim (ii_nn (by omega)) (fun q => by omega)⟩
theorem pai_at {σ : Sto} {a N n : Nat} {v : Int32} {f : Nat → Int32} (h : σ.1 a = some (.inl (0, N, .inl f))) (hn : n < N) (hN : N < 2 ^ 31) : pa_i 0 a (ii n) v σ = some ((), so_up σ a (.inl (0, N, .inl (upd f n v))), 0, 0) := by
  unfold pa_i
  rw [so_arr_some.mpr h]
  dsimp only
  rw [ii_nat (by omega), if_pos]
  · rfl
  exact ⟨rfl, fun q => q.elim (ii_nn (by omega)) (fun q => by omega)⟩
theorem cls_at {σ : Sto} {a ci : Nat} {fs : List Value} (h : σ.1 a = some (.inr (ci, fs))) : so_cls a σ = some ci := by
  unfold so_cls
  rw [so_obj_some.mpr h]
  rfl
theorem on_at {α : Type} {σ : Sto} {a ci : Nat} {fs : List Value} {f : PM Sto α} {r : Option (α × Sto × Nat × Nat)} (h : σ.1 a = some (.inr (ci, fs))) (hf : f σ = r) : pm_on ci a f σ = r := by
  unfold pm_on
  rw [if_pos (cls_at h)]
  exact hf
theorem vd_at {α : Type} {σ : Sto} {a ci : Nat} {cs : List Nat} {fs : List Value} {tbl : Nat → PM Sto α} {r : Option (α × Sto × Nat × Nat)} (h : σ.1 a = some (.inr (ci, fs))) (hc : ci ∈ cs) (hf : tbl ci σ = r) : pm_vd cs a tbl σ = r := by
  unfold pm_vd
  rw [cls_at h]
  dsimp only
  rw [if_pos hc]
  exact hf
theorem an_at {g : sm_G} {σ : Sto} {a t N : Nat} {x : vp_A} (h : σ.1 a = some (.inl (t, x))) (hx : x.1 = N) (ht : t < 6) (hw : wfS g σ) : a_n g a σ = some (ii N, σ, 0, 0) := by
  unfold a_n
  rw [if_neg (wf_e hw h), so_arr_some.mpr h]
  dsimp only
  rw [if_pos ht, hx]
  rfl
theorem aq_at {σ : Sto} {a N n : Nat} {f : Nat → Option Nat} (h : σ.1 a = some (.inl (4, N, .inr (.inr (.inr (.inr f)))))) (hn : n < N) (hN : N < 2 ^ 31) : a_q 4 a (ii n) σ = some (f n, σ, 0, 0) := by
  unfold a_q
  rw [so_arr_some.mpr h]
  dsimp only
  rw [ii_nat (by omega), if_pos]
  exact ⟨rfl, fun q => q.elim (ii_nn (by omega)) (fun q => by omega)⟩
/-! the panel's own reads -/
section PRD
variable {g : sm_G} {σ : Sto} {Λ : Lay} {n : Nat} {S : St} {X : Scr}
theorem cChk {i N : Nat} {q : Option Nat} (hi : i < N) (hN : N < 2 ^ 31) : f_J14_checkIndex g (ii i) (ii N) q σ = some (ii i, σ, 0, 0) := by
  unfold f_J14_checkIndex
  rw [if_neg (ii_nn (by omega)), br, if_pos ((ii_lt (by omega) hN).mpr hi), br]
  rfl
theorem cSize (h : PA g σ Λ n S X) : f_X2_size g (lP Λ) σ = some (ii n, σ, 0, 0) := by
  unfold f_X2_size
  rw [eb0 (gr_at h.obj List.mem_cons_self rfl), eb0 (on_at h.lst (by
    unfold f_J2_size
    rw [eb0 (gi_at h.lst List.mem_cons_self rfl)]; rfl))]
  rfl
theorem cSizeO (h : PA g σ Λ n S X) : pm_on 1 (lP Λ) (f_X2_size g (lP Λ)) σ = some (ii n, σ, 0, 0) := on_at h.obj (cSize h)
theorem ptC_in (hI : Inv S n) {i : Nat} (hi : i < n) : ptC S i ∈ [2, 3, 4, 5, 6, 7] := by
  obtain ⟨c, hc, e⟩ := hI.kin hi
  unfold ptC
  rw [e, ii_nat (by omega)]
  rcases (show c = 0 ∨ c = 1 ∨ c = 2 ∨ c = 3 ∨ c = 4 ∨ c = 5 by omega) with rfl | rfl | rfl | rfl | rfl | rfl <;> decide
theorem cPart (h : PA g σ Λ n S X) (hI : Inv S n) {i : Nat} (hi : i < n) : f_X2_part g (lP Λ) (ii i) σ = some (lQ Λ i, σ, 0, 0) := by
  have hn := hI.le
  obtain ⟨h0, -⟩ | ⟨⟨-, h1⟩, h64, fe, e1, e2⟩ := h.eda
  · omega
  unfold f_X2_part
  have eg : pm_on 10 (lA Λ 0) (f_J2_get g (lA Λ 0) (ii i)) σ = some (some (lQ Λ i), σ, 0, 0) := by
    refine on_at h.lst ?_
    unfold f_J2_get f_J13_checkIndex
    rw [eb0 (gi_at h.lst List.mem_cons_self rfl), pm_b_as, eb0 (cChk hi (by omega)), br]
    have ee : pm_on 10 (lA Λ 0) (f_J2_elementData g (lA Λ 0) (ii i)) σ = some (some (lQ Λ i), σ, 0, 0) := by
      refine on_at h.lst ?_
      unfold f_J2_elementData
      rw [eb0 (gr_at h.lst List.mem_cons_self rfl), eb0 (aq_at e1 (by omega) (by omega)), e2 i hi]; rfl
    rw [eb0 ee]; rfl
  have ec : c_q [2, 3, 4, 5, 6, 7] (some (lQ Λ i)) σ = some (lQ Λ i, σ, 0, 0) := by
    unfold c_q
    dsimp only
    rw [cls_at (h.prt hi)]
    dsimp only
    rw [if_pos (ptC_in hI hi)]
  rw [eb0 (gr_at h.obj List.mem_cons_self rfl), eb0 eg, eb0 ec]; rfl
theorem cPartO (h : PA g σ Λ n S X) (hI : Inv S n) {i : Nat} (hi : i < n) : pm_on 1 (lP Λ) (f_X2_part g (lP Λ) (ii i)) σ = some (lQ Λ i, σ, 0, 0) := on_at h.obj (cPart h hI hi)
end PRD
