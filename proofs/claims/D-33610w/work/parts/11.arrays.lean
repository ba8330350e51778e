/-! ARRAYS of the store: 0 int, 1 boolean, 2 byte, 3 long, 4 Object, 5 Way -/
def a_i (t a : Nat) (i : Int32) : PM Sto Int32 := fun σ => match so_arr a σ with
  | some (t', n, .inl f) => if t' = t ∧ ¬ (i < 0 ∨ n ≤ i.toNatClampNeg) then some (f i.toNatClampNeg, σ, 0, 0) else none
  | _ => none
def a_l (a : Nat) (i : Int32) : PM Sto Int64 := fun σ => match so_arr a σ with
  | some (t', n, .inr (.inl f)) => if t' = 3 ∧ ¬ (i < 0 ∨ n ≤ i.toNatClampNeg) then some (f i.toNatClampNeg, σ, 0, 0) else none
  | _ => none
def a_q (t a : Nat) (i : Int32) : PM Sto (Option Nat) := fun σ => match so_arr a σ with
  | some (t', n, .inr (.inr (.inr (.inr f)))) => if t' = t ∧ ¬ (i < 0 ∨ n ≤ i.toNatClampNeg) then some (f i.toNatClampNeg, σ, 0, 0) else none
  | _ => none
def pa_nar (t : Nat) (x : Int32) : Int32 := if t = 1 then vp_nar .boolean x else if t = 2 then vp_nar .byte x else x
def pa_i (t a : Nat) (i x : Int32) : PM Sto Unit := fun σ => match so_arr a σ with
  | some (t', n, .inl f) => if t' = t ∧ ¬ (i < 0 ∨ n ≤ i.toNatClampNeg) then some ((), so_up σ a (.inl (t, n, .inl (upd f i.toNatClampNeg (pa_nar t x)))), 0, 0) else none
  | _ => none
def pa_l (a : Nat) (i : Int32) (x : Int64) : PM Sto Unit := fun σ => match so_arr a σ with
  | some (t', n, .inr (.inl f)) => if t' = 3 ∧ ¬ (i < 0 ∨ n ≤ i.toNatClampNeg) then some ((), so_up σ a (.inl (3, n, .inr (.inl (vp_updL f i.toNatClampNeg x)))), 0, 0) else none
  | _ => none
/-- a reference stored in an Object[]: an object of the store, or null -/
def pa_q (a : Nat) (i : Int32) (x : Option Nat) : PM Sto Unit := fun σ => match so_arr a σ with
  | some (t', n, .inr (.inr (.inr (.inr f)))) => if t' = 4 ∧ ¬ (i < 0 ∨ n ≤ i.toNatClampNeg) ∧ (∀ y, x = some y → (so_obj y σ).isSome = true) then some ((), so_up σ a (.inl (4, n, .inr (.inr (.inr (.inr (va_up f i.toNatClampNeg x)))))), 0, 0) else none
  | _ => none
/-- an array's length; the static empty array of ArrayList too -/
def a_n (g : sm_G) (a : Nat) : PM Sto Int32 := fun σ => if a = g.2.2.2.2 3 then some (0, σ, 0, 0) else match so_arr a σ with
  | some x => if x.1 < 6 then some (Int32.ofNat x.2.1, σ, 0, 0) else none
  | none => none
/-- a new array of numbers -/
def n_a (t : Nat) (n : Int32) : PM Sto Nat := fun σ => if n < 0 ∨ 65536 < n.toNatClampNeg then none else some (σ.2, so_new σ (.inl (t, n.toNatClampNeg, if t = 3 then .inr (.inl fun _ => 0) else .inl fun _ => 0)), 1, n.toNatClampNeg)
/-- a new Object[] -/
def n_q (n : Int32) : PM Sto Nat := fun σ => if n < 0 ∨ 65536 < n.toNatClampNeg then none else some (σ.2, so_new σ (.inl (4, n.toNatClampNeg, .inr (.inr (.inr (.inr fun _ => none))))), 1, n.toNatClampNeg)
/-- a new object, its fields at their defaults -/
def so_df : Nat → List Value
  | 0 => [.null, .null, .null, .null]
  | 1 => [.null, .null, .null, .null, .null, .null, .int 0, .int 0, .int 0, .int 0, .int 0, .int 0, .int 0, .int 0]
  | 2 => [.null, .int 0, .int 0]
  | 3 => [.null, .int 0, .int 0, .int 0, .int 0, .int 0, .int 0, .int 0]
  | 4 => [.null, .int 0, .int 0]
  | 5 => [.null, .int 0]
  | 6 => [.null, .int 0]
  | 7 => [.null, .int 0, .int 0]
  | 8 => [.null, .null, .int 0, .int 0]
  | 9 => [.int 0, .int 0, .int 0, .int 0]
  | 10 => [.int 0, .null, .int 0]
  | 11 => [.null, .int 0, .int 0, .int 0]
  | 12 => [.int 0, .null, .null, .int 0, .null, .int 0, .null, .null, .null, .int 0, .null, .null, .null, .int 0, .int 0, .int 0, .int 0, .int 0, .int 0, .int 0]
  | _ => []
def n_o (ci : Nat) : PM Sto Nat := fun σ => some (σ.2, so_new σ (.inr (ci, so_df ci)), 1, (so_df ci).length)
/-- System.arraycopy among Object[] -/
def ac_q (a : Nat) (sp : Int32) (b : Nat) (dp n : Int32) : PM Sto Unit := fun σ => match so_arr a σ, so_arr b σ with
  | some (t1, n1, .inr (.inr (.inr (.inr f)))), some (t2, n2, .inr (.inr (.inr (.inr h)))) =>
    if (t1 = 4 ∧ t2 = 4) ∧ (¬ sp < 0 ∧ ¬ dp < 0 ∧ ¬ n < 0) ∧ sp.toNatClampNeg + n.toNatClampNeg ≤ n1 ∧ dp.toNatClampNeg + n.toNatClampNeg ≤ n2 ∧ ((List.range n.toNatClampNeg).all fun i => match f (sp.toNatClampNeg + i) with
      | none => true
      | some y => (so_obj y σ).isSome) = true then some ((), so_up σ b (.inl (4, n2, .inr (.inr (.inr (.inr (va_cpy f h sp.toNatClampNeg dp.toNatClampNeg n.toNatClampNeg)))))), 0, 0) else none
  | _, _ => none
/-- the class' number of an object -/
def so_cls (a : Nat) (σ : Sto) : Option Nat := (so_obj a σ).map fun o => o.1
section SAR
variable {ρ α β : Type} {Y : sm_Y Sto ρ} {g : sm_G} {own : String} {ret : Option FieldType} {nL fr lo : Nat} {emb : ρ → Option Value ⊕ String} {th : Bool} {pc : Nat} {L L' : List (Nat × Value)} {st : List Value} {cc : ByteArray} {TA : Nat → Prop}
theorem so_arrH {σ : Sto} {H : Heap} {a t : Nat} {x : vp_A} (hW : so_R g TA σ H) (h : so_arr a σ = some (t, x)) : H[a]? = some (vp_cell (g.2.2.1 t) x) := (hW.2.2.2 a _ (so_arr_some.mp h)).2
theorem so_tys (C : sm_C Y g cc own ret nL fr lo emb th) (t : Nat) {ty : FieldType} (h : (sm_tys g)[t]? = some (g.2.2.1 t, ty)) : ArrOfT (yS Y) (g.2.2.1 t) ty ∧ va_RA (yS Y) (g.2.2.1 t) ty := C.k.1.2 t _ h
theorem s_iald (C : sm_C Y g cc own ret nL fr lo emb th) (hR : yW Y = so_R g TA) (hd : decode cc pc = .ok (.iaload, 1)) {a : Nat} {i : Int32} {G : Int32 → PM Sto β} {K : β → PM Sto ρ} (pc' : Nat) (hp : pc + 1 = pc') (kk : ∀ x, Sim Y (pm_b (G x) K) pc' L (.int x :: st)) : Sim Y (pm_b (pm_b (a_i 0 a i) G) K) pc L (.int i :: .ref a :: st) := by
  rw [pm_b_as]
  intro σ k1 n1 H locs cells slots ls hf hW hS hc hs hl
  obtain ⟨x, s1, k1, n1, k2, n2, h1, h2, rfl, rfl⟩ := pm_b_some.mp hf
  rw [hR] at hW
  unfold a_i at h1
  split at h1
  · next t' n f e =>
    split at h1
    · next hc1 =>
      obtain ⟨rfl, hin⟩ := hc1
      cases h1
      have hlt : i.toNatClampNeg < n := Nat.not_le.mp fun q => hin (Or.inr q)
      refine W.iald (v := .int (f i.toNatClampNeg)) C.x C.b (so_arrH hW e) ((so_tys C 0 rfl).1 n (fun j => .int (f j))) (fun q => by cases q) (by show ¬ (i < 0 ∨ (arrV _ _ _).slots.size ≤ _); rw [arrV_size]; exact hin) (by show (arrV _ _ _).slots[_]? = _; rw [arrV_read _ _ hlt]) rfl rfl hd ?_
      rw [show ({ (F0 (yM Y) pc ls (.int i :: .ref a :: st)) with pc := pc + 1, stack := .int (f i.toNatClampNeg) :: st } : JFrame) = F0 (yM Y) pc' ls (.int (f i.toNatClampNeg) :: st) from by rw [← hp]]
      exact kk _ _ k2 n2 H locs cells slots ls h2 (by rw [hR]; exact hW) hS (by omega) (by omega) hl
    · cases h1
  · cases h1
theorem s_zald (C : sm_C Y g cc own ret nL fr lo emb th) (hR : yW Y = so_R g TA) (hd : decode cc pc = .ok (.baload, 1)) {a : Nat} {i : Int32} {G : Int32 → PM Sto β} {K : β → PM Sto ρ} (pc' : Nat) (hp : pc + 1 = pc') (kk : ∀ x, Sim Y (pm_b (G x) K) pc' L (.int x :: st)) : Sim Y (pm_b (pm_b (a_i 1 a i) G) K) pc L (.int i :: .ref a :: st) := by
  rw [pm_b_as]
  intro σ k1 n1 H locs cells slots ls hf hW hS hc hs hl
  obtain ⟨x, s1, k1, n1, k2, n2, h1, h2, rfl, rfl⟩ := pm_b_some.mp hf
  rw [hR] at hW
  unfold a_i at h1
  split at h1
  · next t' n f e =>
    split at h1
    · next hc1 =>
      obtain ⟨rfl, hin⟩ := hc1
      cases h1
      have hlt : i.toNatClampNeg < n := Nat.not_le.mp fun q => hin (Or.inr q)
      refine W.zald (v := .int (f i.toNatClampNeg)) C.x C.b (so_arrH hW e) ((so_tys C 1 rfl).1 n (fun j => .int (f j))) (fun q => by cases q) (by show ¬ (i < 0 ∨ (arrV _ _ _).slots.size ≤ _); rw [arrV_size]; exact hin) (by show (arrV _ _ _).slots[_]? = _; rw [arrV_read _ _ hlt]) rfl rfl hd ?_
      rw [show ({ (F0 (yM Y) pc ls (.int i :: .ref a :: st)) with pc := pc + 1, stack := .int (f i.toNatClampNeg) :: st } : JFrame) = F0 (yM Y) pc' ls (.int (f i.toNatClampNeg) :: st) from by rw [← hp]]
      exact kk _ _ k2 n2 H locs cells slots ls h2 (by rw [hR]; exact hW) hS (by omega) (by omega) hl
    · cases h1
  · cases h1
theorem s_bald (C : sm_C Y g cc own ret nL fr lo emb th) (hR : yW Y = so_R g TA) (hd : decode cc pc = .ok (.baload, 1)) {a : Nat} {i : Int32} {G : Int32 → PM Sto β} {K : β → PM Sto ρ} (pc' : Nat) (hp : pc + 1 = pc') (kk : ∀ x, Sim Y (pm_b (G x) K) pc' L (.int x :: st)) : Sim Y (pm_b (pm_b (a_i 2 a i) G) K) pc L (.int i :: .ref a :: st) := by
  rw [pm_b_as]
  intro σ k1 n1 H locs cells slots ls hf hW hS hc hs hl
  obtain ⟨x, s1, k1, n1, k2, n2, h1, h2, rfl, rfl⟩ := pm_b_some.mp hf
  rw [hR] at hW
  unfold a_i at h1
  split at h1
  · next t' n f e =>
    split at h1
    · next hc1 =>
      obtain ⟨rfl, hin⟩ := hc1
      cases h1
      have hlt : i.toNatClampNeg < n := Nat.not_le.mp fun q => hin (Or.inr q)
      refine W.bald (v := .int (f i.toNatClampNeg)) C.x C.b (so_arrH hW e) ((so_tys C 2 rfl).1 n (fun j => .int (f j))) (fun q => by cases q) (by show ¬ (i < 0 ∨ (arrV _ _ _).slots.size ≤ _); rw [arrV_size]; exact hin) (by show (arrV _ _ _).slots[_]? = _; rw [arrV_read _ _ hlt]) rfl rfl hd ?_
      rw [show ({ (F0 (yM Y) pc ls (.int i :: .ref a :: st)) with pc := pc + 1, stack := .int (f i.toNatClampNeg) :: st } : JFrame) = F0 (yM Y) pc' ls (.int (f i.toNatClampNeg) :: st) from by rw [← hp]]
      exact kk _ _ k2 n2 H locs cells slots ls h2 (by rw [hR]; exact hW) hS (by omega) (by omega) hl
    · cases h1
  · cases h1
theorem s_lald (C : sm_C Y g cc own ret nL fr lo emb th) (hR : yW Y = so_R g TA) (hd : decode cc pc = .ok (.laload, 1)) {a : Nat} {i : Int32} {G : Int64 → PM Sto β} {K : β → PM Sto ρ} (pc' : Nat) (hp : pc + 1 = pc') (kk : ∀ x, Sim Y (pm_b (G x) K) pc' L (.long x :: st)) : Sim Y (pm_b (pm_b (a_l a i) G) K) pc L (.int i :: .ref a :: st) := by
  rw [pm_b_as]
  intro σ k1 n1 H locs cells slots ls hf hW hS hc hs hl
  obtain ⟨x, s1, k1, n1, k2, n2, h1, h2, rfl, rfl⟩ := pm_b_some.mp hf
  rw [hR] at hW
  unfold a_l at h1
  split at h1
  · next t' n f e =>
    split at h1
    · next hc1 =>
      obtain ⟨rfl, hin⟩ := hc1
      cases h1
      have hlt : i.toNatClampNeg < n := Nat.not_le.mp fun q => hin (Or.inr q)
      refine W.lald (v := .long (f i.toNatClampNeg)) C.x C.b (so_arrH hW e) ((so_tys C 3 rfl).1 n (fun j => .long (f j))) (fun q => by cases q) (by show ¬ (i < 0 ∨ (arrV _ _ _).slots.size ≤ _); rw [arrV_size]; exact hin) (by show (arrV _ _ _).slots[_]? = _; rw [arrV_read _ _ hlt]) rfl rfl hd ?_
      rw [show ({ (F0 (yM Y) pc ls (.int i :: .ref a :: st)) with pc := pc + 1, stack := .long (f i.toNatClampNeg) :: st } : JFrame) = F0 (yM Y) pc' ls (.long (f i.toNatClampNeg) :: st) from by rw [← hp]]
      exact kk _ _ k2 n2 H locs cells slots ls h2 (by rw [hR]; exact hW) hS (by omega) (by omega) hl
    · cases h1
  · cases h1
theorem s_aald4 (C : sm_C Y g cc own ret nL fr lo emb th) (hR : yW Y = so_R g TA) (hd : decode cc pc = .ok (.aaload, 1)) {a : Nat} {i : Int32} {G : Option Nat → PM Sto β} {K : β → PM Sto ρ} (pc' : Nat) (hp : pc + 1 = pc') (kk : ∀ x, Sim Y (pm_b (G x) K) pc' L (va_rf x :: st)) : Sim Y (pm_b (pm_b (a_q 4 a i) G) K) pc L (.int i :: .ref a :: st) := by
  rw [pm_b_as]
  intro σ k1 n1 H locs cells slots ls hf hW hS hc hs hl
  obtain ⟨x, s1, k1, n1, k2, n2, h1, h2, rfl, rfl⟩ := pm_b_some.mp hf
  rw [hR] at hW
  unfold a_q at h1
  split at h1
  · next t' n f e =>
    split at h1
    · next hc1 =>
      obtain ⟨rfl, hin⟩ := hc1
      cases h1
      have hlt : i.toNatClampNeg < n := Nat.not_le.mp fun q => hin (Or.inr q)
      refine W.aald (v := va_rf (f i.toNatClampNeg)) C.x C.b (so_arrH hW e) ((so_tys C 4 rfl).1 n (fun j => va_rf (f j))) rfl (fun q => by cases q) (by show ¬ (i < 0 ∨ (arrV _ _ _).slots.size ≤ _); rw [arrV_size]; exact hin) (by show (arrV _ _ _).slots[_]? = _; rw [arrV_read _ _ hlt]) rfl rfl hd ?_
      rw [show ({ (F0 (yM Y) pc ls (.int i :: .ref a :: st)) with pc := pc + 1, stack := va_rf (f i.toNatClampNeg) :: st } : JFrame) = F0 (yM Y) pc' ls (va_rf (f i.toNatClampNeg) :: st) from by rw [← hp]]
      exact kk _ _ k2 n2 H locs cells slots ls h2 (by rw [hR]; exact hW) hS (by omega) (by omega) hl
    · cases h1
  · cases h1
theorem s_aald5 (C : sm_C Y g cc own ret nL fr lo emb th) (hR : yW Y = so_R g TA) (hd : decode cc pc = .ok (.aaload, 1)) {a : Nat} {i : Int32} {G : Option Nat → PM Sto β} {K : β → PM Sto ρ} (pc' : Nat) (hp : pc + 1 = pc') (kk : ∀ x, Sim Y (pm_b (G x) K) pc' L (va_rf x :: st)) : Sim Y (pm_b (pm_b (a_q 5 a i) G) K) pc L (.int i :: .ref a :: st) := by
  rw [pm_b_as]
  intro σ k1 n1 H locs cells slots ls hf hW hS hc hs hl
  obtain ⟨x, s1, k1, n1, k2, n2, h1, h2, rfl, rfl⟩ := pm_b_some.mp hf
  rw [hR] at hW
  unfold a_q at h1
  split at h1
  · next t' n f e =>
    split at h1
    · next hc1 =>
      obtain ⟨rfl, hin⟩ := hc1
      cases h1
      have hlt : i.toNatClampNeg < n := Nat.not_le.mp fun q => hin (Or.inr q)
      refine W.aald (v := va_rf (f i.toNatClampNeg)) C.x C.b (so_arrH hW e) ((so_tys C 5 rfl).1 n (fun j => va_rf (f j))) rfl (fun q => by cases q) (by show ¬ (i < 0 ∨ (arrV _ _ _).slots.size ≤ _); rw [arrV_size]; exact hin) (by show (arrV _ _ _).slots[_]? = _; rw [arrV_read _ _ hlt]) rfl rfl hd ?_
      rw [show ({ (F0 (yM Y) pc ls (.int i :: .ref a :: st)) with pc := pc + 1, stack := va_rf (f i.toNatClampNeg) :: st } : JFrame) = F0 (yM Y) pc' ls (va_rf (f i.toNatClampNeg) :: st) from by rw [← hp]]
      exact kk _ _ k2 n2 H locs cells slots ls h2 (by rw [hR]; exact hW) hS (by omega) (by omega) hl
    · cases h1
  · cases h1
theorem s_iast (C : sm_C Y g cc own ret nL fr lo emb th) (hR : yW Y = so_R g TA) (hA : yA Y = so_A g TA) (hd : decode cc pc = .ok (.iastore, 1)) {a : Nat} {i x : Int32} {G : Unit → PM Sto β} {K : β → PM Sto ρ} (pc' : Nat) (hp : pc + 1 = pc') (kk : Sim Y (pm_b (G ()) K) pc' L st) : Sim Y (pm_b (pm_b (pa_i 0 a i x) G) K) pc L (.int x :: .int i :: .ref a :: st) := by
  rw [pm_b_as]
  intro σ k1 n1 H locs cells slots ls hf hW hS hc hs hl
  obtain ⟨u, s1, k1, n1, k2, n2, h1, h2, rfl, rfl⟩ := pm_b_some.mp hf
  rw [hR] at hW
  unfold pa_i at h1
  split at h1
  · next t' n f e =>
    split at h1
    · next hc1 =>
      obtain ⟨rfl, hin⟩ := hc1
      cases h1
      have hlt : i.toNatClampNeg < n := Nat.not_le.mp fun q => hin (Or.inr q)
      refine W.iast C.x C.b (so_arrH hW e) ((so_tys C 0 rfl).1 n (fun j => .int (f j))) (fun q => by cases q) (by show ¬ (i < 0 ∨ (arrV _ _ _).slots.size ≤ _); rw [arrV_size]; exact hin) rfl rfl hd fun H1 e1 z oq => ?_
      rw [show ({ (F0 (yM Y) pc ls (.int x :: .int i :: .ref a :: st)) with pc := pc + 1, stack := st } : JFrame) = F0 (yM Y) pc' ls st from by rw [← hp]]
      refine kk _ k2 n2 H1 _ cells slots ls h2 ?_ (hS.put z oq (by rw [hA]; exact hW.A (so_arr_some.mp e))) (by omega) (by omega) hl
      rw [hR]
      refine hW.up (so_arr_some.mp e) ?_ oq z
      show H1[a]? = some (vp_cell _ _)
      rw [e1]
      rw [vp_cell_i, vp_cell_i, arrV_store]
      congr 2
      funext q
      by_cases hq : q = i.toNatClampNeg
      · subst hq
        simp [updV, upd, pa_nar, vp_nar]
        try rfl
      · simp [updV, upd, hq]
    · cases h1
  · cases h1
theorem s_zast (C : sm_C Y g cc own ret nL fr lo emb th) (hR : yW Y = so_R g TA) (hA : yA Y = so_A g TA) (hd : decode cc pc = .ok (.bastore, 1)) {a : Nat} {i x : Int32} {G : Unit → PM Sto β} {K : β → PM Sto ρ} (pc' : Nat) (hp : pc + 1 = pc') (kk : Sim Y (pm_b (G ()) K) pc' L st) : Sim Y (pm_b (pm_b (pa_i 1 a i x) G) K) pc L (.int x :: .int i :: .ref a :: st) := by
  rw [pm_b_as]
  intro σ k1 n1 H locs cells slots ls hf hW hS hc hs hl
  obtain ⟨u, s1, k1, n1, k2, n2, h1, h2, rfl, rfl⟩ := pm_b_some.mp hf
  rw [hR] at hW
  unfold pa_i at h1
  split at h1
  · next t' n f e =>
    split at h1
    · next hc1 =>
      obtain ⟨rfl, hin⟩ := hc1
      cases h1
      have hlt : i.toNatClampNeg < n := Nat.not_le.mp fun q => hin (Or.inr q)
      refine W.zast C.x C.b (so_arrH hW e) ((so_tys C 1 rfl).1 n (fun j => .int (f j))) (fun q => by cases q) (by show ¬ (i < 0 ∨ (arrV _ _ _).slots.size ≤ _); rw [arrV_size]; exact hin) rfl rfl hd fun H1 e1 z oq => ?_
      rw [show ({ (F0 (yM Y) pc ls (.int x :: .int i :: .ref a :: st)) with pc := pc + 1, stack := st } : JFrame) = F0 (yM Y) pc' ls st from by rw [← hp]]
      refine kk _ k2 n2 H1 _ cells slots ls h2 ?_ (hS.put z oq (by rw [hA]; exact hW.A (so_arr_some.mp e))) (by omega) (by omega) hl
      rw [hR]
      refine hW.up (so_arr_some.mp e) ?_ oq z
      show H1[a]? = some (vp_cell _ _)
      rw [e1]
      rw [vp_cell_i, vp_cell_i, arrV_store]
      congr 2
      funext q
      by_cases hq : q = i.toNatClampNeg
      · subst hq
        simp [updV, upd, pa_nar, vp_nar]
        try rfl
      · simp [updV, upd, hq]
    · cases h1
  · cases h1
theorem s_bast (C : sm_C Y g cc own ret nL fr lo emb th) (hR : yW Y = so_R g TA) (hA : yA Y = so_A g TA) (hd : decode cc pc = .ok (.bastore, 1)) {a : Nat} {i x : Int32} {G : Unit → PM Sto β} {K : β → PM Sto ρ} (pc' : Nat) (hp : pc + 1 = pc') (kk : Sim Y (pm_b (G ()) K) pc' L st) : Sim Y (pm_b (pm_b (pa_i 2 a i x) G) K) pc L (.int x :: .int i :: .ref a :: st) := by
  rw [pm_b_as]
  intro σ k1 n1 H locs cells slots ls hf hW hS hc hs hl
  obtain ⟨u, s1, k1, n1, k2, n2, h1, h2, rfl, rfl⟩ := pm_b_some.mp hf
  rw [hR] at hW
  unfold pa_i at h1
  split at h1
  · next t' n f e =>
    split at h1
    · next hc1 =>
      obtain ⟨rfl, hin⟩ := hc1
      cases h1
      have hlt : i.toNatClampNeg < n := Nat.not_le.mp fun q => hin (Or.inr q)
      refine W.bast C.x C.b (so_arrH hW e) ((so_tys C 2 rfl).1 n (fun j => .int (f j))) (fun q => by cases q) (by show ¬ (i < 0 ∨ (arrV _ _ _).slots.size ≤ _); rw [arrV_size]; exact hin) rfl rfl hd fun H1 e1 z oq => ?_
      rw [show ({ (F0 (yM Y) pc ls (.int x :: .int i :: .ref a :: st)) with pc := pc + 1, stack := st } : JFrame) = F0 (yM Y) pc' ls st from by rw [← hp]]
      refine kk _ k2 n2 H1 _ cells slots ls h2 ?_ (hS.put z oq (by rw [hA]; exact hW.A (so_arr_some.mp e))) (by omega) (by omega) hl
      rw [hR]
      refine hW.up (so_arr_some.mp e) ?_ oq z
      show H1[a]? = some (vp_cell _ _)
      rw [e1]
      rw [vp_cell_i, vp_cell_i, arrV_store]
      congr 2
      funext q
      by_cases hq : q = i.toNatClampNeg
      · subst hq
        simp [updV, upd, pa_nar, vp_nar]
        try rfl
      · simp [updV, upd, hq]
    · cases h1
  · cases h1
theorem s_last (C : sm_C Y g cc own ret nL fr lo emb th) (hR : yW Y = so_R g TA) (hA : yA Y = so_A g TA) (hd : decode cc pc = .ok (.lastore, 1)) {a : Nat} {i : Int32} {x : Int64} {G : Unit → PM Sto β} {K : β → PM Sto ρ} (pc' : Nat) (hp : pc + 1 = pc') (kk : Sim Y (pm_b (G ()) K) pc' L st) : Sim Y (pm_b (pm_b (pa_l a i x) G) K) pc L (.long x :: .int i :: .ref a :: st) := by
  rw [pm_b_as]
  intro σ k1 n1 H locs cells slots ls hf hW hS hc hs hl
  obtain ⟨u, s1, k1, n1, k2, n2, h1, h2, rfl, rfl⟩ := pm_b_some.mp hf
  rw [hR] at hW
  unfold pa_l at h1
  split at h1
  · next t' n f e =>
    split at h1
    · next hc1 =>
      obtain ⟨rfl, hin⟩ := hc1
      cases h1
      refine W.last C.x C.b (so_arrH hW e) ((so_tys C 3 rfl).1 n (fun j => .long (f j))) (fun q => by cases q) (by show ¬ (i < 0 ∨ (arrV _ _ _).slots.size ≤ _); rw [arrV_size]; exact hin) rfl rfl hd fun H1 e1 z oq => ?_
      rw [show ({ (F0 (yM Y) pc ls (.long x :: .int i :: .ref a :: st)) with pc := pc + 1, stack := st } : JFrame) = F0 (yM Y) pc' ls st from by rw [← hp]]
      refine kk _ k2 n2 H1 _ cells slots ls h2 ?_ (hS.put z oq (by rw [hA]; exact hW.A (so_arr_some.mp e))) (by omega) (by omega) hl
      rw [hR]
      refine hW.up (so_arr_some.mp e) ?_ oq z
      show H1[a]? = some (vp_cell _ _)
      rw [e1]
      rw [vp_cell_l, vp_cell_l, arrV_store]
      congr 2
      funext q
      by_cases hq : q = i.toNatClampNeg
      · subst hq
        simp [updV, vp_updL]
      · simp [updV, vp_updL, hq]
    · cases h1
  · cases h1
/-- castable to Object: every class of the list -/
theorem so_toObj (C : sm_C Y g cc own ret nL fr lo emb th) {ci : Nat} {q : vw_C} (h : vwCl[ci]? = some q) : va_Nw (.castable q.1 "java/lang/Object") (yS Y) := by
  refine C.k.2.1 _ ?_ rfl
  match ci, h with
  | 0, h => cases h; exact q2400
  | 1, h => cases h; exact q2401
  | 2, h => cases h; exact q2408
  | 3, h => cases h; exact q2409
  | 4, h => cases h; exact q2410
  | 5, h => cases h; exact q2411
  | 6, h => cases h; exact q2412
  | 7, h => cases h; exact q2413
  | 8, h => cases h; exact q2419
  | 9, h => cases h; exact q2420
  | 10, h => cases h; exact q2402
  | 11, h => cases h; exact q2404
  | 12, h => cases h; exact q2405
  | k + 13, h => cases h
theorem so_objH (C : sm_C Y g cc own ret nL fr lo emb th) {σ : Sto} {H : Heap} {a : Nat} {o : Nat × List Value} (hW : so_R g TA σ H) (h : so_obj a σ = some o) : ∃ (cell : Cell) (q : vw_C), H[a]? = some cell ∧ cell.vm = .none ∧ vwCl[o.1]? = some q ∧ (yS Y).vm.findClass q.1 = some cell.cls ∧ va_Nw (.castable q.1 "java/lang/Object") (yS Y) := by
  obtain ⟨r, h1, cell, q1, q2, q3, -⟩ := (hW.2.2.2 a _ (so_obj_some.mp h)).2
  exact ⟨cell, r, q1, q3, h1, by rw [q2]; exact (C.k.1.1 _ r h1).2.1, so_toObj C h1⟩
theorem s_aast (C : sm_C Y g cc own ret nL fr lo emb th) (hR : yW Y = so_R g TA) (hA : yA Y = so_A g TA) (hd : decode cc pc = .ok (.aastore, 1)) {a : Nat} {i : Int32} {x : Option Nat} {G : Unit → PM Sto β} {K : β → PM Sto ρ} (pc' : Nat) (hp : pc + 1 = pc') (kk : Sim Y (pm_b (G ()) K) pc' L st) : Sim Y (pm_b (pm_b (pa_q a i x) G) K) pc L (va_rf x :: .int i :: .ref a :: st) := by
  rw [pm_b_as]
  intro σ k1 n1 H locs cells slots ls hf hW hS hc hs hl
  obtain ⟨u, s1, k1, n1, k2, n2, h1, h2, rfl, rfl⟩ := pm_b_some.mp hf
  rw [hR] at hW
  unfold pa_q at h1
  split at h1
  · next t' n f e =>
    split at h1
    · next hc1 =>
      obtain ⟨rfl, hin, hob⟩ := hc1
      cases h1
      have hlt : i.toNatClampNeg < n := Nat.not_le.mp fun q => hin (Or.inr q)
      have h0 : ¬ i < 0 := fun q => hin (Or.inl q)
      have fin : ∀ H' : Heap, H'[a]? = some ((vp_cell (g.2.2.1 4) (n, .inr (.inr (.inr (.inr f))))).setSlot i.toNatClampNeg (va_rf x)) → H'.size = H.size → (∀ q, q ≠ a → H'[q]? = H[q]?) → YW Y H' (locs ++ [⟨a, i.toNatClampNeg⟩]) cells slots (F0 (yM Y) pc' ls st) := by
        intro H1 e1 z oq
        refine kk _ k2 n2 H1 _ cells slots ls h2 ?_ (hS.put z oq (by rw [hA]; exact hW.A (so_arr_some.mp e))) (by omega) (by omega) hl
        rw [hR]
        refine hW.up (so_arr_some.mp e) ?_ oq z
        show H1[a]? = some (vp_cell _ _)
        rw [e1]
        rw [vp_cell_q, vp_cell_q, arrV_store]
        congr 2
        funext q
        by_cases hq : q = i.toNatClampNeg
        · subst hq
          simp [updV, va_up]
        · simp [updV, va_up, hq]
      subst hp
      cases x with
      | none => exact va_WaastN (C := "java/lang/Object") C.x C.b (so_arrH hW e) ((so_tys C 4 rfl).1 n (fun j => va_rf (f j))) (fun h => by cases h) (by show ¬ (i < 0 ∨ (arrV _ _ _).slots.size ≤ _); rw [arrV_size]; exact hin) rfl rfl hd fin
      | some v =>
        obtain ⟨o, ho⟩ := Option.isSome_iff_exists.mp (hob v rfl)
        obtain ⟨cell, q, g1, g2, g3, g4, g5⟩ := so_objH C hW ho
        obtain ⟨kA, comp, k1', k2', k3, -⟩ := (so_tys C 4 rfl).2
        obtain ⟨c0, t0, f1, f2, f3⟩ := Cond.castable_spec (va_Nw.use (A := #[]) rfl g5)
        cases f1.symm.trans g4
        cases f2.symm.trans k3
        obtain ⟨kC, hkC, -⟩ := Vm.findClass_spec g4
        obtain ⟨kO, hkO, -⟩ := Vm.findClass_spec k3
        exact W.aast C.x C.b (so_arrH hW e) (fun q h => by cases h) (fun h => by cases h) k1' k2' rfl hkO ⟨h0, by show _ < (arrV _ _ _).slots.size; rw [arrV_size]; exact hlt⟩ g1 (fun q h => by rw [g2] at h; cases h) hkC f3 rfl rfl hd fin
    · cases h1
  · cases h1
theorem s_alen (C : sm_C Y g cc own ret nL fr lo emb th) (hR : yW Y = so_R g TA) (hd : decode cc pc = .ok (.arraylength, 1)) {a : Nat} {G : Int32 → PM Sto β} {K : β → PM Sto ρ} (pc' : Nat) (hp : pc + 1 = pc') (kk : ∀ x, Sim Y (pm_b (G x) K) pc' L (.int x :: st)) : Sim Y (pm_b (pm_b (a_n g a) G) K) pc L (.ref a :: st) := by
  rw [pm_b_as]
  intro σ k1 n1 H locs cells slots ls hf hW hS hc hs hl
  obtain ⟨x, s1, k1, n1, k2, n2, h1, h2, rfl, rfl⟩ := pm_b_some.mp hf
  rw [hR] at hW
  unfold a_n at h1
  split at h1
  · next ea =>
    cases h1
    obtain ⟨cell, h3, h4, h5, h6, h7, h8, h9⟩ := C.k.2.2.2.2.2.2.2.2.2.2.2.2.2.2.1
    subst ea
    refine W.alen (n := 0) C.x C.b (by rw [hS.2.1 _ (Array.getElem?_eq_some_iff.mp h3).1 h9]; exact h3) h4 (by rw [h7]; rfl) rfl rfl hd ?_
    subst hp
    exact kk _ _ k2 n2 H locs cells slots ls h2 (by rw [hR]; exact hW) hS (by omega) (by omega) hl
  · split at h1
    · next x e =>
      obtain ⟨t, n, z⟩ := x
      split at h1
      · next ht =>
        cases h1
        have hcell := so_arrH hW e
        have hty : ∃ ty, (sm_tys g)[t]? = some (g.2.2.1 t, ty) := by
          match t, ht with
          | 0, _ => exact ⟨_, rfl⟩
          | 1, _ => exact ⟨_, rfl⟩
          | 2, _ => exact ⟨_, rfl⟩
          | 3, _ => exact ⟨_, rfl⟩
          | 4, _ => exact ⟨_, rfl⟩
          | 5, _ => exact ⟨_, rfl⟩
        obtain ⟨ty, hty⟩ := hty
        have hsz : (vp_cell (g.2.2.1 t) (n, z)).slots.size = n := by
          rcases z with f | f | f | f | f <;> exact arrV_size _ _ _
        have hof : (yS Y).isArrayOf (vp_cell (g.2.2.1 t) (n, z)) ty := by
          rcases z with f | f | f | f | f
          · exact (so_tys C t hty).1 n (fun j => .int (f j))
          · exact (so_tys C t hty).1 n (fun j => .long (f j))
          · exact (so_tys C t hty).1 n (fun j => .float (f j))
          · exact (so_tys C t hty).1 n (fun j => .double (f j))
          · exact (so_tys C t hty).1 n (fun j => va_rf (f j))
        refine W.alen (n := Int32.ofNat n) C.x C.b hcell hof (by rw [hsz] <;> rfl) rfl rfl hd ?_
        subst hp
        exact kk _ _ k2 n2 H locs cells slots ls h2 (by rw [hR]; exact hW) hS (by omega) (by omega) hl
      · cases h1
    · cases h1
end SAR
