/-! THE STORE: what stands at an address (an array: its class' number of sm_tys, length, contents; an object: its class' number of vwCl, fields); the heap's size -/
abbrev sm_O : Type := (Nat × vp_A) ⊕ (Nat × List Value)
abbrev Sto : Type := (Nat → Option sm_O) × Nat
def so_e (g : sm_G) : sm_O → va_E
  | .inl x => .inl (g.2.2.1 x.1, x.2)
  | .inr o => .inr o
def so_R (g : sm_G) (TA : Nat → Prop) (σ : Sto) (H : Heap) : Prop := H.size = σ.2 ∧ g.2.2.2.1 ≤ σ.2 ∧ (∀ q, TA q → q < σ.2) ∧ ∀ (a : Nat) (o : sm_O), σ.1 a = some o → (g.2.2.2.1 ≤ a ∧ ¬ TA a) ∧ va_at (g.1, g.2.1) vwCl (a, so_e g o) H
def so_A (g : sm_G) (TA : Nat → Prop) : Nat → Prop := fun q => g.2.2.2.1 ≤ q ∧ ¬ TA q
def so_up (σ : Sto) (a : Nat) (o : sm_O) : Sto := (fun q => if q = a then some o else σ.1 q, σ.2)
def so_new (σ : Sto) (o : sm_O) : Sto := (fun q => if q = σ.2 then some o else σ.1 q, σ.2 + 1)
theorem so_R.up {g : sm_G} {TA : Nat → Prop} {σ : Sto} {H H1 : Heap} {a : Nat} {o0 o : sm_O} (h : so_R g TA σ H) (ha : σ.1 a = some o0) (he : va_at (g.1, g.2.1) vwCl (a, so_e g o) H1) (oq : ∀ q : Nat, q ≠ a → H1[q]? = H[q]?) (hz : H1.size = H.size) : so_R g TA (so_up σ a o) H1 := by
  refine ⟨hz.trans h.1, h.2.1, h.2.2.1, fun b x hb => ?_⟩
  by_cases hba : b = a
  · subst hba
    have e : x = o := by simpa [so_up] using hb.symm
    subst e
    exact ⟨(h.2.2.2 b o0 ha).1, he⟩
  · have e : σ.1 b = some x := by simpa [so_up, hba] using hb
    obtain ⟨h1, h2⟩ := h.2.2.2 b x e
    exact ⟨h1, h2.kept (oq b hba)⟩
theorem so_R.new {g : sm_G} {TA : Nat → Prop} {σ : Sto} {H H1 : Heap} {o : sm_O} (h : so_R g TA σ H) (he : va_at (g.1, g.2.1) vwCl (σ.2, so_e g o) H1) (oq : ∀ q : Nat, q < H.size → H1[q]? = H[q]?) (hz : H1.size = H.size + 1) : so_R g TA (so_new σ o) H1 := by
  have hs := h.1
  refine ⟨by show H1.size = σ.2 + 1; omega, by show _ ≤ σ.2 + 1; have := h.2.1; omega, fun q hq => by show q < σ.2 + 1; have := h.2.2.1 q hq; omega, fun b x hb => ?_⟩
  by_cases hba : b = σ.2
  · subst hba
    have e : x = o := by simpa [so_new] using hb.symm
    subst e
    exact ⟨⟨h.2.1, fun z => absurd (h.2.2.1 _ z) (Nat.lt_irrefl _)⟩, he⟩
  · have e : σ.1 b = some x := by simpa [so_new, hba] using hb
    obtain ⟨h1, h2⟩ := h.2.2.2 b x e
    exact ⟨h1, h2.kept (oq b h2.lt)⟩
theorem so_R.A {g : sm_G} {TA : Nat → Prop} {σ : Sto} {H : Heap} {a : Nat} {o : sm_O} (h : so_R g TA σ H) (ha : σ.1 a = some o) : so_A g TA a := (h.2.2.2 a o ha).1
def so_obj (a : Nat) (σ : Sto) : Option (Nat × List Value) := match σ.1 a with
  | some (.inr o) => some o
  | _ => none
def so_arr (a : Nat) (σ : Sto) : Option (Nat × vp_A) := match σ.1 a with
  | some (.inl x) => some x
  | _ => none
theorem so_obj_some {a : Nat} {σ : Sto} {o : Nat × List Value} : so_obj a σ = some o ↔ σ.1 a = some (.inr o) := by
  unfold so_obj
  constructor
  · intro h
    split at h
    · next e => rw [e, Option.some.inj h]
    · cases h
  · intro h; rw [h]
theorem so_arr_some {a : Nat} {σ : Sto} {o : Nat × vp_A} : so_arr a σ = some o ↔ σ.1 a = some (.inl o) := by
  unfold so_arr
  constructor
  · intro h
    split at h
    · next e => rw [e, Option.some.inj h]
    · cases h
  · intro h; rw [h]
/-- a field's value, of an object of one of these classes -/
def so_fld (cs : List Nat) (k a : Nat) (σ : Sto) : Option Value := (so_obj a σ).bind fun o => if o.1 ∈ cs then o.2[k]? else none
theorem so_fld_some {cs : List Nat} {k a : Nat} {σ : Sto} {v : Value} : so_fld cs k a σ = some v ↔ ∃ ci fs, σ.1 a = some (.inr (ci, fs)) ∧ ci ∈ cs ∧ fs[k]? = some v := by
  unfold so_fld
  constructor
  · intro h
    cases e : so_obj a σ with
    | none => rw [e] at h; cases h
    | some o =>
      rw [e, Option.bind_some] at h
      by_cases hc : o.1 ∈ cs
      · rw [if_pos hc] at h
        exact ⟨o.1, o.2, so_obj_some.mp e, hc, h⟩
      · rw [if_neg hc] at h; cases h
  · rintro ⟨ci, fs, h1, h2, h3⟩
    rw [so_obj_some.mpr h1, Option.bind_some, if_pos h2]
    exact h3
def g_i (cs : List Nat) (k a : Nat) : PM Sto Int32 := fun σ => match so_fld cs k a σ with
  | some (.int x) => some (x, σ, 0, 0)
  | _ => none
def g_r (cs : List Nat) (k a : Nat) : PM Sto Nat := fun σ => match so_fld cs k a σ with
  | some (.ref x) => some (x, σ, 0, 0)
  | _ => none
def g_q (cs : List Nat) (k a : Nat) : PM Sto (Option Nat) := fun σ => match so_fld cs k a σ with
  | some (.ref x) => some (some x, σ, 0, 0)
  | some .null => some (none, σ, 0, 0)
  | _ => none
/-- a field written -/
def p_f (cs : List Nat) (k a : Nat) (v : Value) : PM Sto Unit := fun σ => (so_obj a σ).bind fun o => if o.1 ∈ cs ∧ k < o.2.length then some ((), so_up σ a (.inr (o.1, o.2.set k v)), 0, 0) else none
theorem p_f_some {cs : List Nat} {k a : Nat} {v : Value} {σ σ' : Sto} {u : Unit} {x y : Nat} (h : p_f cs k a v σ = some (u, σ', x, y)) : ∃ ci fs, σ.1 a = some (.inr (ci, fs)) ∧ ci ∈ cs ∧ k < fs.length ∧ σ' = so_up σ a (.inr (ci, fs.set k v)) ∧ x = 0 ∧ y = 0 := by
  unfold p_f at h
  cases e : so_obj a σ with
  | none => rw [e] at h; cases h
  | some o =>
    rw [e, Option.bind_some] at h
    by_cases hc : o.1 ∈ cs ∧ k < o.2.length
    · rw [if_pos hc] at h
      cases h
      exact ⟨o.1, o.2, so_obj_some.mp e, hc.1, hc.2, rfl, rfl, rfl⟩
    · rw [if_neg hc] at h; cases h
/-- the field k of all these classes is ref.n : d -/
def sm_cd (ci : Nat) (C : String) (T : u_T) (N : Nat) (ty0 : Nat → FieldType) : Prop := vwCl[ci]? = some (C, T, N) ∧ (∀ w ∈ u_ws C T N, w ∈ lw_all) ∧ (∀ j, j < N → parseFieldDescriptor (T j).2.2.1 = some (ty0 j)) ∧ ∀ a, a < N → ∀ b, b < N → a ≠ b → (T a).2.1 ≠ (T b).2.1
def sm_fd (cs : List Nat) (k : Nat) (ref n d : String) (fin : Bool) (ty : FieldType) : Prop := ∀ ci ∈ cs, ∃ (C : String) (T : u_T) (N : Nat) (ty0 : Nat → FieldType), sm_cd ci C T N ty0 ∧ k < N ∧ T k = (ref, n, d, fin) ∧ parseFieldDescriptor d = some ty
theorem fd_n {k : Nat} {ref n d : String} {fin : Bool} {ty : FieldType} : sm_fd [] k ref n d fin ty := fun _ h => absurd h List.not_mem_nil
theorem fd_c {ci : Nat} {cs : List Nat} {k : Nat} {ref n d : String} {fin : Bool} {ty : FieldType} {C : String} {T : u_T} {N : Nat} {ty0 : Nat → FieldType} (h : sm_cd ci C T N ty0) (hk : k < N) (hT : T k = (ref, n, d, fin)) (hty : parseFieldDescriptor d = some ty) (r : sm_fd cs k ref n d fin ty) : sm_fd (ci :: cs) k ref n d fin ty := by
  intro c hc
  rcases List.mem_cons.mp hc with e | e
  · subst e; exact ⟨C, T, N, ty0, h, hk, hT, hty⟩
  · exact r c e
def sm_lk (own : String) (i : Nat) (ref n d : String) : Prop := Cond.fieldLink own i ref n d ∈ lw_all ∨ (∃ host, Cond.fieldLinkNest own i ref n d host ∈ lw_tbl) ∨ ∃ r2, Cond.fieldLink own i r2 n d ∈ lw_all ∧ Cond.sameField r2 ref n d ∈ lw_all
section SOB
variable {ρ α β : Type} {Y : sm_Y Sto ρ} {g : sm_G} {own : String} {ret : Option FieldType} {nL fr lo : Nat} {emb : ρ → Option Value ⊕ String} {th : Bool} {pc : Nat} {L L' : List (Nat × Value)} {st : List Value} {cc : ByteArray} {TA : Nat → Prop}
theorem so_slot (C : sm_C Y g cc own ret nL fr lo emb th) {H : Heap} {a ci : Nat} {fs : List Value} (hat : va_at (g.1, g.2.1) vwCl (a, .inr (ci, fs)) H) {cs : List Nat} {k : Nat} {ref n d : String} {fin : Bool} {ty : FieldType} (fd : sm_fd cs k ref n d fin ty) (hci : ci ∈ cs) :
    ∃ (cf : ClassId) (kf : Class) (fi : Nat) (f : Field) (cell : Cell), (yS Y).fieldFound? ref n d = some (cf, kf, fi, f) ∧ f.isStatic = false ∧ H[a]? = some cell ∧ cell.vm = .none ∧ ∀ v, fs[k]? = some v → cell.slots[f.slot]? = some v := by
  obtain ⟨C', T, N, ty0, ⟨hc, hin, hty, hnm⟩, hk, hT, hd⟩ := fd ci hci
  obtain ⟨r, h1, cell, q1, q2, q3, q4⟩ := hat
  have hr : r = (C', T, N) := Option.some.inj (h1.symm.trans hc)
  subst hr
  obtain ⟨hS, hfc, kC, hkC, hkind⟩ := C.k.1.1 ci _ hc
  obtain ⟨cf, kf, fi, f, hi, hsl⟩ := hS k hk
  have hst := (u_facts hfc hkC (u_lays C.w hin hk) hi).1
  dsimp only at hi
  rw [hT] at hi
  refine ⟨cf, kf, fi, f, cell, hi, hst, q1, q3, fun v hv => ?_⟩
  rw [hsl, q4 k hk]
  simp [vp_V, hv]
theorem so_getf (C : sm_C Y g cc own ret nL fr lo emb th) {cs : List Nat} {k : Nat} {ref n d : String} {fin : Bool} {ty : FieldType} (fd : sm_fd cs k ref n d fin ty) {i : Nat} (hq : sm_lk own i ref n d) (hd : decode cc pc = .ok (.getfield i, 3)) {H : Heap} {locs : List Loc} {cells slots : Nat} {ls : Array Slot} {a : Nat} {σ : Sto} {v : Value} (hR : so_R g TA σ H) (hv : so_fld cs k a σ = some v)
    (w : YW Y H locs cells slots (F0 (yM Y) (pc + 3) ls (v :: st))) : YW Y H locs cells slots (F0 (yM Y) pc ls (.ref a :: st)) := by
  obtain ⟨ci, fs, h1, h2, h3⟩ := so_fld_some.mp hv
  obtain ⟨cf, kf, fi, f, cell, e1, e2, e3, e4, e5⟩ := so_slot C (hR.2.2.2 a _ h1).2 fd h2
  rcases hq with hq | ⟨host, hq⟩ | ⟨r2, hq, hq2⟩
  · exact W.getf C.x C.b C.o (C.w _ hq) e1 e2 e3 (by rw [e4]; exact fun h => by cases h) (e5 v h3) rfl rfl hd w
  · exact va_Wgetf C.x C.b C.o (va_Nw.use rfl (C.k.2.1 _ hq rfl)) e1 e2 e3 (by rw [e4]; exact fun h => by cases h) (e5 v h3) rfl rfl hd w
  · exact W.getf C.x C.b C.o (C.w _ hq) (u_same (C.w _ hq2) _ e1) e2 e3 (by rw [e4]; exact fun h => by cases h) (e5 v h3) rfl rfl hd w
theorem s_getI (C : sm_C Y g cc own ret nL fr lo emb th) (hR : yW Y = so_R g TA) {cs : List Nat} {k : Nat} {ref n d : String} {fin : Bool} {ty : FieldType} (fd : sm_fd cs k ref n d fin ty) {i : Nat} (hq : sm_lk own i ref n d) (hd : decode cc pc = .ok (.getfield i, 3)) {a : Nat} {G : Int32 → PM Sto β} {K : β → PM Sto ρ} (pc' : Nat) (hp : pc + 3 = pc') (kk : ∀ x, Sim Y (pm_b (G x) K) pc' L (.int x :: st)) : Sim Y (pm_b (pm_b (g_i cs k a) G) K) pc L (.ref a :: st) := by
  rw [pm_b_as]
  intro σ k1 n1 H locs cells slots ls hf hW hS hc hs hl
  obtain ⟨x, s1, k1, n1, k2, n2, h1, h2, rfl, rfl⟩ := pm_b_some.mp hf
  unfold g_i at h1
  split at h1
  · next x' e =>
    cases h1
    refine so_getf C fd hq hd (by rw [← hR]; exact hW) e ?_
    rw [hp]
    exact kk _ σ k2 n2 H locs cells slots ls h2 hW hS (by omega) (by omega) hl
  · cases h1
theorem s_getR (C : sm_C Y g cc own ret nL fr lo emb th) (hR : yW Y = so_R g TA) {cs : List Nat} {k : Nat} {ref n d : String} {fin : Bool} {ty : FieldType} (fd : sm_fd cs k ref n d fin ty) {i : Nat} (hq : sm_lk own i ref n d) (hd : decode cc pc = .ok (.getfield i, 3)) {a : Nat} {G : Nat → PM Sto β} {K : β → PM Sto ρ} (pc' : Nat) (hp : pc + 3 = pc') (kk : ∀ x, Sim Y (pm_b (G x) K) pc' L (.ref x :: st)) : Sim Y (pm_b (pm_b (g_r cs k a) G) K) pc L (.ref a :: st) := by
  rw [pm_b_as]
  intro σ k1 n1 H locs cells slots ls hf hW hS hc hs hl
  obtain ⟨x, s1, k1, n1, k2, n2, h1, h2, rfl, rfl⟩ := pm_b_some.mp hf
  unfold g_r at h1
  split at h1
  · next x' e =>
    cases h1
    refine so_getf C fd hq hd (by rw [← hR]; exact hW) e ?_
    rw [hp]
    exact kk _ σ k2 n2 H locs cells slots ls h2 hW hS (by omega) (by omega) hl
  · cases h1
theorem s_getQ (C : sm_C Y g cc own ret nL fr lo emb th) (hR : yW Y = so_R g TA) {cs : List Nat} {k : Nat} {ref n d : String} {fin : Bool} {ty : FieldType} (fd : sm_fd cs k ref n d fin ty) {i : Nat} (hq : sm_lk own i ref n d) (hd : decode cc pc = .ok (.getfield i, 3)) {a : Nat} {G : Option Nat → PM Sto β} {K : β → PM Sto ρ} (pc' : Nat) (hp : pc + 3 = pc') (kk : ∀ x, Sim Y (pm_b (G x) K) pc' L (va_rf x :: st)) : Sim Y (pm_b (pm_b (g_q cs k a) G) K) pc L (.ref a :: st) := by
  rw [pm_b_as]
  intro σ k1 n1 H locs cells slots ls hf hW hS hc hs hl
  obtain ⟨x, s1, k1, n1, k2, n2, h1, h2, rfl, rfl⟩ := pm_b_some.mp hf
  unfold g_q at h1
  split at h1
  · next x' e =>
    cases h1
    refine so_getf C fd hq hd (by rw [← hR]; exact hW) e ?_
    rw [hp]
    exact kk (some x') σ k2 n2 H locs cells slots ls h2 hW hS (by omega) (by omega) hl
  · next e =>
    cases h1
    refine so_getf C fd hq hd (by rw [← hR]; exact hW) e ?_
    rw [hp]
    exact kk none σ k2 n2 H locs cells slots ls h2 hW hS (by omega) (by omega) hl
  · cases h1
/-- putfield, a field that isn't final -/
theorem s_put (C : sm_C Y g cc own ret nL fr lo emb th) (hR : yW Y = so_R g TA) (hA : yA Y = so_A g TA) {cs : List Nat} {k : Nat} {ref n d : String} {ty : FieldType} (fd : sm_fd cs k ref n d false ty) {i : Nat} (hq : sm_lk own i ref n d) (hd : decode cc pc = .ok (.putfield i, 3)) {a : Nat} {v : Value} (hn : narrow ty v = v) (hfit : fits ty v = true) {G : Unit → PM Sto β} {K : β → PM Sto ρ} (pc' : Nat) (hp : pc + 3 = pc') (kk : Sim Y (pm_b (G ()) K) pc' L st) : Sim Y (pm_b (pm_b (p_f cs k a v) G) K) pc L (v :: .ref a :: st) := by
  rw [pm_b_as]
  intro σ k1 n1 H locs cells slots ls hf hW hS hc hs hl
  obtain ⟨x, s1, k1, n1, k2, n2, h1, h2, rfl, rfl⟩ := pm_b_some.mp hf
  obtain ⟨ci, fs, g1, g2, g3, rfl, rfl, rfl⟩ := p_f_some h1
  rw [hR] at hW
  obtain ⟨C', T, N, ty0, ⟨hc', hin, hty, hnm⟩, hk, hT, hdd⟩ := fd ci g2
  have hat := (hW.2.2.2 a _ g1).2
  have hap := va_apart (own := own) C.w hin ty0 hty hnm C.k.1 hc'
  obtain ⟨r, r1, cell, q1, q2, q3, q4⟩ := hat
  have hr : r = (C', T, N) := Option.some.inj (r1.symm.trans hc')
  subst hr
  obtain ⟨hSl, hfc, kC, hkC, hkind⟩ := C.k.1.1 ci _ hc'
  obtain ⟨cf, kf, fi, f, hi, hsl⟩ := hSl k hk
  have hlay := C.w _ (hin _ (u_in_lay hk))
  unfold u_lay at hlay
  dsimp only at hi
  rw [hT] at hlay hi
  dsimp only at hi
  have hst := (u_facts hfc hkC (by have := u_lays C.w hin hk; rw [hT] at this; exact this) hi).1
  have h6 := u_store hfc hkC hkind hlay hi hdd hn hfit
  have fin : ∀ H' : Heap, H'[a]? = some (cell.setSlot f.slot v) → H'.size = H.size → (∀ q, q ≠ a → H'[q]? = H[q]?) → YW Y H' (locs ++ [⟨a, f.slot⟩]) cells slots (F0 (yM Y) (pc + 3) ls st) := by
    intro H' e1 e2 e3
    rw [hsl] at e1
    rw [hp]
    refine kk (so_up σ a (.inr (ci, fs.set k v))) k2 n2 H' _ cells slots ls h2 ?_ (hS.put e2 e3 (by rw [hA]; exact hW.A g1)) (by omega) (by omega) hl
    rw [hR]
    exact hW.up g1 ⟨_, hc', t_OB.to (V := updV (vp_V fs) k v) ⟨_, e1, q2, q3, t_set q4 hap hk v⟩ (fun j _ => vp_updV_set g3 v j)⟩ e3 e2
  rcases hq with hq | ⟨host, hq⟩ | ⟨r2, hq, hq2⟩
  · exact W.putK C.x C.b (f := f) ⟨C.o, C.w _ hq, ⟨_, _, _, hi⟩, hst⟩ (by rw [q2]; exact h6) q1 q3 (by rw [hsl]; exact k2_hasslot (q4 k hk)) rfl rfl hd fin
  · exact va_WputK C.x C.b (f := f) C.o (va_Nw.use rfl (C.k.2.1 _ hq rfl)) hi hst (by rw [q2]; exact h6) q1 q3 (by rw [hsl]; exact k2_hasslot (q4 k hk)) rfl rfl hd fin
  · exact W.putK C.x C.b (f := f) ⟨C.o, C.w _ hq, ⟨_, _, _, u_same (C.w _ hq2) _ hi⟩, hst⟩ (by rw [q2]; exact h6) q1 q3 (by rw [hsl]; exact k2_hasslot (q4 k hk)) rfl rfl hd fin
/-- putfield of a final field, in a constructor of its class -/
theorem s_putF (C : sm_C Y g cc own ret nL fr lo emb th) (hR : yW Y = so_R g TA) (hA : yA Y = so_A g TA) {cs : List Nat} {k : Nat} {n d : String} {ty : FieldType} (fd : sm_fd cs k own n d true ty) {i : Nat} (hq : Cond.fieldLink own i own n d ∈ lw_all) (hd : decode cc pc = .ok (.putfield i, 3)) (hmn : (yH Y).name = "<init>") {a : Nat} {v : Value} (hn : narrow ty v = v) (hfit : fits ty v = true) {G : Unit → PM Sto β} {K : β → PM Sto ρ} (pc' : Nat) (hp : pc + 3 = pc') (kk : Sim Y (pm_b (G ()) K) pc' L st) : Sim Y (pm_b (pm_b (p_f cs k a v) G) K) pc L (v :: .ref a :: st) := by
  rw [pm_b_as]
  intro σ k1 n1 H locs cells slots ls hf hW hS hc hs hl
  obtain ⟨x, s1, k1, n1, k2, n2, h1, h2, rfl, rfl⟩ := pm_b_some.mp hf
  obtain ⟨ci, fs, g1, g2, g3, rfl, rfl, rfl⟩ := p_f_some h1
  rw [hR] at hW
  obtain ⟨C', T, N, ty0, ⟨hc', hin, hty, hnm⟩, hk, hT, hdd⟩ := fd ci g2
  have hat := (hW.2.2.2 a _ g1).2
  have hap := va_apart (own := own) C.w hin ty0 hty hnm C.k.1 hc'
  obtain ⟨r, r1, cell, q1, q2, q3, q4⟩ := hat
  have hr : r = (C', T, N) := Option.some.inj (r1.symm.trans hc')
  subst hr
  obtain ⟨hSl, hfc, kC, hkC, hkind⟩ := C.k.1.1 ci _ hc'
  obtain ⟨cf, kf, fi, f, hi, hsl⟩ := hSl k hk
  have hlay := C.w _ (hin _ (u_in_lay hk))
  unfold u_lay at hlay
  dsimp only at hi
  rw [hT] at hlay hi
  dsimp only at hi
  have hst := (u_facts hfc hkC (by have := u_lays C.w hin hk; rw [hT] at this; exact this) hi).1
  have hcf : (yM Y).cls = cf := by
    obtain ⟨_, _, c', _, _, _, -, -, hf', -, -, -, hown2, -⟩ := Cond.laysFinal_spec hlay
    have e1 : c' = cf := by have := hi.symm.trans hf'; simp at this; exact this.1.symm
    rw [← e1]; exact Option.some.inj (C.o.symm.trans hown2)
  have h6 := u_fits hfc hkC hkind (Or.inr hlay) hi hdd hn hfit
  refine W.putFinK C.x C.b C.o (C.w _ hq) hi hst hcf hmn (by rw [q2]; exact h6) q1 q3 (by rw [hsl]; exact k2_hasslot (q4 k hk)) rfl rfl hd fun H' e1 e2 e3 => ?_
  rw [hsl] at e1
  rw [hsl]
  rw [show ({ (F0 (yM Y) pc ls (v :: .ref a :: st)) with pc := pc + 3, stack := st } : JFrame) = F0 (yM Y) pc' ls st from by rw [← hp]]
  refine kk (so_up σ a (.inr (ci, fs.set k v))) k2 n2 H' _ cells slots ls h2 ?_ (hS.put e2 e3 (by rw [hA]; exact hW.A g1)) (by omega) (by omega) hl
  rw [hR]
  exact hW.up g1 ⟨_, hc', t_OB.to (V := updV (vp_V fs) k v) ⟨_, e1, q2, q3, t_set q4 hap hk v⟩ (fun j _ => vp_updV_set g3 v j)⟩ e3 e2
end SOB
