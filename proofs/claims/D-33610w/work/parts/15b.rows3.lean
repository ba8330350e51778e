section SR3
variable {S ρ α β γ τ : Type} {Y : sm_Y S ρ} {g : sm_G} {own : String} {ret : Option FieldType} {nL fr lo : Nat} {emb : ρ → Option Value ⊕ String} {th : Bool} {f : PM S ρ} {pc : Nat} {L L' : List (Nat × Value)} {st : List Value} {cc : ByteArray}
theorem s_dconst0 (C : sm_C Y g cc own ret nL fr lo emb th) (hd : decode cc pc = .ok (.dconst 0, 1)) (pc' : Nat) (hp : pc + 1 = pc') (kk : Sim Y f pc' L (.double FP.dconst0 :: st)) : Sim Y f pc L st := s_mono (fun H locs cells slots ls hl w => lv_dconst0 C.x C.b hd (by rw [hp]; exact w)) kk
theorem sw_out {x : Int32} (n : Nat) (h : ∀ k : Nat, k < n → ¬ x = Int32.ofNat k) : x.toInt < 0 ∨ (n : Int) - 1 < x.toInt := by
  rcases Int.lt_or_le x.toInt 0 with q | q
  · exact Or.inl q
  · right
    rcases Int.lt_or_le ((n : Int) - 1) x.toInt with q2 | q2
    · exact q2
    · exfalso
      have hx : x.toInt < 2 ^ 31 := x.toInt_lt
      refine h x.toInt.toNat (by omega) ?_
      apply Int32.toInt_inj.mp
      have e := nI_toInt (n := x.toInt.toNat) (by omega)
      unfold nI at e
      rw [e]
      omega
theorem sw_ne {x c : Int32} (h : ¬ x = c) : x.toInt ≠ c.toInt := fun e => h (Int32.toInt_inj.mp e)
theorem s_tab (C : sm_C Y g cc own ret nL fr lo emb th) {A B : PM S α} {K : α → PM S ρ} {x : Int32} {dflt low hi : Int} {offs : Array Int} {len : Nat} (hd : decode cc pc = .ok (.tableswitch dflt low hi offs, len)) (c : Int32) (off : Int) (t : Nat) (h1 : ¬ c.toInt < low) (h2 : ¬ hi < c.toInt) (ho : offs[(c.toInt - low).toNat]? = some off) (ht : (pc : Int) + off = (t : Int)) (kt : Sim Y (pm_b A K) t L st) (kf : ¬ x = c → Sim Y (pm_b B K) pc L (.int x :: st)) : Sim Y (pm_b (if x = c then A else B) K) pc L (.int x :: st) := by
  by_cases e : x = c
  · rw [if_pos e]; subst e; exact s_mono (fun H locs cells slots ls hl w => lv_tableIn C.x C.b hd h1 h2 ho ht w) kt
  · rw [if_neg e]; exact kf e
theorem s_tabD (C : sm_C Y g cc own ret nL fr lo emb th) {x : Int32} {dflt hi : Int} {offs : Array Int} {len n : Nat} (hd : decode cc pc = .ok (.tableswitch dflt 0 hi offs, len)) (t : Nat) (h : x.toInt < 0 ∨ (n : Int) - 1 < x.toInt) (hn : hi = (n : Int) - 1 ∧ (pc : Int) + dflt = (t : Int)) (kk : Sim Y f t L st) : Sim Y f pc L (.int x :: st) :=
  s_mono (fun H locs cells slots ls hl w => lv_tableOut C.x C.b hd (by rw [hn.1]; exact h) hn.2 w) kk
theorem s_lku (C : sm_C Y g cc own ret nL fr lo emb th) {A B : PM S α} {K : α → PM S ρ} {x : Int32} {dflt : Int} {ps : Array (Int × Int)} {len : Nat} (hd : decode cc pc = .ok (.lookupswitch dflt ps, len)) (c : Int32) (off : Int) (t : Nat) (hp : (ps.toList.zip (ps.toList.drop 1)).all (fun (a, next) => a.1 < next.1) = true) (ho : Op.lookupswitch.offset ps.toList dflt c.toInt = off) (ht : (pc : Int) + off = (t : Int)) (kt : Sim Y (pm_b A K) t L st) (kf : ¬ x = c → Sim Y (pm_b B K) pc L (.int x :: st)) : Sim Y (pm_b (if x = c then A else B) K) pc L (.int x :: st) := by
  by_cases e : x = c
  · rw [if_pos e]; subst e; exact s_mono (fun H locs cells slots ls hl w => lv_lookup C.x C.b hd hp ho ht w) kt
  · rw [if_neg e]; exact kf e
theorem lk_dflt {ps : List (Int × Int)} {dflt x : Int} (h : ∀ q ∈ ps.map (fun a => a.1), x ≠ q) : Op.lookupswitch.offset ps dflt x = dflt := by
  induction ps with
  | nil => simp [Op.lookupswitch.offset]
  | cons a r ih =>
    have h1 := h a.1 (by simp)
    have h2 := ih (fun q hq => h q (by simp only [List.map_cons, List.mem_cons]; exact Or.inr hq))
    unfold Op.lookupswitch.offset at h2 ⊢
    simp_all
    try (intro z; exact absurd z.symm h1)
theorem s_lkuD (C : sm_C Y g cc own ret nL fr lo emb th) {x : Int32} {dflt : Int} {ps : Array (Int × Int)} {len : Nat} (hd : decode cc pc = .ok (.lookupswitch dflt ps, len)) (t : Nat) (hp : (ps.toList.zip (ps.toList.drop 1)).all (fun (a, next) => a.1 < next.1) = true) (h : ∀ q ∈ ps.toList.map (fun a => a.1), x.toInt ≠ q) (ht : (pc : Int) + dflt = (t : Int)) (kk : Sim Y f t L st) : Sim Y f pc L (.int x :: st) :=
  s_mono (fun H locs cells slots ls hl w => lv_lookup C.x C.b hd hp (lk_dflt h) ht w) kk
theorem s_d2l (C : sm_C Y g cc own ret nL fr lo emb th) {i : Nat} (hq : Cond.methodLink own i ⟨"java/lang/Double", "doubleToRawLongBits", "(D)J"⟩ ∈ lw_all) (hqn : Cond.native ⟨"java/lang/Double", "doubleToRawLongBits", "(D)J"⟩ ∈ lw_all) (hqs : Cond.static ⟨"java/lang/Double", "doubleToRawLongBits", "(D)J"⟩ ∈ lw_all) (hqi : Cond.initialized "java/lang/Double" ∈ lw_all) (hfr : 1 ≤ fr) (hlo : (st.map fun v => v.category).sum + 15 ≤ lo) {b : UInt64} (hd : decode cc pc = .ok (.invokestatic i, 3)) (pc' : Nat) (hp : pc + 3 = pc') (kk : Sim Y f pc' L (.long b.toInt64 :: st)) : Sim Y f pc L (.double b :: st) := by
  intro σ k n H locs cells slots ls hf hW hS hc hs hl
  exact vn_d2l C.x C.b (by rw [C.ml]; exact (hl.1.trans C.n).symm) C.o (C.w _ hq) (C.w _ hqn) (C.w _ hqs) (C.w _ hqi) (by rw [C.rf]; exact hfr) (by rw [C.rl]; exact hlo) hd (by rw [hp]; exact kk σ k n H locs cells slots ls hf hW hS hc hs hl)
theorem s_ldcM (C : sm_C Y g cc own ret nL fr lo emb th) {i : Nat} (hq : Cond.classLink own i "[Ljava/lang/Object;" ∈ lw_all) (hd : decode cc pc = .ok (.ldc i, 2)) (pc' : Nat) (hp : pc + 2 = pc') (kk : Sim Y f pc' L (.ref (g.2.2.2.2 4) :: st)) : Sim Y f pc L st :=
  s_mono (fun H locs cells slots ls hl w => va_ldcM C.x C.b C.o (C.w _ hq) C.k.2.2.2.2.2.2.2.2.2.2.2.2.2.2.2.2.2.2.1 hd (by rw [hp]; exact w)) kk
end SR3
/-- an array of this kind stands here -/
def c_a (t a : Nat) : PM Sto Unit := fun σ => match so_arr a σ with
  | some x => if x.1 = t then some ((), σ, 0, 0) else none
  | none => none
/-- a Way's number, its step -/
def w_if {α : Type} (g : sm_G) (a : Nat) (f0 f1 : PM Sto α) : PM Sto α := if a = g.2.2.2.2 0 then f0 else if a = g.2.2.2.2 1 then f1 else pm_n
/-- Way.values() -/
def w_vals (g : sm_G) : PM Sto Nat := fun σ => some (σ.2, so_new σ (.inl (5, 2, .inr (.inr (.inr (.inr (fun i => some (if i = 0 then g.2.2.2.2 0 else g.2.2.2.2 1))))))), 1, 2)
section SR4
variable {ρ α β : Type} {Y : sm_Y Sto ρ} {g : sm_G} {own : String} {ret : Option FieldType} {nL fr lo : Nat} {emb : ρ → Option Value ⊕ String} {th : Bool} {pc : Nat} {L : List (Nat × Value)} {st st0 rest : List Value} {cc : ByteArray} {TA : Nat → Prop}
theorem c_a_some {t a : Nat} {σ : Sto} {v : Unit × Sto × Nat × Nat} (h : c_a t a σ = some v) : ∃ x, so_arr a σ = some (t, x) ∧ v = ((), σ, 0, 0) := by
  unfold c_a at h
  split at h
  · next x e =>
    split at h
    · next ht =>
      obtain ⟨t', x⟩ := x
      subst ht
      exact ⟨x, e, (Option.some.inj h).symm⟩
    · cases h
  · cases h
/-- getClass() of an Object[] -/
theorem s_getC (C : sm_C Y g cc own ret nL fr lo emb th) (hR : yW Y = so_R g TA) {i : Nat} (hq : Cond.methodLink own i ⟨"java/lang/Object", "getClass", "()Ljava/lang/Class;"⟩ ∈ lw_all) (hqd : Cond.declares ⟨"java/lang/Object", "getClass", "()Ljava/lang/Class;"⟩ ∈ lw_tbl) (hqs : Cond.selects "[Ljava/lang/Object;" ⟨"java/lang/Object", "getClass", "()Ljava/lang/Class;"⟩ ⟨"java/lang/Object", "getClass", "()Ljava/lang/Class;"⟩ ∈ lw_all) (hqi : Cond.instanceMethod ⟨"java/lang/Object", "getClass", "()Ljava/lang/Class;"⟩ ∈ lw_all) (hqn : Cond.native ⟨"java/lang/Object", "getClass", "()Ljava/lang/Class;"⟩ ∈ lw_all) (hfr : 1 ≤ fr) (hlo : (st.map fun v => v.category).sum + 14 ≤ lo) (hd : decode cc pc = .ok (.invokevirtual i, 3)) {a : Nat} {G : Unit → PM Sto β} {K : β → PM Sto ρ} (pc' : Nat) (hp : pc + 3 = pc') (kk : Sim Y (pm_b (G ()) K) pc' L (.ref (g.2.2.2.2 4) :: st)) : Sim Y (pm_b (pm_b (c_a 4 a) G) K) pc L (.ref a :: st) := by
  rw [pm_b_as]
  intro σ k1 n1 H locs cells slots ls hf hW hS hc hs hl
  obtain ⟨y, s1, k1, n1, k2, n2, h1, h2, rfl, rfl⟩ := pm_b_some.mp hf
  rw [hR] at hW
  obtain ⟨x, e, hv⟩ := c_a_some h1
  cases hv
  have hH := so_arrH hW e
  have hfc := va_nmO (nm := "[Ljava/lang/Object;") (so_tys C 4 rfl).2 (by decide +kernel)
  refine va_getC C.x C.b (by rw [C.ml]; exact (hl.1.trans C.n).symm) C.o (C.w _ hq) (va_Nw.use rfl (C.k.2.1 _ hqd rfl)) (C.w _ hqs) (C.w _ hqi) (C.w _ hqn) C.k.2.2.2.2.2.2.2.2.2.2.2.2.2.2.2.2.2.2.1 ⟨_, hH, by obtain ⟨n, f | f | f | f | f⟩ := x <;> rfl, by rw [hfc]; obtain ⟨n, f | f | f | f | f⟩ := x <;> rfl⟩ (by rw [C.rf]; exact hfr) (by rw [C.rl]; exact hlo) hd ?_
  rw [hp]
  exact kk σ k2 n2 H locs cells slots ls h2 (by rw [hR]; exact hW) hS (by omega) (by omega) hl
/-- Way's $VALUES cloned -/
theorem s_clone (C : sm_C Y g cc own ret nL fr lo emb th) (hR : yW Y = so_R g TA) {i : Nat} (hq : Cond.methodLink own i ⟨"[LPatchCords$Way;", "clone", "()Ljava/lang/Object;"⟩ ∈ lw_all) (hq2 : Cond.sameMethod "[LPatchCords$Way;" "java/lang/Object" "clone" "()Ljava/lang/Object;" ∈ lw_all) (hqn : Cond.native ⟨"java/lang/Object", "clone", "()Ljava/lang/Object;"⟩ ∈ lw_all) (hqi : Cond.instanceMethod ⟨"java/lang/Object", "clone", "()Ljava/lang/Object;"⟩ ∈ lw_all) (hqs : Cond.selects "[LPatchCords$Way;" ⟨"[LPatchCords$Way;", "clone", "()Ljava/lang/Object;"⟩ ⟨"java/lang/Object", "clone", "()Ljava/lang/Object;"⟩ ∈ lw_all) (hqc : Cond.castable "[LPatchCords$Way;" "java/lang/Cloneable" ∈ lw_tbl) (hfr : 1 ≤ fr) (hlo : (st.map fun v => v.category).sum + 14 ≤ lo) (hd : decode cc pc = .ok (.invokevirtual i, 3)) {G : Nat → PM Sto β} {K : β → PM Sto ρ} (pc' : Nat) (hp : pc + 3 = pc') (kk : ∀ x, Sim Y (pm_b (G x) K) pc' L (.ref x :: st)) : Sim Y (pm_b (pm_b (w_vals g) G) K) pc L (.ref (g.2.2.2.2 2) :: st) := by
  rw [pm_b_as]
  intro σ k1 n1 H locs cells slots ls hf hW hS hc hs hl
  obtain ⟨y, s1, k1, n1, k2, n2, h1, h2, rfl, rfl⟩ := pm_b_some.mp hf
  rw [hR] at hW
  unfold w_vals at h1
  cases h1
  obtain ⟨⟨⟨c0, hcell0, hcl0, hvs0, hvu0, hsl0⟩, hnA⟩, hnm, -⟩ := C.k.2.2.2.2.2.2.2.2.2.2.2.2.2.2.2
  obtain ⟨x, hx⟩ : ∃ x : vp_A, x = (2, .inr (.inr (.inr (.inr (fun i => some (if i = 0 then g.2.2.2.2 0 else g.2.2.2.2 1)))))) := ⟨_, rfl⟩
  rw [← hx] at hsl0 h2
  have hcellH : H[g.2.2.2.2 2]? = some c0 := by rw [hS.2.1 _ (Array.getElem?_eq_some_iff.mp hcell0).1 hnA]; exact hcell0
  have hsz : c0.slots.size = 2 := by rw [hsl0, hx]; exact arrV_size _ _ _
  have hcellE : ({ cls := c0.cls, slots := c0.slots } : Cell) = vp_cell (g.2.2.1 5) x := by rw [hsl0, hcl0, hx]; rfl
  have hfit : ∀ (i : Nat) (v : Value), c0.slots[i]? = some v → fits (.object "PatchCords$Way") v = true := by
    intro i v hv
    have hlt := (Array.getElem?_eq_some_iff.mp hv).1
    rw [hsz] at hlt
    rw [hsl0, hx] at hv
    have hv2 : (arrV (g.2.2.1 5) 2 (fun j => va_rf (some (if j = 0 then g.2.2.2.2 0 else g.2.2.2.2 1)))).slots[i]? = some v := hv
    rw [arrV_read _ _ hlt] at hv2
    cases hv2
    rfl
  obtain ⟨cc0, t0', f1, f2, f3⟩ := Cond.castable_spec (va_Nw.use (A := yG Y) rfl (C.k.2.1 _ hqc rfl))
  cases hnm.symm.trans f1
  intro T hT X
  have hcellT : T.heap[g.2.2.2.2 2]? = some c0 := by rw [hT]; exact hcellH
  obtain ⟨-, kA, hkA, comp, hkind⟩ := State.isArrayOf_alike X.warmed.alike ((so_tys C 5 rfl).1 0 (fun _ => .null))
  obtain ⟨-, kS, hkS, compS, hkindS⟩ := (so_tys C 5 rfl).1 0 (fun _ => .null)
  obtain ⟨vm', X', st'⟩ := X.cloneArray C.x C.o (C.w _ hq) (C.w _ hq2) (C.w _ hqn) (C.w _ hqi) (C.w _ hqs) (a := g.2.2.2.2 2) (cell := c0) hcellT (fun k h => by rw [h] at hvs0; cases hvs0) hvu0 (by rw [hcl0]; exact hnm) f2 (by rw [hcl0]; exact f3)
    (fun i v hv => by
      rw [hcl0]
      have hk' : T.vm.classes[g.2.2.1 5]? = some kA := hkA
      simpa [State.fitsSlot, State.slotType?, hk', hkind] using hfit i v hv)
    (g := F0 (yM Y) pc ls (.ref (g.2.2.2.2 2) :: st)) rfl (by rw [C.ml]; exact hl.1.trans C.n) rfl (by rw [C.b]; exact hd) (by rw [C.rf]; exact hfr) (by rw [C.rl]; show 2 * 0 + _ + 14 ≤ _; omega) (by rw [C.rc]; omega) (by rw [C.rs, hsz]; omega) (hloader := by rw [hcl0]; exact Vm.clonesLoader_of_array hkS hkindS)
  rw [hcellE, hsz] at X'
  generalize hH1 : H.push (vp_cell (g.2.2.1 5) x) = H1
  have z1 : H1.size = H.size + 1 := by rw [← hH1, Array.size_push]
  have e1 : H1[H.size]? = some (vp_cell (g.2.2.1 5) x) := by rw [← hH1, Array.getElem?_push_size]
  have o1 : ∀ q : Nat, q < H.size → H1[q]? = H[q]? := fun q hq => by rw [← hH1, Array.getElem?_push, if_neg (Nat.ne_of_lt hq)]
  subst hp
  obtain ⟨t, b1, b2⟩ := kk σ.2 _ k2 n2 H1 locs (cells + 1) (slots + 2) ls h2 (by rw [hR]; exact hW.new (by rw [← hW.1]; exact e1) o1 z1) ⟨Nat.le_trans hS.1 (by rw [z1]; omega), fun q h3 h4 => by rw [o1 q (Nat.lt_of_lt_of_le h3 hS.1)]; exact hS.2.1 q h3 h4, hS.2.2⟩ (by omega) (by omega) hl
    ((T.setVm vm').pushCell (vp_cell (g.2.2.1 5) x)) (by rw [← hH1, ← hT]; rfl) X'
  refine ⟨t, st' t ?_, b2⟩
  rw [hcellE, hT, hW.1]
  exact b1
/-- checkcast of that array -/
theorem s_castW (C : sm_C Y g cc own ret nL fr lo emb th) (hR : yW Y = so_R g TA) {i : Nat} (hq : Cond.classLink own i "[LPatchCords$Way;" ∈ lw_all) (hd : decode cc pc = .ok (.checkcast i, 3)) {a : Nat} {G : Unit → PM Sto β} {K : β → PM Sto ρ} (pc' : Nat) (hp : pc + 3 = pc') (kk : Sim Y (pm_b (G ()) K) pc' L (.ref a :: st)) : Sim Y (pm_b (pm_b (c_a 5 a) G) K) pc L (.ref a :: st) := by
  rw [pm_b_as]
  intro σ k1 n1 H locs cells slots ls hf hW hS hc hs hl
  obtain ⟨y, s1, k1, n1, k2, n2, h1, h2, rfl, rfl⟩ := pm_b_some.mp hf
  rw [hR] at hW
  obtain ⟨x, e, hv⟩ := c_a_some h1
  cases hv
  have hP : va_P (g.1, g.2.1) vwCl [(a, .inl (g.2.2.1 5, x))] H := by
    intro k q hk
    match k, hk with
    | 0, hk => cases hk; exact so_arrH hW e
    | k + 1, hk => simp at hk
  subst hp
  exact va_castA C.x C.b C.o (C.w _ hq) hP 0 rfl C.k.2.2.2.2.2.2.2.2.2.2.2.2.2.2.2.2.1 hd (kk σ k2 n2 H locs cells slots ls h2 (by rw [hR]; exact hW) hS (by omega) (by omega) hl)
/-- a call on a Way: which of the two it is -/
theorem rn_W {a : Nat} {f0 f1 : PM Sto α} {emb2 : α → Option Value ⊕ String} (h0 : a = g.2.2.2.2 0 → sm_Rn Y pc L st0 rest emb2 f0) (h1 : a = g.2.2.2.2 1 → sm_Rn Y pc L st0 rest emb2 f1) : sm_Rn Y pc L st0 rest emb2 (w_if g a f0 f1) := by
  unfold w_if
  by_cases e0 : a = g.2.2.2.2 0
  · rw [if_pos e0]; exact h0 e0
  · rw [if_neg e0]
    by_cases e1 : a = g.2.2.2.2 1
    · rw [if_pos e1]; exact h1 e1
    · rw [if_neg e1]
      intro σ r σ1 k n H locs cells slots ls hf
      cases hf
theorem rv_W0 (C : sm_C Y g cc own ret nL fr lo emb th) {a : Nat} {f : PM Sto α} (ha : a = g.2.2.2.2 0) : sm_rv Y "PatchCords$Way$1" a f := by
  intro σ H v _ _ hS
  obtain ⟨cell, h1, h2, h3, h4⟩ := C.k.2.2.2.2.2.2.2.2.2.2.1
  subst ha
  exact ⟨cell, by rw [hS.2.1 _ (Array.getElem?_eq_some_iff.mp h1).1 h4]; exact h1, h2, h3⟩
theorem rv_W1 (C : sm_C Y g cc own ret nL fr lo emb th) {a : Nat} {f : PM Sto α} (ha : a = g.2.2.2.2 1) : sm_rv Y "PatchCords$Way$2" a f := by
  intro σ H v _ _ hS
  obtain ⟨cell, h1, h2, h3, h4⟩ := C.k.2.2.2.2.2.2.2.2.2.2.2.1
  subst ha
  exact ⟨cell, by rw [hS.2.1 _ (Array.getElem?_eq_some_iff.mp h1).1 h4]; exact h1, h2, h3⟩
/-- Enum.ordinal's own getfield -/
theorem s_ord (C : sm_C Y g cc own ret nL fr lo emb th) {i : Nat} (hq : Cond.fieldLink own i "java/lang/Enum" "ordinal" "I" ∈ lw_all) (hd : decode cc pc = .ok (.getfield i, 3)) {a : Nat} {G : Int32 → PM Sto β} {K : β → PM Sto ρ} (pc' : Nat) (hp : pc + 3 = pc') (kk : ∀ x, Sim Y (pm_b (G x) K) pc' L (.int x :: st)) : Sim Y (pm_b (pm_b (w_if g a (pm_r 0) (pm_r 1)) G) K) pc L (.ref a :: st) := by
  rw [pm_b_as]
  unfold w_if
  subst hp
  by_cases e0 : a = g.2.2.2.2 0
  · rw [if_pos e0, pm_r_b]
    obtain ⟨cf, k, fi, f, cell, h1, h2, h3, h4, h5, h6⟩ := C.k.2.2.2.2.2.2.2.2.2.2.2.2.1
    intro σ k1 n1 H locs cells slots ls hf hW hS hc hs hl
    subst e0
    exact W.getf C.x C.b C.o (C.w _ hq) h1 h2 (by rw [hS.2.1 _ (Array.getElem?_eq_some_iff.mp h3).1 h6]; exact h3) h4 h5 rfl rfl hd (kk 0 σ k1 n1 H locs cells slots ls hf hW hS hc hs hl)
  · rw [if_neg e0]
    by_cases e1 : a = g.2.2.2.2 1
    · rw [if_pos e1, pm_r_b]
      obtain ⟨cf, k, fi, f, cell, h1, h2, h3, h4, h5, h6⟩ := C.k.2.2.2.2.2.2.2.2.2.2.2.2.2.1
      intro σ k1 n1 H locs cells slots ls hf hW hS hc hs hl
      subst e1
      exact W.getf C.x C.b C.o (C.w _ hq) h1 h2 (by rw [hS.2.1 _ (Array.getElem?_eq_some_iff.mp h3).1 h6]; exact h3) h4 h5 rfl rfl hd (kk 1 σ k1 n1 H locs cells slots ls hf hW hS hc hs hl)
    · rw [if_neg e1]; exact s_none1
end SR4
