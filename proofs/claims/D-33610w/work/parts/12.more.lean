section SMO
variable {ρ α β : Type} {Y : sm_Y Sto ρ} {g : sm_G} {own : String} {ret : Option FieldType} {nL fr lo : Nat} {emb : ρ → Option Value ⊕ String} {th : Bool} {pc : Nat} {L L' : List (Nat × Value)} {st : List Value} {cc : ByteArray} {TA : Nat → Prop}
theorem s_newa (C : sm_C Y g cc own ret nL fr lo emb th) (hR : yW Y = so_R g TA) (t : Nat) (atype : ArrayType) (hty : (sm_tys g)[t]? = some (g.2.2.1 t, newarray.typeOf atype)) (hdf : ∀ n : Nat, arrV (g.2.2.1 t) n (fun _ => defaultValue (newarray.typeOf atype)) = vp_cell (g.2.2.1 t) (n, if t = 3 then .inr (.inl fun _ => 0) else .inl fun _ => 0))
    (hpr : ∀ C, newarray.typeOf atype ≠ .object C) (hby : componentBytes (newarray.typeOf atype) ≤ 8) (hq : (Cond.arrayClass (newarray.typeOf atype)) ∈ lw_all) (hd : decode cc pc = .ok (.newarray atype, 2)) {n : Int32} {G : Nat → PM Sto β} {K : β → PM Sto ρ} (pc' : Nat) (hp : pc + 2 = pc') (kk : ∀ x, Sim Y (pm_b (G x) K) pc' L (.ref x :: st)) : Sim Y (pm_b (pm_b (n_a t n) G) K) pc L (.int n :: st) := by
  rw [pm_b_as]
  intro σ k1 n1 H locs cells slots ls hf hW hS hc hs hl
  obtain ⟨x, s1, k1, n1, k2, n2, h1, h2, rfl, rfl⟩ := pm_b_some.mp hf
  rw [hR] at hW
  unfold n_a at h1
  split at h1
  · cases h1
  · next hn =>
    cases h1
    have hn0 : ¬ n < 0 := fun z => hn (Or.inl z)
    have hn1 : n.toNatClampNeg ≤ 65536 := Nat.not_lt.mp fun z => hn (Or.inr z)
    refine va_newaK C.x C.b (C.w _ hq) rfl hd rfl hn0 rfl (Nat.le_trans (Nat.mul_le_mul hn1 hby) (by decide)) (by rw [C.rc]; omega) (by rw [C.rs]; omega) hW.1 fun H1 cA e1 z1 o1 _ hNm => ?_
    have hcA : cA = g.2.2.1 t := by
      have h := (so_tys C t hty).2
      unfold va_RA at h
      cases hta : newarray.typeOf atype with
      | object c0 => exact absurd hta (hpr c0)
      | _ =>
        rw [hta] at h hNm
        exact Option.some.inj (hNm.symm.trans h)
    subst hcA
    subst hp
    refine kk σ.2 _ k2 n2 H1 locs (cells + 1) (slots + n.toNatClampNeg) ls h2 ?_ ⟨Nat.le_trans hS.1 (by rw [z1, ← hW.1]; omega), fun q h3 h4 => by rw [o1 q (by rw [← hW.1]; exact Nat.lt_of_lt_of_le h3 hS.1)]; exact hS.2.1 q h3 h4, hS.2.2⟩ (by omega) (by omega) hl
    rw [hR]
    refine hW.new ?_ (fun q hq => o1 q (by rw [← hW.1]; exact hq)) (by rw [z1, hW.1])
    show H1[σ.2]? = some (vp_cell _ _)
    rw [e1, hdf]
theorem s_newq (C : sm_C Y g cc own ret nL fr lo emb th) (hR : yW Y = so_R g TA) {i : Nat} (hq : (Cond.classLink own i "java/lang/Object") ∈ lw_all) (hd : decode cc pc = .ok (.anewarray i, 3)) {n : Int32} {G : Nat → PM Sto β} {K : β → PM Sto ρ} (pc' : Nat) (hp : pc + 3 = pc') (kk : ∀ x, Sim Y (pm_b (G x) K) pc' L (.ref x :: st)) : Sim Y (pm_b (pm_b (n_q n) G) K) pc L (.int n :: st) := by
  rw [pm_b_as]
  intro σ k1 n1 H locs cells slots ls hf hW hS hc hs hl
  obtain ⟨x, s1, k1, n1, k2, n2, h1, h2, rfl, rfl⟩ := pm_b_some.mp hf
  rw [hR] at hW
  unfold n_q at h1
  split at h1
  · cases h1
  · next hn =>
    cases h1
    have hn0 : ¬ n < 0 := fun z => hn (Or.inl z)
    have hn1 : n.toNatClampNeg ≤ 65536 := Nat.not_lt.mp fun z => hn (Or.inr z)
    refine W.anew C.x C.b C.o (C.w _ hq) (va_AO.use C.k.2.2.2.1) rfl hd rfl hn0 (by omega) (by rw [C.rc]; omega) (by rw [C.rs]; omega) fun cA kA comp f1 f2 f3 f4 => ?_
    generalize hH1 : H.push ({ cls := cA, slots := Array.replicate n.toNatClampNeg .null, vm := .none } : Cell) = H1
    have z1 : H1.size = H.size + 1 := by rw [← hH1, Array.size_push]
    have e1 : H1[H.size]? = some (arrV cA n.toNatClampNeg (fun _ => .null)) := by rw [← hH1, Array.getElem?_push_size, ← arrV_new]
    have o1 : ∀ q : Nat, q < H.size → H1[q]? = H[q]? := fun q hq => by rw [← hH1, Array.getElem?_push, if_neg (Nat.ne_of_lt hq)]
    have hcA : cA = g.2.2.1 4 := by
      obtain ⟨_, _, _, _, _, h4⟩ := (so_tys C 4 rfl).2
      exact Option.some.inj (f1.symm.trans h4)
    subst hcA
    subst hp
    rw [show ({ (F0 (yM Y) pc ls (.int n :: st)) with pc := pc + 3, stack := .ref H.size :: st } : JFrame) = F0 (yM Y) (pc + 3) ls (.ref σ.2 :: st) from by rw [hW.1]]
    refine kk σ.2 _ k2 n2 H1 locs (cells + 1) (slots + n.toNatClampNeg) ls h2 ?_ ⟨Nat.le_trans hS.1 (by rw [z1]; omega), fun q h3 h4 => by rw [o1 q (Nat.lt_of_lt_of_le h3 hS.1)]; exact hS.2.1 q h3 h4, hS.2.2⟩ (by omega) (by omega) hl
    rw [hR]
    refine hW.new ?_ o1 z1
    show H1[σ.2]? = some (vp_cell _ _)
    rw [vp_cell_q, ← hW.1, e1]
    rfl
theorem s_new (C : sm_C Y g cc own ret nL fr lo emb th) (hR : yW Y = so_R g TA) {ci : Nat} {R : String} {T : u_T} {N : Nat} {ty0 : Nat → FieldType} (hcd : sm_cd ci R T N ty0) (hN : (so_df ci).length = N) (hdf : ∀ j, j < N → defaultValue (ty0 j) = vp_V (so_df ci) j) {i : Nat} (hq : (Cond.classLink own i R) ∈ lw_all) (hqi : (Cond.instantiable R N) ∈ lw_all) (hqn : (Cond.initialized R) ∈ lw_all) (hd : decode cc pc = .ok (.new i, 3)) {G : Nat → PM Sto β} {K : β → PM Sto ρ} (pc' : Nat) (hp : pc + 3 = pc') (kk : ∀ x, Sim Y (pm_b (G x) K) pc' L (.ref x :: st)) : Sim Y (pm_b (pm_b (n_o ci) G) K) pc L st := by
  rw [pm_b_as]
  intro σ k1 n1 H locs cells slots ls hf hW hS hc hs hl
  obtain ⟨x, s1, k1, n1, k2, n2, h1, h2, rfl, rfl⟩ := pm_b_some.mp hf
  rw [hR] at hW
  unfold n_o at h1
  cases h1
  obtain ⟨hcl, hin, hty, hnm⟩ := hcd
  have hKn := C.k.1.1 ci _ hcl
  rw [hN] at hs
  refine W.newcK C.x C.b C.o (C.w _ hq) (C.w _ hqi) (C.w _ hqn) rfl hd (by rw [C.rc]; omega) (by rw [C.rs]; omega) hKn.2.1 rfl fun H1 kC hkC e1 z1 o1 => ?_
  subst hp
  rw [show ({ (F0 (yM Y) pc ls st) with pc := pc + 3, stack := .ref H.size :: st } : JFrame) = F0 (yM Y) (pc + 3) ls (.ref σ.2 :: st) from by rw [hW.1]]
  refine kk σ.2 _ k2 n2 H1 locs (cells + 1) (slots + N) ls h2 ?_ ⟨Nat.le_trans hS.1 (by rw [z1]; omega), fun q h3 h4 => by rw [o1 q (Nat.lt_of_lt_of_le h3 hS.1)]; exact hS.2.1 q h3 h4, hS.2.2⟩ (by omega) (by omega) hl
  rw [hR]
  refine hW.new ?_ o1 z1
  rw [← hW.1]
  exact ⟨_, hcl, (u_born ty0 C.w hin hKn hkC e1 hty).to hdf⟩
theorem s_acq (C : sm_C Y g cc own ret nL fr lo emb th) (hR : yW Y = so_R g TA) (hA : yA Y = so_A g TA) {i : Nat} (hq : (Cond.methodLink own i arraycopyName) ∈ lw_all) (hqn : (Cond.native arraycopyName) ∈ lw_all) (hqs : (Cond.static arraycopyName) ∈ lw_all) (hqi : (Cond.initialized "java/lang/System") ∈ lw_all) (hfr : 1 ≤ fr) (hlo : (st.map fun v => v.category).sum + 28 ≤ lo) (hd : decode cc pc = .ok (.invokestatic i, 3)) {a b : Nat} {sp dp n : Int32} {G : Unit → PM Sto β} {K : β → PM Sto ρ} (pc' : Nat) (hp : pc + 3 = pc') (kk : Sim Y (pm_b (G ()) K) pc' L st) : Sim Y (pm_b (pm_b (ac_q a sp b dp n) G) K) pc L (.int n :: .int dp :: .ref b :: .int sp :: .ref a :: st) := by
  rw [pm_b_as]
  intro σ k1 k2' H locs cells slots ls hf hW hS hc hs hl
  obtain ⟨u, s1, k1, j1, k2, j2, h1, h2, rfl, rfl⟩ := pm_b_some.mp hf
  rw [hR] at hW
  unfold ac_q at h1
  split at h1
  · next t1 n1 f t2 n2 h ea eb =>
    split at h1
    · next hcond =>
      obtain ⟨⟨rfl, rfl⟩, ⟨g1, g2, g3⟩, g4, g5, g6⟩ := hcond
      cases h1
      have nn : ∀ z : Int32, ¬ z < 0 → z.toInt = (z.toNatClampNeg : Int) := by
        intro z hz
        have hz0 : (0 : Int) ≤ z.toInt := by
          have := Int32.not_lt.mp hz
          simpa using Int32.le_iff_toInt_le.mp this
        show z.toInt = ((z.toInt.toNat : Nat) : Int)
        omega
      have hc0 := so_arrH hW ea
      have hc1 := so_arrH hW eb
      intro T hT X
      obtain ⟨-, k0, hk0, cm0, hkk0⟩ := (so_tys C 4 rfl).1 n1 (fun j => va_rf (f j))
      obtain ⟨-, k1', hk1, cm1, hkk1⟩ := (so_tys C 4 rfl).1 n2 (fun j => va_rf (h j))
      obtain ⟨vm', X', step⟩ := X.arraycopy C.x C.o (C.w _ hq) (C.w _ hqn) (C.w _ hqs) (C.w _ hqi) (src := a) (dst := b) (cs := vp_cell (g.2.2.1 4) (n1, .inr (.inr (.inr (.inr f))))) (cd := vp_cell (g.2.2.1 4) (n2, .inr (.inr (.inr (.inr h))))) (srcPos := sp) (destPos := dp) (n := n) (by rw [hT]; exact hc0) (by rw [hT]; exact hc1)
        (fun _ h => by cases h) (fun _ h => by cases h) (fun h => by cases h) (fun h => by cases h) hk0 hk1 hkk0 hkk1 rfl g1 g2 g3
        (by rw [nn sp g1, nn n g3]; show ¬ _ > ((arrV _ n1 (fun j => va_rf (f j))).slots.size : Int); rw [arrV_size]; omega)
        (by rw [nn dp g2, nn n g3]; show ¬ _ > ((arrV _ n2 (fun j => va_rf (h j))).slots.size : Int); rw [arrV_size]; omega)
        (fun vm₁ hal i hi => by
          have e : (vp_cell (g.2.2.1 4) (n1, .inr (.inr (.inr (.inr f))))).slots.getD (sp.toNatClampNeg + i) .null = va_rf (f (sp.toNatClampNeg + i)) := by
            show (arrV _ n1 (fun j => va_rf (f j))).slots.getD _ _ = _
            rw [Array.getD_eq_getD_getElem?, arrV_read _ _ (by omega)]
            rfl
          rw [e]
          have hall := List.all_eq_true.mp g6 i (List.mem_range.mpr hi)
          cases hy : f (sp.toNatClampNeg + i) with
          | none => exact ⟨rfl, trivial⟩
          | some y =>
            rw [hy] at hall
            obtain ⟨o, ho⟩ := Option.isSome_iff_exists.mp hall
            obtain ⟨cellV, q, v1, v2, v3, v4, v5⟩ := so_objH C hW ho
            obtain ⟨kA, comp, r1, r2, r3, -⟩ := (so_tys C 4 rfl).2
            cases hk1.symm.trans r1
            cases hkk1.symm.trans r2
            obtain ⟨c0, t0, f1, f2, f3⟩ := Cond.castable_spec (va_Nw.use (A := #[]) rfl v5)
            cases f1.symm.trans v4
            cases f2.symm.trans r3
            obtain ⟨kC, hkC, -⟩ := Vm.findClass_spec v4
            obtain ⟨kE, hkE, -⟩ := Vm.findClass_spec r3
            obtain ⟨kC', hkC', -⟩ := hal.2.2 _ _ hkC
            obtain ⟨kE', hkE', -⟩ := hal.2.2 _ _ hkE
            refine ⟨rfl, cellV, (show T.heap[y]? = some cellV by rw [hT]; exact v1), (fun q h => by rw [h] at v2; cases v2), ⟨kC', hkC'⟩, ?_, ?_⟩
            · exact ⟨kE', hkE'⟩
            · show vm₁.assignable _ _ = true
              rw [hal.assignable]
              exact f3)
        (g := F0 (yM Y) pc ls (.int n :: .int dp :: .ref b :: .int sp :: .ref a :: st)) rfl (by rw [C.ml]; exact hl.1.trans C.n) (rest := st) rfl (by rw [C.b]; exact hd) (by rw [C.rf]; exact hfr) (by show 2 * 0 + _ + _ ≤ _; rw [C.rl]; have hw : nativeFrameWords "java/lang/System" "arraycopy" 5 ≤ 17 := (by decide); omega)
      have e1 : copied (vp_cell (g.2.2.1 4) (n1, .inr (.inr (.inr (.inr f))))) (vp_cell (g.2.2.1 4) (n2, .inr (.inr (.inr (.inr h))))) sp dp n = vp_cell (g.2.2.1 4) (n2, .inr (.inr (.inr (.inr (va_cpy f h sp.toNatClampNeg dp.toNatClampNeg n.toNatClampNeg))))) := by
        rw [vp_cell_q, vp_cell_q, vp_cell_q]
        exact va_copied (fun z => va_rf z) _ _ f h g4
      rw [e1] at X' step
      have hlb : b < H.size := (Array.getElem?_eq_some_iff.mp hc1).1
      have hheap : ((T.setVm vm').setCell b (vp_cell (g.2.2.1 4) (n2, .inr (.inr (.inr (.inr (va_cpy f h sp.toNatClampNeg dp.toNatClampNeg n.toNatClampNeg))))))).heap = H.setIfInBounds b (vp_cell (g.2.2.1 4) (n2, .inr (.inr (.inr (.inr (va_cpy f h sp.toNatClampNeg dp.toNatClampNeg n.toNatClampNeg)))))) := by rw [← hT]; rfl
      generalize hH1 : H.setIfInBounds b (vp_cell (g.2.2.1 4) (n2, .inr (.inr (.inr (.inr (va_cpy f h sp.toNatClampNeg dp.toNatClampNeg n.toNatClampNeg)))))) = H1 at hheap
      have oq : ∀ q : Nat, q ≠ b → H1[q]? = H[q]? := fun q hq => by rw [← hH1]; simp [Array.getElem?_setIfInBounds, Ne.symm hq]
      have z1 : H1.size = H.size := by rw [← hH1]; simp
      have e2 : H1[b]? = some (vp_cell (g.2.2.1 4) (n2, .inr (.inr (.inr (.inr (va_cpy f h sp.toNatClampNeg dp.toNatClampNeg n.toNatClampNeg)))))) := by rw [← hH1]; simp [Array.getElem?_setIfInBounds, hlb]
      subst hp
      have hAb : yA Y b := by rw [hA]; exact hW.A (so_arr_some.mp eb)
      obtain ⟨t, a1, b1⟩ := kk _ k2 j2 H1 _ cells slots ls h2 (by rw [hR]; exact hW.up (so_arr_some.mp eb) e2 oq z1) ⟨by rw [z1]; exact hS.1, fun q g1 g2 => by
          rw [oq q (fun e => g2 (by rw [e]; exact hAb))]
          exact hS.2.1 q g1 g2, fun q hq => by
          rcases List.mem_append.mp hq with h | h
          · exact hS.2.2 q h
          · obtain ⟨z, -, hz⟩ := List.mem_map.mp h
            rw [← hz]
            exact hAb⟩ (by omega) (by omega) hl _ hheap X'
      exact ⟨t, step t a1, b1⟩
    · cases h1
  · cases h1
/-- Math -/
def j_max (x y : Int32) : Int32 := if x < y then y else x
def j_min (x y : Int32) : Int32 := if y < x then y else x
def j_abs (x : Int32) : Int32 := if 0 ≤ x then x else 0 - x
end SMO
section SMM
variable {S ρ : Type} {Y : sm_Y S ρ} {g : sm_G} {own : String} {ret : Option FieldType} {nL fr lo : Nat} {emb : ρ → Option Value ⊕ String} {th : Bool} {f : PM S ρ} {pc : Nat} {L L' : List (Nat × Value)} {st : List Value} {cc : ByteArray}
theorem s_max (C : sm_C Y g cc own ret nL fr lo emb th) {i : Nat} (hq : (Cond.methodLink own i Lib.Math.max.name) ∈ lw_all) (hqs : (Cond.static Lib.Math.max.name) ∈ lw_all) (hqi : (Cond.initialized "java/lang/Math") ∈ lw_all) (hqc : (Cond.code Lib.Math.max.name Lib.Math.max.code 2 (some .int)) ∈ lw_all) (hfr : 1 ≤ fr) (hlo : (st.map fun v => v.category).sum + 13 ≤ lo) {x y : Int32} (hd : decode cc pc = .ok (.invokestatic i, 3)) (pc' : Nat) (hp : pc + 3 = pc') (kk : Sim Y f pc' L (.int (j_max x y) :: st)) : Sim Y f pc L (.int y :: .int x :: st) := by
  intro σ k n H locs cells slots ls hf hW hS hc hs hl
  exact va_mmax C.x C.b (by rw [C.ml]; exact (hl.1.trans C.n).symm) C.o (C.w _ hq) (C.w _ hqs) (C.w _ hqi) (C.w _ hqc) (by rw [C.rf]; exact hfr) (by rw [C.rl]; exact hlo) (by rw [C.rc]; omega) (by rw [C.rs]; omega) hd (by rw [hp]; exact kk σ k n H locs cells slots ls hf hW hS hc hs hl)
theorem s_min (C : sm_C Y g cc own ret nL fr lo emb th) {i : Nat} (hq : (Cond.methodLink own i Lib.Math.min.name) ∈ lw_all) (hqs : (Cond.static Lib.Math.min.name) ∈ lw_all) (hqi : (Cond.initialized "java/lang/Math") ∈ lw_all) (hqc : (Cond.code Lib.Math.min.name Lib.Math.min.code 2 (some .int)) ∈ lw_all) (hfr : 1 ≤ fr) (hlo : (st.map fun v => v.category).sum + 13 ≤ lo) {x y : Int32} (hd : decode cc pc = .ok (.invokestatic i, 3)) (pc' : Nat) (hp : pc + 3 = pc') (kk : Sim Y f pc' L (.int (j_min x y) :: st)) : Sim Y f pc L (.int y :: .int x :: st) := by
  intro σ k n H locs cells slots ls hf hW hS hc hs hl
  exact va_mmin C.x C.b (by rw [C.ml]; exact (hl.1.trans C.n).symm) C.o (C.w _ hq) (C.w _ hqs) (C.w _ hqi) (C.w _ hqc) (by rw [C.rf]; exact hfr) (by rw [C.rl]; exact hlo) (by rw [C.rc]; omega) (by rw [C.rs]; omega) hd (by rw [hp]; exact kk σ k n H locs cells slots ls hf hW hS hc hs hl)
theorem s_abs (C : sm_C Y g cc own ret nL fr lo emb th) {i : Nat} (hq : (Cond.methodLink own i Lib.Math.abs.name) ∈ lw_all) (hqs : (Cond.static Lib.Math.abs.name) ∈ lw_all) (hqi : (Cond.initialized "java/lang/Math") ∈ lw_all) (hqc : (Cond.code Lib.Math.abs.name Lib.Math.abs.code 1 (some .int)) ∈ lw_all) (hfr : 1 ≤ fr) (hlo : (st.map fun v => v.category).sum + 13 ≤ lo) {x : Int32} (hd : decode cc pc = .ok (.invokestatic i, 3)) (pc' : Nat) (hp : pc + 3 = pc') (kk : Sim Y f pc' L (.int (j_abs x) :: st)) : Sim Y f pc L (.int x :: st) := by
  intro σ k n H locs cells slots ls hf hW hS hc hs hl
  exact va_mabs C.x C.b (by rw [C.ml]; exact (hl.1.trans C.n).symm) C.o (C.w _ hq) (C.w _ hqs) (C.w _ hqi) (C.w _ hqc) (by rw [C.rf]; exact hfr) (by rw [C.rl]; exact hlo) (by rw [C.rc]; omega) (by rw [C.rs]; omega) hd (by rw [hp]; exact kk σ k n H locs cells slots ls hf hW hS hc hs hl)
theorem s_objInit (C : sm_C Y g cc own ret nL fr lo emb th) {i : Nat} (hq : (Cond.methodLink own i Lib.objectInit) ∈ lw_all) (hqi : (Cond.instanceMethod Lib.objectInit) ∈ lw_all) (hqc : (Cond.code Lib.objectInit ⟨#[0xb1]⟩ 1 none) ∈ lw_all) (hfr : 1 ≤ fr) (hlo : (st.map fun v => v.category).sum + 12 ≤ lo) {a : Nat} (hd : decode cc pc = .ok (.invokespecial i, 3)) (pc' : Nat) (hp : pc + 3 = pc') (kk : Sim Y f pc' L st) : Sim Y f pc L (.ref a :: st) := by
  intro σ k n H locs cells slots ls hf hW hS hc hs hl
  refine W.objInit C.x C.b C.o (C.w _ hq) (C.w _ hqi) (C.w _ hqc) rfl (by rw [C.ml]; exact hl.1.trans C.n) rfl hd (by rw [C.rf]; exact hfr) (by rw [C.rl]; show 2 * 0 + _ + 12 ≤ _; omega) ?_
  subst hp
  exact kk σ k n H locs cells slots ls hf hW hS hc hs hl
theorem s_idiv (C : sm_C Y g cc own ret nL fr lo emb th) {x y : Int32} (hd : decode cc pc = .ok (.idiv, 1)) (hne : ¬ y = 0) (pc' : Nat) (hp : pc + 1 = pc') (kk : Sim Y f pc' L (.int (x / y) :: st)) : Sim Y f pc L (.int y :: .int x :: st) := s_mono (fun H locs cells slots ls hl w => lv_idiv C.x C.b hd hne (by rw [hp]; exact w)) kk
end SMM
/-- a division by what isn't known not to be nought -/
def pm_dv {S : Type} (x y : Int32) : PM S Int32 := if y = 0 then pm_n else pm_r (x / y)
