/-! METHODS WITH HANDLERS: the contract, its walk, a call -/
def sm_CH {S α : Type} (l : Launch) (g : sm_G) (Rl : S → Heap → Prop) (A : Nat → Prop) (y : MethodName) (cc : ByteArray) (nL : Nat) (ret : Option FieldType) (hh : List (Nat × Nat × Nat × Nat)) (fr lo : Nat) (av : List Value) (emb : α → Option Value ⊕ String) (f : PM S α) : Prop :=
  ∀ (σ : S) (r : α) (σ' : S) (k n : Nat), f σ = some (r, σ', k, n) → Met l y (wsW_ y cc nL ret hh) { frames := fr, cells := k, slots := n, locals := lo } (sm_Pc g Rl A av σ) (sm_Qq Rl A emb r σ') k n A
theorem sm_ofH {S α : Type} {l : Launch} {g : sm_G} {Rl : S → Heap → Prop} {A : Nat → Prop} {y : MethodName} {cc : ByteArray} {nL : Nat} {ret : Option FieldType} {hh : List (Nat × Nat × Nat × Nat)} {fr lo : Nat} {av : List Value} {emb : α → Option Value ⊕ String} {f : PM S α} {own : String}
    (ho : y.cls = own) (hy : plainName y.cls = true) (hn : (lg_sl av).length ≤ nL) (body : ∀ Y : sm_Y S α, sm_C Y g cc own ret nL fr lo emb false → yW Y = Rl → yA Y = A → yL Y = l → (yH Y).name = y.name → (yC Y).exceptionTable.toList = tableOf hh → Sim Y f 0 (lv_args 0 av) []) : sm_CH l g Rl A y cc nL ret hh fr lo av emb f := by
  intro σ r σ' k n hf
  refine va_MetW (cc := cc) (maxL := nL) (ret := ret) (hh := hh) hy rfl ?_
  intro p e s m args below meth c s₁ B hml hv
  obtain ⟨rfl, hW, hK, hA⟩ := hv
  have hts0 := atoms_spec (ws := wsW_ y cc nL ret hh) B.pre
  have hts : ∀ w ∈ lw_all, w.before _ s = true := fun w h => hts0 w (List.mem_cons_of_mem _ h)
  have hl := lv_entry av (n := nL) hn
  rw [lg_entry_eq]
  have hb := body ((p, l, e, (headSpec (wsW_ y cc nL ret hh) { frames := fr, cells := k, slots := n, locals := lo }).room, s, m, av.toArray, below, meth, c), Rl, A, MQ below (sm_Qq Rl A emb r σ') av.toArray s k n A, (r, σ'), k, n, nL)
    ⟨B.exec, B.bytes, hml, rfl, by rw [← ho]; exact findClass_of_methodNamed B.named, hts, B.returns, B.notSynchronized, hK, ⟨rfl, rfl, rfl, rfl⟩, hA, fun _ => rfl, (fun h => by cases h), rfl⟩ rfl rfl rfl (name_of_methodNamed B.named B.method).1
    (vx_table (x := y) B (hts0 _ List.mem_cons_self))
  exact hb σ k n s.heap [] 0 0 _ hf hW va_S.rf (by show 0 + k ≤ k; omega) (by show 0 + n ≤ n; omega) hl
section SXH
variable {S ρ α β : Type} {Y : sm_Y S ρ} {g : sm_G} {own : String} {ret : Option FieldType} {nL fr lo : Nat} {emb : ρ → Option Value ⊕ String} {th : Bool} {pc : Nat} {L : List (Nat × Value)} {st0 rest : List Value} {cc : ByteArray} {emb2 : α → Option Value ⊕ String} {F : PM S ρ} {E : String}
/-- an exception of class E, thrown here, is taken by one of this method's handlers, and the rest is F -/
def sx_H (Y : sm_Y S ρ) (pc : Nat) (L : List (Nat × Value)) (rest : List Value) (E : String) (F : PM S ρ) : Prop :=
  ∀ (σ : S) (k n : Nat) (H : Heap) (locs : List Loc) (cells slots : Nat) (ls : Array Slot) (ce : Cell) (q : Nat), F σ = some ((yF Y).1, (yF Y).2, k, n) → yW Y σ H → va_S (yA Y) (yS Y).heap H locs → cells + k ≤ yc Y → slots + n ≤ ys Y → lv_has ls (yn Y) L → H[q]? = some ce → ce.vm = .none → (yS Y).vm.findClass E = some ce.cls → YX Y H locs cells slots (F0 (yM Y) pc ls rest) q
theorem sx_n {K : α → PM S ρ} : sx_H Y pc L rest E (pm_b pm_n K) := by
  intro σ k n H locs cells slots ls ce q hf
  cases hf
theorem sx_if {s : String} {A B : PM S α} {K : α → PM S ρ} (h1 : sx_H Y pc L rest s (pm_b A K)) (h2 : sx_H Y pc L rest E (pm_b B K)) : sx_H Y pc L rest E (pm_b (if E = s then A else B) K) := by
  by_cases e : E = s
  · rw [if_pos e]; subst e; exact h1
  · rw [if_neg e]; exact h2
theorem sx_catch (C : sm_C Y g cc own ret nL fr lo emb th) {hh : List (Nat × Nat × Nat × Nat)} (ht : (yC Y).exceptionTable.toList = tableOf hh) {name : String} (pre : List ExceptionTableEntry) (x : ExceptionTableEntry) (suf : List ExceptionTableEntry) (hsplit : tableOf hh = pre ++ x :: suf) (hpass : ∀ z ∈ pre, covers z pc = false ∨ (z.catchType ≠ 0 ∧ ∃ nm : String, Cond.classLink own z.catchType nm ∈ lw_all ∧ (E, nm) ∈ sm_nc)) (hx : covers x pc = true) (h0 : x.catchType ≠ 0) (hlink : Cond.classLink own x.catchType name ∈ lw_all) (hcast : Cond.castable E name ∈ lw_tbl) (pc' : Nat) (hp : x.handlerPc = pc') (kk : ∀ q, Sim Y F pc' L [.ref q]) : sx_H Y pc L rest E F := by
  intro σ k n H locs cells slots ls ce q hf hW hS hc hs hl hq hv hcl
  refine vx_catch C.o pre x suf (ht.trans hsplit) (fun z hz => ?_) hx h0 (C.w _ hlink) (va_Nw.use rfl (C.k.2.1 _ hcast rfl)) hq hv hcl (by rw [hp]; exact kk q σ k n H locs cells slots ls hf hW hS hc hs hl)
  rcases hpass z hz with h | ⟨h, nm, h1, h2⟩
  · exact Or.inl h
  · exact Or.inr ⟨h, nm, C.w _ h1, C.k.2.2.1 _ h2⟩
theorem s_callH_i {f : PM S (Int32 ⊕ String)} (hr : sm_RX Y pc L st0 rest (em_x em_i) f) {G : Int32 → PM S β} {GX : String → PM S β} {K : β → PM S ρ} (pc' : Nat) (hp : pc + 3 = pc') (kx : ∀ E, sx_H Y pc L rest E (pm_b (GX E) K)) (kk : ∀ r, Sim Y (pm_b (G r) K) pc' L (.int r :: rest)) : Sim Y (pm_b (pm_b f (Sum.elim G GX)) K) pc L st0 := by
  rw [pm_b_as]
  subst hp
  refine s_callX0 hr (fun r E σ k n H locs cells slots ls ce q he hf hW hS hc hs hl hq hv hcl => ?_) (fun r o he => ?_)
  · cases r with
    | inl v => cases he
    | inr E' =>
      have e : E' = E := Sum.inr.inj he
      subst e
      exact kx E' σ k n H locs cells slots ls ce q hf hW hS hc hs hl hq hv hcl
  · cases r with
    | inl v => cases he; exact kk v
    | inr E' => cases he
variable {f : PM S α} {y : MethodName} {cc2 : ByteArray} {nL2 fr2 lo2 i : Nat} {ret2 : Option FieldType}
theorem rn_SH (C : sm_C Y g cc own ret nL fr lo emb th) {As : List Value} {hh : List (Nat × Nat × Nat × Nat)} (hct : sm_CH (yL Y) g (yW Y) (yA Y) y cc2 nL2 ret2 hh fr2 lo2 As emb2 f) (hw : GoodIn lw_all (va_wsS own i y (wsW_ y cc2 nL2 ret2 hh))) (hn : y.cls ≠ "java/lang/invoke/MethodHandle" ∧ y.cls ≠ "java/lang/invoke/VarHandle" ∧ (parseMethodDescriptor y.desc).map (fun d => d.parameters.length) = some As.length) (hroom : fr2 + 1 ≤ fr ∧ 8 + (nL2 + 11) + lo2 ≤ lo) (hst : st0 = As.reverse ++ rest) (hcat : (rest.map fun v => v.category).sum ≤ 8) (hd : decode cc pc = .ok (.invokestatic i, 3)) : sm_Rn Y pc L st0 rest emb2 f := by
  intro σ r σ1 k n H locs cells slots ls hf hW hS hc hs hl
  exact ⟨_, vx_runSW (As := As) (rest := rest) (sm_fixed C) (hct σ r σ1 k n hf) (vx_cwSW As.length C.w hw rfl rfl rfl hn ⟨by rw [C.rf]; exact hroom.1, by rw [C.rl]; exact hroom.2⟩) (sm_preS C hW hS) rfl rfl (hl.1.trans C.n) hst (lv_room hcat) hd ⟨by rw [C.rc]; exact hc, by rw [C.rs]; exact hs⟩⟩
theorem ch_at {l : Launch} {Rl : S → Heap → Prop} {A : Nat → Prop} {nL2 fr2 lo2 : Nat} {av : List Value} {hh : List (Nat × Nat × Nat × Nat)} (hR : yW Y = Rl) (hA : yA Y = A) (h : sm_CH l g Rl A y cc2 nL2 ret2 hh fr2 lo2 av emb2 f) : sm_CH l g (yW Y) (yA Y) y cc2 nL2 ret2 hh fr2 lo2 av emb2 f := by rw [hR, hA]; exact h
end SXH
