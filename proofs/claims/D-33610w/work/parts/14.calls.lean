/-! CALLS -/
def pm_on {α : Type} (ci b : Nat) (f : PM Sto α) : PM Sto α := fun σ => if so_cls b σ = some ci then f σ else none
def pm_vd {α : Type} (cs : List Nat) (b : Nat) (tbl : Nat → PM Sto α) : PM Sto α := fun σ => match so_cls b σ with
  | some ci => if ci ∈ cs then tbl ci σ else none
  | none => none
/-- a call out of this place runs f, and leaves rest and the answer -/
def sm_Rn {S ρ α : Type} (Y : sm_Y S ρ) (pc : Nat) (L : List (Nat × Value)) (st0 rest : List Value) (emb2 : α → Option Value ⊕ String) (f : PM S α) : Prop :=
  ∀ (σ : S) (r : α) (σ1 : S) (k n : Nat) (H : Heap) (locs : List Loc) (cells slots : Nat) (ls : Array Slot), f σ = some (r, σ1, k, n) → yW Y σ H → va_S (yA Y) (yS Y).heap H locs → cells + k ≤ yc Y → slots + n ≤ ys Y → lv_has ls (yn Y) L →
    ∃ a, va_Run (yP Y) (yL Y) (yE Y) (yR Y) (yS Y) (yM Y) (yG Y) (yB Y) (yH Y) (yC Y) H locs cells slots k n (F0 (yM Y) pc ls st0) rest (sm_Qq (yW Y) (yA Y) emb2 r σ1 a) (yA Y)
def sm_RX {S ρ α : Type} (Y : sm_Y S ρ) (pc : Nat) (L : List (Nat × Value)) (st0 rest : List Value) (emb2 : α → Option Value ⊕ String) (f : PM S α) : Prop :=
  ∀ (σ : S) (r : α) (σ1 : S) (k n : Nat) (H : Heap) (locs : List Loc) (cells slots : Nat) (ls : Array Slot), f σ = some (r, σ1, k, n) → yW Y σ H → va_S (yA Y) (yS Y).heap H locs → cells + k ≤ yc Y → slots + n ≤ ys Y → lv_has ls (yn Y) L →
    ∃ a, vx_Run (yP Y) (yL Y) (yE Y) (yR Y) (yS Y) (yM Y) (yG Y) (yB Y) (yH Y) (yC Y) H locs cells slots k n (F0 (yM Y) pc ls st0) rest (sm_Qq (yW Y) (yA Y) emb2 r σ1 a) (sm_Xq (yW Y) (yA Y) emb2 r σ1) (yA Y)
section SCL
variable {S ρ α β : Type} {Y : sm_Y S ρ} {g : sm_G} {own : String} {ret : Option FieldType} {nL fr lo : Nat} {emb : ρ → Option Value ⊕ String} {th : Bool} {pc : Nat} {L : List (Nat × Value)} {st0 rest : List Value} {cc : ByteArray} {emb2 : α → Option Value ⊕ String} {f : PM S α}
theorem sm_stepS {A : Nat → Prop} {H0 H H1 : Heap} {locs L2 : List Loc} (hS : va_S A H0 H locs) (hz : H.size ≤ H1.size) (hk : ∀ q : Nat, q < H.size → ¬ A q → H1[q]? = H[q]?) (hL : ∀ q ∈ L2, A q.base) : va_S A H0 H1 (locs ++ L2) :=
  ⟨Nat.le_trans hS.1 hz, fun q h1 h2 => by rw [hk q (Nat.lt_of_lt_of_le h1 hS.1) h2]; exact hS.2.1 q h1 h2, fun q hq => by
    rcases List.mem_append.mp hq with h | h
    · exact hS.2.2 q h
    · exact hL q h⟩
theorem s_call (hr : sm_Rn Y pc L st0 rest emb2 f) {G : α → PM S ρ} (kk : ∀ r o, emb2 r = .inl o → Sim Y (G r) (pc + 3) L (o.toList ++ rest)) : Sim Y (pm_b f G) pc L st0 := by
  intro σ k n H locs cells slots ls hf hW hS hc hs hl
  obtain ⟨r, s1, k1, n1, k2, n2, h1, h2, rfl, rfl⟩ := pm_b_some.mp hf
  obtain ⟨a, hrun⟩ := hr σ r s1 k1 n1 H locs cells slots ls h1 hW hS (by omega) (by omega) hl
  intro T hT X
  obtain ⟨v, st₀, t, T', L2, h0, X', hL, e1, e2, ⟨⟨o, ho, hv, hW1⟩, hz, hk⟩, st⟩ := hrun T hT X
  cases hv
  rw [h0] at hz hk
  obtain ⟨t2, a1, b1⟩ := kk r _ ho s1 k2 n2 T'.heap (locs ++ L2) (cells + k1) (slots + n1) ls h2 (by rw [e1]; exact hW1) (sm_stepS hS (by rw [e1]; exact hz) (fun q h1 h2 => by rw [e1]; exact hk q h1 h2) hL) (by omega) (by omega) hl T' rfl X'
  exact ⟨t2, st t2 a1, b1⟩
theorem s_callX0 (hr : sm_RX Y pc L st0 rest emb2 f) {G : α → PM S ρ} (kx : ∀ (r : α) (E : String) (σ : S) (k n : Nat) (H : Heap) (locs : List Loc) (cells slots : Nat) (ls : Array Slot) (ce : Cell) (q : Nat), emb2 r = .inr E → G r σ = some ((yF Y).1, (yF Y).2, k, n) → yW Y σ H → va_S (yA Y) (yS Y).heap H locs → cells + k ≤ yc Y → slots + n ≤ ys Y → lv_has ls (yn Y) L → H[q]? = some ce → ce.vm = .none → (yS Y).vm.findClass E = some ce.cls → YX Y H locs cells slots (F0 (yM Y) pc ls rest) q)
    (kk : ∀ r o, emb2 r = .inl o → Sim Y (G r) (pc + 3) L (o.toList ++ rest)) : Sim Y (pm_b f G) pc L st0 := by
  intro σ k n H locs cells slots ls hf hW hS hc hs hl
  obtain ⟨r, s1, k1, n1, k2, n2, h1, h2, rfl, rfl⟩ := pm_b_some.mp hf
  obtain ⟨a, hrun⟩ := hr σ r s1 k1 n1 H locs cells slots ls h1 hW hS (by omega) (by omega) hl
  intro T hT X
  rcases hrun T hT X with ⟨v, st₀, t, T', L2, h0, X', hL, e1, e2, ⟨⟨o, ho, hv, hW1⟩, hz, hk⟩, st⟩ | ⟨q, st₀, t, T', L2, E, ce, h0, X', hL, e1, e2, ⟨⟨hE, hW1⟩, hz, hk⟩, hce, hcv, hcl, st⟩
  · cases hv
    rw [h0] at hz hk
    obtain ⟨t2, a1, b1⟩ := kk r _ ho s1 k2 n2 T'.heap (locs ++ L2) (cells + k1) (slots + n1) ls h2 (by rw [e1]; exact hW1) (sm_stepS hS (by rw [e1]; exact hz) (fun q h1 h2 => by rw [e1]; exact hk q h1 h2) hL) (by omega) (by omega) hl T' rfl X'
    exact ⟨t2, st t2 a1, b1⟩
  · rw [h0] at hz hk
    obtain ⟨t2, a1, b1⟩ := kx r E s1 k2 n2 T'.heap (locs ++ L2) (cells + k1) (slots + n1) ls ce q hE h2 (by rw [e1]; exact hW1) (sm_stepS hS (by rw [e1]; exact hz) (fun q h1 h2 => by rw [e1]; exact hk q h1 h2) hL) (by omega) (by omega) hl (by rw [e1]; exact hce) hcv hcl T' rfl X'
    exact ⟨t2, st.trans a1, b1⟩
theorem sm_fixed (C : sm_C Y g cc own ret nL fr lo emb th) : CallFix (yP Y) (yM Y) (yC Y) cc nL (yS Y) (yG Y) lw_all own := ⟨C.x, C.b, C.ml, C.o, C.w⟩
theorem sm_preS (C : sm_C Y g cc own ret nL fr lo emb th) {σ : S} {H : Heap} {locs : List Loc} {av : List Value} (hW : yW Y σ H) (hS : va_S (yA Y) (yS Y).heap H locs) : PreS (yS Y) H (sm_Pc g (yW Y) (yA Y) av σ) av :=
  ⟨fun a U gf mk q => ⟨q.1, q.2.1, q.2.2.1.same rfl, q.2.2.2⟩, fun U hU hWm => ⟨rfl, by rw [hU]; exact hW, C.k.step hWm (by rw [hU]; exact hS.2.1), fun q hq => C.a q (Nat.le_trans hS.1 (by rw [hU] at hq; exact hq))⟩⟩
theorem sm_preV (C : sm_C Y g cc own ret nL fr lo emb th) {σ : S} {H : Heap} {locs : List Loc} {b : Nat} {As : List Value} {C0 : String} (hW : yW Y σ H) (hS : va_S (yA Y) (yS Y).heap H locs) (hb : ∃ cellB : Cell, H[b]? = some cellB ∧ cellB.vm.isStatics = false ∧ (yS Y).vm.findClass C0 = some cellB.cls) : PreV (yS Y) H C0 b (sm_Pc g (yW Y) (yA Y) (.ref b :: As) σ) As :=
  ⟨(sm_preS (av := .ref b :: As) C hW hS).1, hb, (sm_preS (av := .ref b :: As) C hW hS).2⟩
variable {y : MethodName} {cc2 : ByteArray} {nL2 fr2 lo2 i : Nat} {ret2 : Option FieldType}
theorem rn_S (C : sm_C Y g cc own ret nL fr lo emb th) {As : List Value} (hct : sm_CT (yL Y) g (yW Y) (yA Y) y cc2 nL2 ret2 fr2 lo2 As emb2 f) (hw : GoodIn lw_all (va_wsS own i y (ws_ y cc2 nL2 ret2))) (hn : y.cls ≠ "java/lang/invoke/MethodHandle" ∧ y.cls ≠ "java/lang/invoke/VarHandle" ∧ (parseMethodDescriptor y.desc).map (fun d => d.parameters.length) = some As.length) (hroom : fr2 + 1 ≤ fr ∧ 8 + (nL2 + 11) + lo2 ≤ lo) (hst : st0 = As.reverse ++ rest) (hcat : (rest.map fun v => v.category).sum ≤ 8) (hd : decode cc pc = .ok (.invokestatic i, 3)) : sm_Rn Y pc L st0 rest emb2 f := by
  intro σ r σ1 k n H locs cells slots ls hf hW hS hc hs hl
  refine ⟨_, va_runS (As := As) (rest := rest) (sm_fixed C) (hct σ r σ1 k n hf) (va_cwS As.length C.w hw rfl rfl rfl hn ⟨by rw [C.rf]; exact hroom.1, by rw [C.rl]; exact hroom.2⟩) (sm_preS C hW hS) rfl rfl (hl.1.trans C.n) hst (lv_room hcat) hd ⟨by rw [C.rc]; exact hc, by rw [C.rs]; exact hs⟩⟩
theorem rx_S (C : sm_C Y g cc own ret nL fr lo emb th) {As : List Value} (hct : sm_CX (yL Y) g (yW Y) (yA Y) y cc2 nL2 ret2 fr2 lo2 As emb2 f) (hw : GoodIn lw_all (va_wsS own i y (ws_ y cc2 nL2 ret2))) (hn : y.cls ≠ "java/lang/invoke/MethodHandle" ∧ y.cls ≠ "java/lang/invoke/VarHandle" ∧ (parseMethodDescriptor y.desc).map (fun d => d.parameters.length) = some As.length) (hroom : fr2 + 1 ≤ fr ∧ 8 + (nL2 + 11) + lo2 ≤ lo) (hst : st0 = As.reverse ++ rest) (hcat : (rest.map fun v => v.category).sum ≤ 8) (hd : decode cc pc = .ok (.invokestatic i, 3)) : sm_RX Y pc L st0 rest emb2 f := by
  intro σ r σ1 k n H locs cells slots ls hf hW hS hc hs hl
  refine ⟨_, vx_runS (As := As) (rest := rest) (sm_fixed C) (hct σ r σ1 k n hf) (va_cwS As.length C.w hw rfl rfl rfl hn ⟨by rw [C.rf]; exact hroom.1, by rw [C.rl]; exact hroom.2⟩) (sm_preS C hW hS) rfl rfl (hl.1.trans C.n) hst (lv_room hcat) hd ⟨by rw [C.rc]; exact hc, by rw [C.rs]; exact hs⟩⟩
theorem rn_SN (C : sm_C Y g cc own ret nL fr lo emb th) {As : List Value} {host : String} (hct : sm_CT (yL Y) g (yW Y) (yA Y) y cc2 nL2 ret2 fr2 lo2 As emb2 f) (hq : Cond.methodLinkNest own i y host ∈ lw_tbl) (hqs : Cond.static y ∈ lw_all) (hqi : Cond.initialized y.cls ∈ lw_all) (hqc : Cond.code y cc2 nL2 ret2 ∈ lw_all) (hn : y.cls ≠ "java/lang/invoke/MethodHandle" ∧ y.cls ≠ "java/lang/invoke/VarHandle" ∧ (parseMethodDescriptor y.desc).map (fun d => d.parameters.length) = some As.length) (hroom : fr2 + 1 ≤ fr ∧ 8 + (nL2 + 11) + lo2 ≤ lo) (hst : st0 = As.reverse ++ rest) (hcat : (rest.map fun v => v.category).sum ≤ 8) (hd : decode cc pc = .ok (.invokestatic i, 3)) : sm_Rn Y pc L st0 rest emb2 f := by
  intro σ r σ1 k n H locs cells slots ls hf hW hS hc hs hl
  refine ⟨_, va_runSN (As := As) (rest := rest) (sm_fixed C) (hct σ r σ1 k n hf) ⟨va_cnB As.length C.w (lw_meth hqc) rfl rfl rfl (C.k.2.1 _ hq rfl) (C.w _ hqi) hn ⟨by rw [C.rf]; exact hroom.1, by rw [C.rl]; exact hroom.2⟩, C.w _ hqs, trivial⟩ (sm_preS C hW hS) rfl rfl (hl.1.trans C.n) hst (lv_room hcat) hd ⟨by rw [C.rc]; exact hc, by rw [C.rs]; exact hs⟩⟩
theorem rn_I (C : sm_C Y g cc own ret nL fr lo emb th) {b : Nat} {As : List Value} (hct : sm_CT (yL Y) g (yW Y) (yA Y) y cc2 nL2 none fr2 lo2 (.ref b :: As) emb2 f) (hq : Cond.methodLink own i y ∈ lw_all) (hqs : Cond.instanceMethod y ∈ lw_all) (hqi : Cond.initialized y.cls ∈ lw_all) (hqc : Cond.code y cc2 nL2 none ∈ lw_all) (hy : y.name = "<init>") (hn : y.cls ≠ "java/lang/invoke/MethodHandle" ∧ y.cls ≠ "java/lang/invoke/VarHandle" ∧ (parseMethodDescriptor y.desc).map (fun d => d.parameters.length) = some As.length) (hroom : fr2 + 1 ≤ fr ∧ 8 + (nL2 + 11) + lo2 ≤ lo) (hst : st0 = As.reverse ++ .ref b :: rest) (hcat : (rest.map fun v => v.category).sum ≤ 8) (hd : decode cc pc = .ok (.invokespecial i, 3)) : sm_Rn Y pc L st0 rest emb2 f := by
  intro σ r σ1 k n H locs cells slots ls hf hW hS hc hs hl
  refine ⟨_, va_runI (As := As) (rest := rest) (sm_fixed C) (hct σ r σ1 k n hf) (cwI As.length C.w (lw_meth hqc) rfl rfl rfl (C.w _ hqi) (C.w _ hq) (C.w _ hqs) hy hn ⟨by rw [C.rf]; exact hroom.1, by rw [C.rl]; exact hroom.2⟩) (sm_preS C hW hS) rfl rfl (hl.1.trans C.n) hst (lv_room hcat) hd ⟨by rw [C.rc]; exact hc, by rw [C.rs]; exact hs⟩⟩
theorem rn_IN (C : sm_C Y g cc own ret nL fr lo emb th) {b : Nat} {As : List Value} {host : String} (hct : sm_CT (yL Y) g (yW Y) (yA Y) y cc2 nL2 none fr2 lo2 (.ref b :: As) emb2 f) (hq : Cond.methodLinkNest own i y host ∈ lw_tbl) (hqs : Cond.instanceMethod y ∈ lw_all) (hqi : Cond.initialized y.cls ∈ lw_all) (hqc : Cond.code y cc2 nL2 none ∈ lw_all) (hy : y.name = "<init>") (hn : y.cls ≠ "java/lang/invoke/MethodHandle" ∧ y.cls ≠ "java/lang/invoke/VarHandle" ∧ (parseMethodDescriptor y.desc).map (fun d => d.parameters.length) = some As.length) (hroom : fr2 + 1 ≤ fr ∧ 8 + (nL2 + 11) + lo2 ≤ lo) (hst : st0 = As.reverse ++ .ref b :: rest) (hcat : (rest.map fun v => v.category).sum ≤ 8) (hd : decode cc pc = .ok (.invokespecial i, 3)) : sm_Rn Y pc L st0 rest emb2 f := by
  intro σ r σ1 k n H locs cells slots ls hf hW hS hc hs hl
  refine ⟨_, va_runIN (As := As) (rest := rest) (sm_fixed C) (hct σ r σ1 k n hf) ⟨va_cnB As.length C.w (lw_meth hqc) rfl rfl rfl (C.k.2.1 _ hq rfl) (C.w _ hqi) hn ⟨by rw [C.rf]; exact hroom.1, by rw [C.rl]; exact hroom.2⟩, hy, C.w _ hqs⟩ (sm_preS C hW hS) rfl rfl (hl.1.trans C.n) hst (lv_room hcat) hd ⟨by rw [C.rc]; exact hc, by rw [C.rs]; exact hs⟩⟩
/-- the receiver is known by its class C0 -/
def sm_rv (Y : sm_Y S ρ) (C0 : String) (b : Nat) (f : PM S α) : Prop := ∀ (σ : S) (H : Heap) (v : α × S × Nat × Nat), f σ = some v → yW Y σ H → va_S (yA Y) (yS Y).heap H [] → ∃ cellB : Cell, H[b]? = some cellB ∧ cellB.vm.isStatics = false ∧ (yS Y).vm.findClass C0 = some cellB.cls
theorem rn_V (C : sm_C Y g cc own ret nL fr lo emb th) {b : Nat} {As : List Value} {C0 : String} (hct : sm_CT (yL Y) g (yW Y) (yA Y) y cc2 nL2 ret2 fr2 lo2 (.ref b :: As) emb2 f) (hrv : sm_rv Y C0 b f) (hw : GoodIn lw_all (wsV own i C0 y (ws_ y cc2 nL2 ret2))) (hn : y.cls = C0 ∧ y.cls ≠ "java/lang/invoke/MethodHandle" ∧ y.cls ≠ "java/lang/invoke/VarHandle" ∧ (parseMethodDescriptor y.desc).map (fun d => d.parameters.length) = some As.length) (hroom : fr2 + 1 ≤ fr ∧ 8 + (nL2 + 11) + lo2 ≤ lo) (hst : st0 = As.reverse ++ .ref b :: rest) (hcat : (rest.map fun v => v.category).sum ≤ 8) (hd : decode cc pc = .ok (.invokevirtual i, 3)) : sm_Rn Y pc L st0 rest emb2 f := by
  intro σ r σ1 k n H locs cells slots ls hf hW hS hc hs hl
  refine ⟨_, va_runV (As := As) (rest := rest) (sm_fixed C) (hct σ r σ1 k n hf) (cwV As.length C.w hw rfl rfl rfl hn ⟨by rw [C.rf]; exact hroom.1, by rw [C.rl]; exact hroom.2⟩) (sm_preV C hW hS (hrv σ H _ hf hW ⟨hS.1, hS.2.1, fun _ h => by cases h⟩)) rfl rfl (hl.1.trans C.n) hst (lv_room hcat) hd ⟨by rw [C.rc]; exact hc, by rw [C.rs]; exact hs⟩⟩
theorem rx_V (C : sm_C Y g cc own ret nL fr lo emb th) {b : Nat} {As : List Value} {C0 : String} (hct : sm_CX (yL Y) g (yW Y) (yA Y) y cc2 nL2 ret2 fr2 lo2 (.ref b :: As) emb2 f) (hrv : sm_rv Y C0 b f) (hw : GoodIn lw_all (wsV own i C0 y (ws_ y cc2 nL2 ret2))) (hn : y.cls = C0 ∧ y.cls ≠ "java/lang/invoke/MethodHandle" ∧ y.cls ≠ "java/lang/invoke/VarHandle" ∧ (parseMethodDescriptor y.desc).map (fun d => d.parameters.length) = some As.length) (hroom : fr2 + 1 ≤ fr ∧ 8 + (nL2 + 11) + lo2 ≤ lo) (hst : st0 = As.reverse ++ .ref b :: rest) (hcat : (rest.map fun v => v.category).sum ≤ 8) (hd : decode cc pc = .ok (.invokevirtual i, 3)) : sm_RX Y pc L st0 rest emb2 f := by
  intro σ r σ1 k n H locs cells slots ls hf hW hS hc hs hl
  refine ⟨_, vx_runV (As := As) (rest := rest) (sm_fixed C) (hct σ r σ1 k n hf) (cwV As.length C.w hw rfl rfl rfl hn ⟨by rw [C.rf]; exact hroom.1, by rw [C.rl]; exact hroom.2⟩) (sm_preV C hW hS (hrv σ H _ hf hW ⟨hS.1, hS.2.1, fun _ h => by cases h⟩)) rfl rfl (hl.1.trans C.n) hst (lv_room hcat) hd ⟨by rw [C.rc]; exact hc, by rw [C.rs]; exact hs⟩⟩
/-- inherited, overriding or abstract: x is named, y is run -/
theorem rn_U (C : sm_C Y g cc own ret nL fr lo emb th) {b : Nat} {As : List Value} {C0 owner : String} {x : MethodName} (hct : sm_CT (yL Y) g (yW Y) (yA Y) y cc2 nL2 ret2 fr2 lo2 (.ref b :: As) emb2 f) (hrv : sm_rv Y C0 b f) (hq1 : Cond.methodLink own i x ∈ lw_all) (hq2 : Cond.sameMethod x.cls owner x.name x.desc ∈ lw_all) (hdc : va_Decl (yS Y) ⟨owner, x.name, x.desc⟩) (hq3 : (Cond.selects C0 x y).before (yG Y) (yS Y) = true) (hq4 : Cond.instanceMethod y ∈ lw_all) (hq5 : Cond.initialized y.cls ∈ lw_all) (hq6 : Cond.code y cc2 nL2 ret2 ∈ lw_all) (hn : owner ≠ "java/lang/invoke/MethodHandle" ∧ owner ≠ "java/lang/invoke/VarHandle" ∧ (parseMethodDescriptor x.desc).map (fun d => d.parameters.length) = some As.length) (hroom : fr2 + 1 ≤ fr ∧ 8 + (nL2 + 11) + lo2 ≤ lo) (hst : st0 = As.reverse ++ .ref b :: rest) (hcat : (rest.map fun v => v.category).sum ≤ 8) (hd : decode cc pc = .ok (.invokevirtual i, 3)) : sm_Rn Y pc L st0 rest emb2 f := by
  intro σ r σ1 k n H locs cells slots ls hf hW hS hc hs hl
  have hcode : Cond.code y cc2 nL2 ret2 ∈ ws_ y cc2 nL2 ret2 := List.mem_cons_self
  refine ⟨_, va_runU (As := As) (rest := rest) (C := C0) (owner := owner) (x := x) (bytes := cc2) (maxL := nL2) (ret := ret2) (sm_fixed C) (hct σ r σ1 k n hf) ⟨⟨rfl, rfl, by rw [C.rf]; exact hroom.1, by rw [C.rl]; exact hroom.2, pay_in C.w (lw_meth hq6), hcode⟩, C.w _ hq6, C.w _ hq5, ⟨hn.1, hn.2.1⟩, fun sig h => ?_, C.w _ hq1, C.w _ hq2, hdc, hq3, C.w _ hq4⟩ (sm_preV C hW hS (hrv σ H _ hf hW ⟨hS.1, hS.2.1, fun _ h => by cases h⟩)) rfl rfl (hl.1.trans C.n) hst (lv_room hcat) hd ⟨by rw [C.rc]; exact hc, by rw [C.rs]; exact hs⟩⟩
  have h2 := hn.2.2
  rw [h] at h2
  exact (Option.some.inj h2).symm
theorem rn_VN (C : sm_C Y g cc own ret nL fr lo emb th) {b : Nat} {As : List Value} {C0 host : String} (hct : sm_CT (yL Y) g (yW Y) (yA Y) y cc2 nL2 ret2 fr2 lo2 (.ref b :: As) emb2 f) (hrv : sm_rv Y C0 b f) (hq : Cond.methodLinkNest own i y host ∈ lw_tbl) (hqs : Cond.instanceMethod y ∈ lw_all) (hq3 : Cond.selects C0 y y ∈ lw_all) (hqi : Cond.initialized y.cls ∈ lw_all) (hqc : Cond.code y cc2 nL2 ret2 ∈ lw_all) (hn : y.cls ≠ "java/lang/invoke/MethodHandle" ∧ y.cls ≠ "java/lang/invoke/VarHandle" ∧ (parseMethodDescriptor y.desc).map (fun d => d.parameters.length) = some As.length) (hroom : fr2 + 1 ≤ fr ∧ 8 + (nL2 + 11) + lo2 ≤ lo) (hst : st0 = As.reverse ++ .ref b :: rest) (hcat : (rest.map fun v => v.category).sum ≤ 8) (hd : decode cc pc = .ok (.invokevirtual i, 3)) : sm_Rn Y pc L st0 rest emb2 f := by
  intro σ r σ1 k n H locs cells slots ls hf hW hS hc hs hl
  refine ⟨_, va_runVN (As := As) (rest := rest) (sm_fixed C) (hct σ r σ1 k n hf) ⟨va_cnB As.length C.w (lw_meth hqc) rfl rfl rfl (C.k.2.1 _ hq rfl) (C.w _ hqi) hn ⟨by rw [C.rf]; exact hroom.1, by rw [C.rl]; exact hroom.2⟩, C.w _ hqs, C.w _ hq3⟩ (sm_preV C hW hS (hrv σ H _ hf hW ⟨hS.1, hS.2.1, fun _ h => by cases h⟩)) rfl rfl (hl.1.trans C.n) hst (lv_room hcat) hd ⟨by rw [C.rc]; exact hc, by rw [C.rs]; exact hs⟩⟩
theorem lw_SU {own : String} {idx : Nat} {y : MethodName} {b : ByteArray} {L : Nat} {r : Option FieldType} (h1 : Cond.methodLink own idx y ∈ lw_all) (h2 : Cond.sameMethod y.cls y.cls y.name y.desc ∈ lw_all) (h3 : Cond.superclass own y.cls ∈ lw_all) (h4 : Cond.instanceMethod y ∈ lw_all) (h5 : Cond.initialized y.cls ∈ lw_all) (h6 : Cond.code y b L r ∈ lw_all) : GoodIn lw_all (va_wsSU own idx y (ws_ y b L r)) := by
  refine lw_app ?_ (lw_meth h6)
  intro w hw
  simp only [List.mem_cons, List.not_mem_nil, or_false] at hw
  rcases hw with e | e | e | e | e
  · rw [e]; exact h1
  · rw [e]; exact h2
  · rw [e]; exact h3
  · rw [e]; exact h4
  · rw [e]; exact h5
/-- super.m(..) -/
theorem rn_SU (C : sm_C Y g cc own ret nL fr lo emb th) {b : Nat} {As : List Value} {C0 : String} (hat : ∃ cC, ClassAt (yS Y) C0 cC) (hct : sm_CT (yL Y) g (yW Y) (yA Y) y cc2 nL2 ret2 fr2 lo2 (.ref b :: As) emb2 f) (hrv : sm_rv Y C0 b f) (hw : GoodIn lw_all (va_wsSU own i y (ws_ y cc2 nL2 ret2))) (hn : y.name ≠ "<init>" ∧ (parseMethodDescriptor y.desc).map (fun d => d.parameters.length) = some As.length) (hroom : fr2 + 1 ≤ fr ∧ 8 + (nL2 + 11) + lo2 ≤ lo) (hst : st0 = As.reverse ++ .ref b :: rest) (hcat : (rest.map fun v => v.category).sum ≤ 8) (hd : decode cc pc = .ok (.invokespecial i, 3)) : sm_Rn Y pc L st0 rest emb2 f := by
  intro σ r σ1 k n H locs cells slots ls hf hW hS hc hs hl
  obtain ⟨cC, hat⟩ := hat
  refine ⟨_, va_runSU (As := As) (rest := rest) hat (sm_fixed C) (hct σ r σ1 k n hf) (va_cwSU As.length C.w hw rfl rfl rfl hn ⟨by rw [C.rf]; exact hroom.1, by rw [C.rl]; exact hroom.2⟩) (sm_preV C hW hS (hrv σ H _ hf hW ⟨hS.1, hS.2.1, fun _ h => by cases h⟩)) rfl rfl (hl.1.trans C.n) hst (lv_room hcat) hd ⟨by rw [C.rc]; exact hc, by rw [C.rs]; exact hs⟩⟩
theorem s_call_v {f : PM S (Unit)} (hr : sm_Rn Y pc L st0 rest em_v f) {G : Unit → PM S β} {K : β → PM S ρ} (pc' : Nat) (hp : pc + 3 = pc') (kk : Sim Y (pm_b (G ()) K) pc' L rest) : Sim Y (pm_b (pm_b f G) K) pc L st0 := by
  rw [pm_b_as]
  refine s_call hr (fun r o ho => ?_)
  cases ho
  rw [hp]
  exact kk
theorem s_call_i {f : PM S (Int32)} (hr : sm_Rn Y pc L st0 rest em_i f) {G : Int32 → PM S β} {K : β → PM S ρ} (pc' : Nat) (hp : pc + 3 = pc') (kk : ∀ r, Sim Y (pm_b (G r) K) pc' L (.int r :: rest)) : Sim Y (pm_b (pm_b f G) K) pc L st0 := by
  rw [pm_b_as]
  refine s_call hr (fun r o ho => ?_)
  cases ho
  rw [hp]
  exact kk r
theorem s_call_l {f : PM S (Int64)} (hr : sm_Rn Y pc L st0 rest em_l f) {G : Int64 → PM S β} {K : β → PM S ρ} (pc' : Nat) (hp : pc + 3 = pc') (kk : ∀ r, Sim Y (pm_b (G r) K) pc' L (.long r :: rest)) : Sim Y (pm_b (pm_b f G) K) pc L st0 := by
  rw [pm_b_as]
  refine s_call hr (fun r o ho => ?_)
  cases ho
  rw [hp]
  exact kk r
theorem s_call_d {f : PM S (UInt64)} (hr : sm_Rn Y pc L st0 rest em_d f) {G : UInt64 → PM S β} {K : β → PM S ρ} (pc' : Nat) (hp : pc + 3 = pc') (kk : ∀ r, Sim Y (pm_b (G r) K) pc' L (.double r :: rest)) : Sim Y (pm_b (pm_b f G) K) pc L st0 := by
  rw [pm_b_as]
  refine s_call hr (fun r o ho => ?_)
  cases ho
  rw [hp]
  exact kk r
theorem s_call_r {f : PM S (Nat)} (hr : sm_Rn Y pc L st0 rest em_r f) {G : Nat → PM S β} {K : β → PM S ρ} (pc' : Nat) (hp : pc + 3 = pc') (kk : ∀ r, Sim Y (pm_b (G r) K) pc' L (.ref r :: rest)) : Sim Y (pm_b (pm_b f G) K) pc L st0 := by
  rw [pm_b_as]
  refine s_call hr (fun r o ho => ?_)
  cases ho
  rw [hp]
  exact kk r
theorem s_call_q {f : PM S (Option Nat)} (hr : sm_Rn Y pc L st0 rest em_q f) {G : Option Nat → PM S β} {K : β → PM S ρ} (pc' : Nat) (hp : pc + 3 = pc') (kk : ∀ r, Sim Y (pm_b (G r) K) pc' L (va_rf r :: rest)) : Sim Y (pm_b (pm_b f G) K) pc L st0 := by
  rw [pm_b_as]
  refine s_call hr (fun r o ho => ?_)
  cases ho
  rw [hp]
  exact kk r
end SCL
section SCX
variable {S ρ α β : Type} {Y : sm_Y S (ρ ⊕ String)} {g : sm_G} {own : String} {ret : Option FieldType} {nL fr lo : Nat} {emb : ρ → Option Value ⊕ String} {pc : Nat} {L : List (Nat × Value)} {st0 rest : List Value} {cc : ByteArray}
/-- thrown, and not caught here -/
theorem sx_out (C : sm_C Y g cc own ret nL fr lo (em_x emb) true) {E : String} {σ : S} {k n : Nat} {H : Heap} {locs : List Loc} {cells slots : Nat} {ls : Array Slot} {ce : Cell} {q : Nat} (h : pm_r (Sum.inr E) σ = some ((yF Y).1, (yF Y).2, k, n)) (hW : yW Y σ H) (hS : va_S (yA Y) (yS Y).heap H locs) (hc : cells + k ≤ yc Y) (hs : slots + n ≤ ys Y) (hce : H[q]? = some ce) (hv : ce.vm = .none) (hcl : (yS Y).vm.findClass E = some ce.cls) : YX Y H locs cells slots (F0 (yM Y) pc ls rest) q := by
  obtain ⟨e1, e2, rfl, rfl⟩ := pm_r_some h
  show vx_W _ _ _ _ _ _ _ _ _ _ H locs cells slots (yQ Y) _ q
  rw [C.q1]
  refine vx_out (fun x hx => (C.et x hx).elim) C.lk hce hv hcl (fun t ht hal => ⟨⟨by rw [e1]; rfl, by rw [ht, e2]; exact hW⟩, hS.F ht⟩) hS.2.2 (by omega) (by omega)
theorem s_callX_v (C : sm_C Y g cc own ret nL fr lo (em_x emb) true) {f : PM S (Unit ⊕ String)} (hr : sm_RX Y pc L st0 rest (em_x em_v) f) {G : Unit → PM S (β ⊕ String)} {K : β ⊕ String → PM S (ρ ⊕ String)} (hK : ∀ E, K (.inr E) = pm_r (.inr E)) (pc' : Nat) (hp : pc + 3 = pc') (kk : Sim Y (pm_b (G ()) K) pc' L rest) : Sim Y (pm_b (pm_b f (Sum.elim G (fun E => pm_r (.inr E)))) K) pc L st0 := by
  rw [pm_b_as]
  refine s_callX0 hr (fun r E σ k n H locs cells slots ls ce q ho hg hW hS hc hs hl hce hv hcl => ?_) (fun r o ho => ?_)
  · cases r with
    | inl r => cases ho
    | inr E' =>
      cases ho
      have hg : pm_b (pm_r (Sum.inr E)) K σ = some ((yF Y).1, (yF Y).2, k, n) := hg
      rw [pm_r_b, hK] at hg
      exact sx_out C hg hW hS hc hs hce hv hcl
  · cases r with
    | inr E => cases ho
    | inl r =>
      cases ho
      rw [hp]
      exact kk
theorem s_callX_i (C : sm_C Y g cc own ret nL fr lo (em_x emb) true) {f : PM S (Int32 ⊕ String)} (hr : sm_RX Y pc L st0 rest (em_x em_i) f) {G : Int32 → PM S (β ⊕ String)} {K : β ⊕ String → PM S (ρ ⊕ String)} (hK : ∀ E, K (.inr E) = pm_r (.inr E)) (pc' : Nat) (hp : pc + 3 = pc') (kk : ∀ r, Sim Y (pm_b (G r) K) pc' L (.int r :: rest)) : Sim Y (pm_b (pm_b f (Sum.elim G (fun E => pm_r (.inr E)))) K) pc L st0 := by
  rw [pm_b_as]
  refine s_callX0 hr (fun r E σ k n H locs cells slots ls ce q ho hg hW hS hc hs hl hce hv hcl => ?_) (fun r o ho => ?_)
  · cases r with
    | inl r => cases ho
    | inr E' =>
      cases ho
      have hg : pm_b (pm_r (Sum.inr E)) K σ = some ((yF Y).1, (yF Y).2, k, n) := hg
      rw [pm_r_b, hK] at hg
      exact sx_out C hg hW hS hc hs hce hv hcl
  · cases r with
    | inr E => cases ho
    | inl r =>
      cases ho
      rw [hp]
      exact kk r
theorem s_callX_l (C : sm_C Y g cc own ret nL fr lo (em_x emb) true) {f : PM S (Int64 ⊕ String)} (hr : sm_RX Y pc L st0 rest (em_x em_l) f) {G : Int64 → PM S (β ⊕ String)} {K : β ⊕ String → PM S (ρ ⊕ String)} (hK : ∀ E, K (.inr E) = pm_r (.inr E)) (pc' : Nat) (hp : pc + 3 = pc') (kk : ∀ r, Sim Y (pm_b (G r) K) pc' L (.long r :: rest)) : Sim Y (pm_b (pm_b f (Sum.elim G (fun E => pm_r (.inr E)))) K) pc L st0 := by
  rw [pm_b_as]
  refine s_callX0 hr (fun r E σ k n H locs cells slots ls ce q ho hg hW hS hc hs hl hce hv hcl => ?_) (fun r o ho => ?_)
  · cases r with
    | inl r => cases ho
    | inr E' =>
      cases ho
      have hg : pm_b (pm_r (Sum.inr E)) K σ = some ((yF Y).1, (yF Y).2, k, n) := hg
      rw [pm_r_b, hK] at hg
      exact sx_out C hg hW hS hc hs hce hv hcl
  · cases r with
    | inr E => cases ho
    | inl r =>
      cases ho
      rw [hp]
      exact kk r
theorem s_callX_d (C : sm_C Y g cc own ret nL fr lo (em_x emb) true) {f : PM S (UInt64 ⊕ String)} (hr : sm_RX Y pc L st0 rest (em_x em_d) f) {G : UInt64 → PM S (β ⊕ String)} {K : β ⊕ String → PM S (ρ ⊕ String)} (hK : ∀ E, K (.inr E) = pm_r (.inr E)) (pc' : Nat) (hp : pc + 3 = pc') (kk : ∀ r, Sim Y (pm_b (G r) K) pc' L (.double r :: rest)) : Sim Y (pm_b (pm_b f (Sum.elim G (fun E => pm_r (.inr E)))) K) pc L st0 := by
  rw [pm_b_as]
  refine s_callX0 hr (fun r E σ k n H locs cells slots ls ce q ho hg hW hS hc hs hl hce hv hcl => ?_) (fun r o ho => ?_)
  · cases r with
    | inl r => cases ho
    | inr E' =>
      cases ho
      have hg : pm_b (pm_r (Sum.inr E)) K σ = some ((yF Y).1, (yF Y).2, k, n) := hg
      rw [pm_r_b, hK] at hg
      exact sx_out C hg hW hS hc hs hce hv hcl
  · cases r with
    | inr E => cases ho
    | inl r =>
      cases ho
      rw [hp]
      exact kk r
theorem s_callX_r (C : sm_C Y g cc own ret nL fr lo (em_x emb) true) {f : PM S (Nat ⊕ String)} (hr : sm_RX Y pc L st0 rest (em_x em_r) f) {G : Nat → PM S (β ⊕ String)} {K : β ⊕ String → PM S (ρ ⊕ String)} (hK : ∀ E, K (.inr E) = pm_r (.inr E)) (pc' : Nat) (hp : pc + 3 = pc') (kk : ∀ r, Sim Y (pm_b (G r) K) pc' L (.ref r :: rest)) : Sim Y (pm_b (pm_b f (Sum.elim G (fun E => pm_r (.inr E)))) K) pc L st0 := by
  rw [pm_b_as]
  refine s_callX0 hr (fun r E σ k n H locs cells slots ls ce q ho hg hW hS hc hs hl hce hv hcl => ?_) (fun r o ho => ?_)
  · cases r with
    | inl r => cases ho
    | inr E' =>
      cases ho
      have hg : pm_b (pm_r (Sum.inr E)) K σ = some ((yF Y).1, (yF Y).2, k, n) := hg
      rw [pm_r_b, hK] at hg
      exact sx_out C hg hW hS hc hs hce hv hcl
  · cases r with
    | inr E => cases ho
    | inl r =>
      cases ho
      rw [hp]
      exact kk r
theorem s_callX_q (C : sm_C Y g cc own ret nL fr lo (em_x emb) true) {f : PM S (Option Nat ⊕ String)} (hr : sm_RX Y pc L st0 rest (em_x em_q) f) {G : Option Nat → PM S (β ⊕ String)} {K : β ⊕ String → PM S (ρ ⊕ String)} (hK : ∀ E, K (.inr E) = pm_r (.inr E)) (pc' : Nat) (hp : pc + 3 = pc') (kk : ∀ r, Sim Y (pm_b (G r) K) pc' L (va_rf r :: rest)) : Sim Y (pm_b (pm_b f (Sum.elim G (fun E => pm_r (.inr E)))) K) pc L st0 := by
  rw [pm_b_as]
  refine s_callX0 hr (fun r E σ k n H locs cells slots ls ce q ho hg hW hS hc hs hl hce hv hcl => ?_) (fun r o ho => ?_)
  · cases r with
    | inl r => cases ho
    | inr E' =>
      cases ho
      have hg : pm_b (pm_r (Sum.inr E)) K σ = some ((yF Y).1, (yF Y).2, k, n) := hg
      rw [pm_r_b, hK] at hg
      exact sx_out C hg hW hS hc hs hce hv hcl
  · cases r with
    | inr E => cases ho
    | inl r =>
      cases ho
      rw [hp]
      exact kk r
end SCX
section SCS
variable {ρ α β : Type} {Y : sm_Y Sto ρ} {g : sm_G} {own : String} {ret : Option FieldType} {nL fr lo : Nat} {emb : ρ → Option Value ⊕ String} {th : Bool} {pc : Nat} {L : List (Nat × Value)} {st st0 rest : List Value} {cc : ByteArray} {TA : Nat → Prop}
theorem pm_on_some {ci b : Nat} {f : PM Sto α} {σ : Sto} {v : α × Sto × Nat × Nat} (h : pm_on ci b f σ = some v) : so_cls b σ = some ci ∧ f σ = some v := by
  unfold pm_on at h
  split at h
  · next e => exact ⟨e, h⟩
  · cases h
theorem ct_on {l : Launch} {Rl : Sto → Heap → Prop} {A : Nat → Prop} {y : MethodName} {cc : ByteArray} {nL fr lo : Nat} {ret : Option FieldType} {av : List Value} {emb : α → Option Value ⊕ String} {f : PM Sto α} {ci b : Nat} (h : sm_CT l g Rl A y cc nL ret fr lo av emb f) : sm_CT l g Rl A y cc nL ret fr lo av emb (pm_on ci b f) := fun σ r σ' k n hf => h σ r σ' k n (pm_on_some hf).2
theorem cx_on {l : Launch} {Rl : Sto → Heap → Prop} {A : Nat → Prop} {y : MethodName} {cc : ByteArray} {nL fr lo : Nat} {ret : Option FieldType} {av : List Value} {emb : α → Option Value ⊕ String} {f : PM Sto α} {ci b : Nat} (h : sm_CX l g Rl A y cc nL ret fr lo av emb f) : sm_CX l g Rl A y cc nL ret fr lo av emb (pm_on ci b f) := fun σ r σ' k n hf => h σ r σ' k n (pm_on_some hf).2
theorem so_recv (C : sm_C Y g cc own ret nL fr lo emb th) {σ : Sto} {H : Heap} {b ci : Nat} {q : vw_C} (hW : so_R g TA σ H) (h : so_cls b σ = some ci) (hq : vwCl[ci]? = some q) : ∃ cellB : Cell, H[b]? = some cellB ∧ cellB.vm.isStatics = false ∧ (yS Y).vm.findClass q.1 = some cellB.cls := by
  unfold so_cls at h
  cases e : so_obj b σ with
  | none => rw [e] at h; cases h
  | some o =>
    rw [e] at h
    have h : o.1 = ci := Option.some.inj h
    obtain ⟨cell, q', h1, h2, h3, h4, -⟩ := so_objH C hW e
    rw [h, hq] at h3
    cases h3
    exact ⟨cell, h1, by rw [h2]; rfl, h4⟩
theorem rv_on (C : sm_C Y g cc own ret nL fr lo emb th) (hR : yW Y = so_R g TA) {ci b : Nat} {q : vw_C} {f : PM Sto α} (hq : vwCl[ci]? = some q) : sm_rv Y q.1 b (pm_on ci b f) := fun σ H v hf hW _ => so_recv C (by rw [← hR]; exact hW) (pm_on_some hf).1 hq
/-- a dispatch by the receiver's class -/
theorem rn_D {f : Nat → PM Sto α} {cs : List Nat} {b : Nat} {emb2 : α → Option Value ⊕ String} (h : ∀ ci ∈ cs, sm_Rn Y pc L st0 rest emb2 (pm_on ci b (f ci))) : sm_Rn Y pc L st0 rest emb2 (pm_vd cs b f) := by
  intro σ r σ1 k n H locs cells slots ls hf
  unfold pm_vd at hf
  split at hf
  · next ci e =>
    split at hf
    · next hc => exact h ci hc σ r σ1 k n H locs cells slots ls (by unfold pm_on; rw [if_pos e]; exact hf)
    · cases hf
  · cases hf
/-- checkcast -/
def c_q (cs : List Nat) (x : Option Nat) : PM Sto Nat := fun σ => match x with
  | some a => match so_cls a σ with
    | some ci => if ci ∈ cs then some (a, σ, 0, 0) else none
    | none => none
  | none => none
/-- instanceof, of an object of one of the classes ds -/
def i_o (ds cs : List Nat) (a : Nat) : PM Sto Int32 := fun σ => match so_cls a σ with
  | some ci => if ci ∈ ds then some (if ci ∈ cs then 1 else 0, σ, 0, 0) else none
  | none => none
theorem s_cast (C : sm_C Y g cc own ret nL fr lo emb th) (hR : yW Y = so_R g TA) {cs : List Nat} {i : Nat} {nm : String} (hq : Cond.classLink own i nm ∈ lw_all) (hc : ∀ ci ∈ cs, ∃ q : vw_C, vwCl[ci]? = some q ∧ (Cond.castable q.1 nm ∈ lw_tbl ∨ q.1 = nm)) (hd : decode cc pc = .ok (.checkcast i, 3)) (x : Option Nat) {G : Nat → PM Sto β} {K : β → PM Sto ρ} (pc' : Nat) (hp : pc + 3 = pc') (kk : ∀ a, x = some a → Sim Y (pm_b (G a) K) pc' L (.ref a :: st)) : Sim Y (pm_b (pm_b (c_q cs x) G) K) pc L (va_rf x :: st) := by
  rw [pm_b_as]
  intro σ k1 n1 H locs cells slots ls hf hW hS hc' hs hl
  obtain ⟨y, s1, k1, n1, k2, n2, h1, h2, rfl, rfl⟩ := pm_b_some.mp hf
  rw [hR] at hW
  unfold c_q at h1
  cases x with
  | none => cases h1
  | some a =>
    dsimp only at h1
    split at h1
    · next ci e =>
      split at h1
      · next hci =>
        cases h1
        obtain ⟨q, hq1, hq2⟩ := hc ci hci
        have hr := so_recv C hW e hq1
        subst hp
        have kk' := kk _ rfl σ k2 n2 H locs cells slots ls h2 (by rw [hR]; exact hW) hS (by omega) (by omega) hl
        rcases hq2 with hq2 | hq2
        · exact va_castY C.x C.b C.o (C.w _ hq) (C.k.2.1 _ hq2 rfl) hr hd kk'
        · rw [hq2] at hr
          exact va_castS C.x C.b C.o (C.w _ hq) (by rw [← hq2]; exact (C.k.1.1 ci q hq1).2) hr hd kk'
      · cases h1
    · cases h1
theorem s_inst (C : sm_C Y g cc own ret nL fr lo emb th) (hR : yW Y = so_R g TA) {ds cs : List Nat} {i : Nat} {nm : String} (hq : Cond.classLink own i nm ∈ lw_all) (hc : ∀ ci ∈ ds, ∃ q : vw_C, vwCl[ci]? = some q ∧ (ci ∈ cs → Cond.castable q.1 nm ∈ lw_tbl ∨ q.1 = nm) ∧ (ci ∉ cs → (q.1, nm) ∈ sm_nc)) (hd : decode cc pc = .ok (.instanceof i, 3)) {a : Nat} {G : Int32 → PM Sto β} {K : β → PM Sto ρ} (pc' : Nat) (hp : pc + 3 = pc') (kk : ∀ x, Sim Y (pm_b (G x) K) pc' L (.int x :: st)) : Sim Y (pm_b (pm_b (i_o ds cs a) G) K) pc L (.ref a :: st) := by
  rw [pm_b_as]
  intro σ k1 n1 H locs cells slots ls hf hW hS hc' hs hl
  obtain ⟨y, s1, k1, n1, k2, n2, h1, h2, rfl, rfl⟩ := pm_b_some.mp hf
  rw [hR] at hW
  unfold i_o at h1
  split at h1
  · next ci e =>
    split at h1
    · next hci =>
      obtain ⟨q, hq1, hq2, hq3⟩ := hc ci hci
      have hr := so_recv C hW e hq1
      subst hp
      by_cases hin : ci ∈ cs
      · rw [if_pos hin] at h1
        cases h1
        have kk' := kk 1 σ k2 n2 H locs cells slots ls h2 (by rw [hR]; exact hW) hS (by omega) (by omega) hl
        rcases hq2 hin with hq2 | hq2
        · exact va_instY C.x C.b C.o (C.w _ hq) (C.k.2.1 _ hq2 rfl) hr hd kk'
        · rw [hq2] at hr
          exact va_instS C.x C.b C.o (C.w _ hq) (by rw [← hq2]; exact (C.k.1.1 ci q hq1).2) hr hd kk'
      · rw [if_neg hin] at h1
        cases h1
        exact va_instNo C.x C.b C.o (C.w _ hq) (C.k.2.2.1 _ (hq3 hin)) hr hd (kk 0 σ k2 n2 H locs cells slots ls h2 (by rw [hR]; exact hW) hS (by omega) (by omega) hl)
    · cases h1
  · cases h1
end SCS
