section SXT
variable {p : Program} {l : Launch} {e : Env} {R : Room} {s : State} {m : MethodId} {args : Array Value} {below : List Frame} {meth : Method} {c : Code} {H : Heap} {locs : List Loc} {cells slots : Nat} {Q : State → Prop}
variable {mc ms : Nat} {free : Addr → Prop} {A0 A1 : Nat → Prop} {H0 : Heap} {a : Array Value} {ls : Array Slot} {st0 rest : List Value}
variable {Qc : Array Value → State → Outcome → State → Prop} {XC : String → State → State → Prop}
theorem sx_throw0 {cc : ByteArray} {pc : Nat} (hexec : p.tables.exec = Jvm.exec) (hb : c.code = cc) (hl : l.stackTraces = false) {own cls : String} {names : List String} {ik ic mc ms : Nat} {A : Nat → Prop}
    (hown : s.vm.findClass own = some m.cls) (hcls : Bundle.fit cls = true) (hnames : ∀ n ∈ names, Bundle.fit n = true)
    (hk : (Cond.classLink own ik cls).before args s = true) (hini : (Cond.initialized cls).before args s = true) (hat : ∀ w ∈ vx_at0 own ic cls names, w.before args s = true)
    (hgood : ∀ w ∈ Cond.classLink own ik cls :: Cond.initialized cls :: vx_at0 own ic cls names, vx_ot w = true)
    (hU : vx_Zq Bundle.tN "UNASSIGNED_STACK" Bundle.steD A s s.heap) (hN : vx_Zq Bundle.tN "SUPPRESSED_SENTINEL" Bundle.listD A s s.heap) (hS : va_S A s.heap H locs) (hsize : ls.size = c.maxLocals)
    (d0 : decode cc pc = .ok (.new ik, 3)) (d3 : decode cc (pc + 3) = .ok (.dup, 1)) (d4 : decode cc (pc + 4) = .ok (.invokespecial ic, 3)) (d7 : decode cc (pc + 7) = .ok (.athrow, 1))
    (hout : ∀ x ∈ c.exceptionTable.toList, covers x (pc + 7) = false)
    (hRframes : names.length + 3 < R.frames) (hRlocals : (rest.map fun v => v.category).sum + (13 * (names.length + 1) + 42) ≤ R.locals) (hRcells : cells + 1 ≤ R.cells) (hRslots : slots + 6 ≤ R.slots) (hlocks : meth.locks = false)
    (hx : ∀ t : State, s.vm.Alike t.vm → t.heap.size = H.size + 1 → (∀ q : Nat, q < H.size → t.heap[q]? = H[q]?) → XC cls s t)
    (hf : ∀ z ∈ locs, free z.base) (hc : cells + 1 ≤ mc) (hs : slots + 6 ≤ ms) :
    W p l e R s m args below meth c H locs cells slots (vx_MQ below Qc XC args s mc ms free) (F0 m pc ls rest) := by
  intro T hT X
  have htr : e.platform.stackTraces = false := (show e.platform.stackTraces = l.stackTraces by rw [X.admits.platform]).trans hl
  have Y := vx_rebase X (R' := { frames := R.frames, locals := R.locals, cells := 1, slots := 6 }) (Nat.le_refl _) (Nat.le_refl _) hRcells hRslots
  obtain ⟨s', hA⟩ : ∃ z, z = (T.setVm s.vm).setFrames (.invoking m args :: below) := ⟨_, rfl⟩
  rw [← hA] at Y
  have hvm : s'.vm = s.vm := by rw [hA]; rfl
  have hhp : s'.heap = H := by rw [hA]; exact hT
  have hW0 : s.WarmedH s'.vm := by rw [hvm]; exact State.WarmedH.refl s
  have hat' : ∀ w ∈ vx_at0 own ic cls names, w.before args s' = true := fun w hw => vx_ot_at hW0 hvm.symm (hgood w (List.mem_cons_of_mem _ (List.mem_cons_of_mem _ hw))) (hat w hw)
  have hk' : (Cond.classLink own ik cls).before args s' = true := vx_ot_at hW0 hvm.symm (hgood _ List.mem_cons_self) hk
  have hini' : (Cond.initialized cls).before args s' = true := vx_ot_at hW0 hvm.symm (hgood _ (List.mem_cons_of_mem _ List.mem_cons_self)) hini
  have hU' : vx_Zq Bundle.tN "UNASSIGNED_STACK" Bundle.steD A s' s'.heap := by rw [hhp]; exact vx_Zq.moved hW0.alike (hU.kept hS.2.1)
  have hN' : vx_Zq Bundle.tN "SUPPRESSED_SENTINEL" Bundle.listD A s' s'.heap := by rw [hhp]; exact vx_Zq.moved hW0.alike (hN.kept hS.2.1)
  have h : ∀ w ∈ Bundle.ownAtoms0 own ic cls names, w.before args s' = true := vx_own hat' (vx_isRefq hU'.1) (vx_isRefq hN'.1) hU'.2.word hN'.2.word
  have hown' : s'.vm.findClass own = some m.cls := by rw [hvm]; exact hown
  have hins : (Cond.instantiable cls 6).before args s' = true := h _ (by simp [Bundle.ownAtoms0])
  obtain ⟨vm₁, cX, kX, hfX, hkX, -, -, X₁, st1⟩ := Y.newCold hexec (own := own) (C := cls) (index := ik) (n := 6) hown' hk' hins hini'
    (g := F0 m pc ls rest) rfl (by rw [hb]; exact d0) (Nat.le_refl _) (Nat.le_refl _)
  generalize hT1 : (T.setVm vm₁).pushCell { cls := cX, slots := kX.instanceTypes.map defaultValue, vm := .none } = T1 at X₁ st1
  have hcat : (Value.ref T.heap.size).category = 1 := rfl
  have hcellA : T1.heap[T.heap.size]? = some (freshCell cX kX) := by rw [← hT1]; exact State.heap_pushCell_size _ _
  have d3' : decode c.code (pc + 3) = .ok (.dup, 1) := by rw [hb]; exact d3
  obtain ⟨U, hsteps, hrun, hend, hW, hsame, ce, hce, hO⟩ := X₁.ctorThrow0 hexec htr (own := own) (cls := cls) (names := names) (ic := ic) hown' hcls hnames h (fun x hx => nomatch hx) hfX hkX hcellA (by rw [hhp, hT]; exact Nat.le_refl _)
    (g := { method := m, pc := pc + 4, locals := ls, stack := .ref T.heap.size :: .ref T.heap.size :: rest, locked := none }) rfl hsize rfl rfl (rest := rest) rfl
    (by rw [hb]; exact d4) (by rw [hb]; exact d7) hout hRframes (by simp only [List.map_cons, List.sum_cons, hcat]; omega) hlocks
  obtain ⟨f1, f2⟩ := vx_frame hsame
  rw [hhp] at f1 f2
  have hWs : s.WarmedH U.vm := State.WarmedH.trans hW0 hW
  have hcl : s.vm.findClass cls = some ce.cls := by
    have h9 := hO.cls
    rw [hvm] at h9
    exact h9
  have hall : s.sameButNew ({ U with vm := s.vm } : State) locs mc ms := by
    subst hA
    obtain ⟨e1, e2⟩ := hsame
    rw [State.setFrames_setFrames] at e1
    have h2 : (T.setVm s.vm).sameButNew ({ U with vm := s.vm } : State) [] (0 + 1) (0 + 6) := ⟨e1, e2⟩
    have h3 := X.same.trans h2
    rw [List.append_nil] at h3
    exact h3.mono hc hs
  refine ⟨U, ?_, .threw T.heap.size, hrun, hend, Or.inr ⟨T.heap.size, rfl, cls, ce, locs, hx U hWs.alike (by have b1 : U.heap.size ≤ s'.heap.size + (0 + 1) := hsame.2.2.1; have b2 := (Array.getElem?_eq_some_iff.mp hce).1; rw [hhp] at b1; rw [hT] at b2; omega) (fun q hq => f2 q hq (fun z hz => nomatch hz)), hce, hO.vm, hcl, hWs, hall, hf⟩⟩
  refine st1 _ ?_
  show Steps p.tables e below (T1.setTop { method := m, pc := pc + 3, locals := ls, stack := .ref T.heap.size :: rest, locked := none }) _
  jvm_step X₁.here [X₁.here.top, hexec, d3', Value.category]
  exact hsteps
end SXT
theorem at_IAE : ∀ w ∈ vx_at0 "PatchCords" 9 "java/lang/IllegalArgumentException" ["java/lang/RuntimeException", "java/lang/Exception"], w ∈ lw_all ∨ (w ∈ lw_tbl ∧ nw_ok w = true) := by
  intro w hw
  simp [vx_at0, Bundle.ownAtoms0, Bundle.throwableAtoms, Bundle.chain0Atoms, Bundle.passAtoms, vx_no, Bundle.tN, Bundle.steD, Bundle.listD, Bundle.init0, Bundle.tFill, Bundle.tFill0, Bundle.five, Bundle.tInit0, Bundle.oInit] at hw
  rcases hw with rfl | rfl | rfl | rfl | rfl | rfl | rfl | rfl | rfl | rfl | rfl | rfl | rfl | rfl | rfl | rfl | rfl | rfl | rfl | rfl | rfl | rfl | rfl | rfl | rfl | rfl | rfl | rfl | rfl | rfl | rfl | rfl | rfl | rfl | rfl | rfl | rfl | rfl | rfl | rfl | rfl | rfl | rfl | rfl | rfl | rfl | rfl | rfl | rfl
  · exact Or.inl q113
  · exact Or.inl q991
  · exact Or.inl q1000
  · exact Or.inl q1006
  · exact Or.inl q1009
  · exact Or.inl q1011
  · exact Or.inl q992
  · exact Or.inl q993
  · exact Or.inl q147
  · exact Or.inl q148
  · exact Or.inl q994
  · exact Or.inl q999
  · exact Or.inl q1007
  · exact Or.inl q1032
  · exact Or.inl q981
  · exact Or.inl q1033
  · exact Or.inl q983
  · exact Or.inl q1034
  · exact Or.inl q985
  · exact Or.inl q995
  · exact Or.inl q997
  · exact Or.inl q987
  · exact Or.inl q1341
  · exact Or.inl q1342
  · exact Or.inl q1343
  · exact Or.inl q1344
  · exact Or.inr ⟨q972, rfl⟩
  · exact Or.inl q1344
  · exact Or.inl q1345
  · exact Or.inl q1346
  · exact Or.inl q1347
  · exact Or.inr ⟨q974, rfl⟩
  · exact Or.inl q1347
  · exact Or.inl q1348
  · exact Or.inl q1349
  · exact Or.inl q992
  · exact Or.inr ⟨q976, rfl⟩
  · exact Or.inl q1340
  · exact Or.inl q970
  · exact Or.inr ⟨q971, rfl⟩
  · exact Or.inl q978
  · exact Or.inl q979
  · exact Or.inl q980
  · exact Or.inl q982
  · exact Or.inl q984
  · exact Or.inl q986
  · exact Or.inl q990
  · exact Or.inl q989
  · exact Or.inl q988
theorem at_IOOBE : ∀ w ∈ vx_at0 "PatchCords" 15 "java/lang/IndexOutOfBoundsException" ["java/lang/RuntimeException", "java/lang/Exception"], w ∈ lw_all ∨ (w ∈ lw_tbl ∧ nw_ok w = true) := by
  intro w hw
  simp [vx_at0, Bundle.ownAtoms0, Bundle.throwableAtoms, Bundle.chain0Atoms, Bundle.passAtoms, vx_no, Bundle.tN, Bundle.steD, Bundle.listD, Bundle.init0, Bundle.tFill, Bundle.tFill0, Bundle.five, Bundle.tInit0, Bundle.oInit] at hw
  rcases hw with rfl | rfl | rfl | rfl | rfl | rfl | rfl | rfl | rfl | rfl | rfl | rfl | rfl | rfl | rfl | rfl | rfl | rfl | rfl | rfl | rfl | rfl | rfl | rfl | rfl | rfl | rfl | rfl | rfl | rfl | rfl | rfl | rfl | rfl | rfl | rfl | rfl | rfl | rfl | rfl | rfl | rfl | rfl | rfl | rfl | rfl | rfl | rfl | rfl
  · exact Or.inl q113
  · exact Or.inl q991
  · exact Or.inl q1000
  · exact Or.inl q1006
  · exact Or.inl q1009
  · exact Or.inl q1011
  · exact Or.inl q992
  · exact Or.inl q993
  · exact Or.inl q147
  · exact Or.inl q148
  · exact Or.inl q994
  · exact Or.inl q999
  · exact Or.inl q1007
  · exact Or.inl q1032
  · exact Or.inl q981
  · exact Or.inl q1033
  · exact Or.inl q983
  · exact Or.inl q1034
  · exact Or.inl q985
  · exact Or.inl q995
  · exact Or.inl q997
  · exact Or.inl q987
  · exact Or.inl q1426
  · exact Or.inl q1427
  · exact Or.inl q1428
  · exact Or.inl q1344
  · exact Or.inr ⟨q972, rfl⟩
  · exact Or.inl q1344
  · exact Or.inl q1345
  · exact Or.inl q1346
  · exact Or.inl q1347
  · exact Or.inr ⟨q974, rfl⟩
  · exact Or.inl q1347
  · exact Or.inl q1348
  · exact Or.inl q1349
  · exact Or.inl q992
  · exact Or.inr ⟨q976, rfl⟩
  · exact Or.inl q1425
  · exact Or.inl q1417
  · exact Or.inr ⟨q1418, rfl⟩
  · exact Or.inl q1419
  · exact Or.inl q1004
  · exact Or.inl q1420
  · exact Or.inl q1421
  · exact Or.inl q1422
  · exact Or.inl q1423
  · exact Or.inl q990
  · exact Or.inl q989
  · exact Or.inl q1424
theorem at_ISE : ∀ w ∈ vx_at0 "PatchCords" 18 "java/lang/IllegalStateException" ["java/lang/RuntimeException", "java/lang/Exception"], w ∈ lw_all ∨ (w ∈ lw_tbl ∧ nw_ok w = true) := by
  intro w hw
  simp [vx_at0, Bundle.ownAtoms0, Bundle.throwableAtoms, Bundle.chain0Atoms, Bundle.passAtoms, vx_no, Bundle.tN, Bundle.steD, Bundle.listD, Bundle.init0, Bundle.tFill, Bundle.tFill0, Bundle.five, Bundle.tInit0, Bundle.oInit] at hw
  rcases hw with rfl | rfl | rfl | rfl | rfl | rfl | rfl | rfl | rfl | rfl | rfl | rfl | rfl | rfl | rfl | rfl | rfl | rfl | rfl | rfl | rfl | rfl | rfl | rfl | rfl | rfl | rfl | rfl | rfl | rfl | rfl | rfl | rfl | rfl | rfl | rfl | rfl | rfl | rfl | rfl | rfl | rfl | rfl | rfl | rfl | rfl | rfl | rfl | rfl
  · exact Or.inl q113
  · exact Or.inl q991
  · exact Or.inl q1000
  · exact Or.inl q1006
  · exact Or.inl q1009
  · exact Or.inl q1011
  · exact Or.inl q992
  · exact Or.inl q993
  · exact Or.inl q147
  · exact Or.inl q148
  · exact Or.inl q994
  · exact Or.inl q999
  · exact Or.inl q1007
  · exact Or.inl q1032
  · exact Or.inl q981
  · exact Or.inl q1033
  · exact Or.inl q983
  · exact Or.inl q1034
  · exact Or.inl q985
  · exact Or.inl q995
  · exact Or.inl q997
  · exact Or.inl q987
  · exact Or.inl q1363
  · exact Or.inl q1364
  · exact Or.inl q1365
  · exact Or.inl q1344
  · exact Or.inr ⟨q972, rfl⟩
  · exact Or.inl q1344
  · exact Or.inl q1345
  · exact Or.inl q1346
  · exact Or.inl q1347
  · exact Or.inr ⟨q974, rfl⟩
  · exact Or.inl q1347
  · exact Or.inl q1348
  · exact Or.inl q1349
  · exact Or.inl q992
  · exact Or.inr ⟨q976, rfl⟩
  · exact Or.inl q1362
  · exact Or.inl q1354
  · exact Or.inr ⟨q1355, rfl⟩
  · exact Or.inl q1356
  · exact Or.inl q1003
  · exact Or.inl q1357
  · exact Or.inl q1358
  · exact Or.inl q1359
  · exact Or.inl q1360
  · exact Or.inl q990
  · exact Or.inl q989
  · exact Or.inl q1361
/-- a new exception E thrown: the heap is one cell longer -/
def x_t {α : Type} (E : String) : PM Sto (α ⊕ String) := fun σ => some (.inr E, (σ.1, σ.2 + 1), 1, 6)
theorem so_R.skip {g : sm_G} {TA : Nat → Prop} {σ : Sto} {H H1 : Heap} (h : so_R g TA σ H) (oq : ∀ q : Nat, q < H.size → H1[q]? = H[q]?) (hz : H1.size = H.size + 1) : so_R g TA (σ.1, σ.2 + 1) H1 := by
  have hs := h.1
  refine ⟨by show H1.size = σ.2 + 1; omega, by show _ ≤ σ.2 + 1; have := h.2.1; omega, fun q hq => by show q < σ.2 + 1; have := h.2.2.1 q hq; omega, fun b x hb => ?_⟩
  obtain ⟨h1, h2⟩ := h.2.2.2 b x hb
  exact ⟨h1, h2.kept (oq b h2.lt)⟩
section STH
variable {ρ α β : Type} {g : sm_G} {own : String} {ret : Option FieldType} {nL fr lo : Nat} {pc : Nat} {L L' : List (Nat × Value)} {st : List Value} {cc : ByteArray} {TA : Nat → Prop}
theorem s_throw {Y : sm_Y Sto (ρ ⊕ String)} {emb : ρ → Option Value ⊕ String} (C : sm_C Y g cc own ret nL fr lo (em_x emb) true) (hR : yW Y = so_R g TA) {E : String} {ik ic : Nat} {names : List String} (hq1 : (Cond.classLink own ik E) ∈ lw_all) (hq2 : (Cond.initialized E) ∈ lw_all) (hat : ∀ w ∈ vx_at0 own ic E names, w ∈ lw_all ∨ (w ∈ lw_tbl ∧ nw_ok w = true)) (hE : Bundle.fit E = true) (hN : names.all Bundle.fit = true)
    (d0 : decode cc pc = .ok (.new ik, 3)) (d3 : decode cc (pc + 3) = .ok (.dup, 1)) (d4 : decode cc (pc + 4) = .ok (.invokespecial ic, 3)) (d7 : decode cc (pc + 7) = .ok (.athrow, 1)) (hfr : names.length + 4 ≤ fr) (hlo : (st.map fun v => v.category).sum + (13 * (names.length + 1) + 42) ≤ lo) {K : β ⊕ String → PM Sto (ρ ⊕ String)} (hK : ∀ E, K (.inr E) = pm_r (.inr E)) : Sim Y (pm_b (x_t E) K) pc L st := by
  intro σ k n H locs cells slots ls hf hW hS hc hs hl
  obtain ⟨x, s1, k1, n1, k2, n2, h1, h2, rfl, rfl⟩ := pm_b_some.mp hf
  unfold x_t at h1
  cases h1
  rw [hK] at h2
  obtain ⟨e1, e2, rfl, rfl⟩ := pm_r_some h2
  have hat1 : ∀ w ∈ vx_at0 own ic E names, w.before (yG Y) (yS Y) = true := fun w hw => (hat w hw).elim (fun h => C.w _ h) (fun h => va_Nw.use (nw_tab h.2) (C.k.2.1 w h.1 h.2))
  have good : ∀ w, w ∈ lw_all → vx_ot w = true := fun w h => by unfold vx_ot; rw [(List.mem_filter.mp h).2]; simp
  have hgood : ∀ w ∈ Cond.classLink own ik E :: Cond.initialized E :: vx_at0 own ic E names, vx_ot w = true := by
    intro w hw
    rcases List.mem_cons.mp hw with rfl | hw
    · exact good _ hq1
    · rcases List.mem_cons.mp hw with rfl | hw
      · exact good _ hq2
      · rcases hat w hw with h | h
        · exact good _ h
        · unfold vx_ot; rw [nw_tab h.2]; rfl
  rw [hR] at hW
  show W _ _ _ _ _ _ _ _ _ _ H locs cells slots (yQ Y) _
  rw [C.q1]
  refine sx_throw0 (A := yA Y) C.x C.b C.tr C.o hE (fun n hn => List.all_eq_true.mp hN n hn) (C.w _ hq1) (C.w _ hq2) hat1 hgood C.k.2.2.2.2.2.2.2.2.1 C.k.2.2.2.2.2.2.2.2.2.1 hS (by rw [C.ml]; exact hl.1.trans C.n) d0 d3 d4 d7 (fun x hx => (C.et x hx).elim) (by rw [C.rf]; omega) (by rw [C.rl]; exact hlo) (by rw [C.rc]; omega) (by rw [C.rs]; omega) C.lk ?_ hS.2.2 (by omega) (by omega)
  intro t hal hz oq
  refine ⟨⟨by rw [e1]; rfl, ?_⟩, ?_, ?_⟩
  · rw [hR, e2]
    exact hW.skip oq hz
  · rw [hz]; exact Nat.le_trans hS.1 (Nat.le_succ _)
  · intro q h3 h4
    rw [oq q (Nat.lt_of_lt_of_le h3 hS.1)]
    exact hS.2.1 q h3 h4
end STH
section SST
variable {S ρ α β : Type} {Y : sm_Y S ρ} {g : sm_G} {own : String} {ret : Option FieldType} {nL fr lo : Nat} {emb : ρ → Option Value ⊕ String} {th : Bool} {f : PM S ρ} {pc : Nat} {L L' : List (Nat × Value)} {st : List Value} {cc : ByteArray}
theorem s_gets (C : sm_C Y g cc own ret nL fr lo emb th) {Cn n d : String} {v : Value} (hZ : va_Z Cn n d v (yA Y) (yS Y) (yS Y).heap) {i : Nat} (hq : (Cond.fieldLink own i Cn n d) ∈ lw_all) (hd : decode cc pc = .ok (.getstatic i, 3)) (pc' : Nat) (hp : pc + 3 = pc') (kk : Sim Y f pc' L (v :: st)) : Sim Y f pc L st := by
  intro σ k n' H locs cells slots ls hf hW hS hc hs hl
  refine va_gets C.x C.b hZ hS C.o (C.w _ hq) (fun _ h => h) hd ?_
  rw [hp]
  exact kk σ k n' H locs cells slots ls hf hW hS hc hs hl
end SST
