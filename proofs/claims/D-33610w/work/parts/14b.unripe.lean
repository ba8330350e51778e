/-! A METHOD OF A CLASS OF WHICH NOBODY SAYS THAT IT'S INITIALISED (an enum constant's own body): its contract, out of its walk; a call of it -/
def un_ok (S : Spec) (x : MethodName) (pl : Platform) (s : State) (m : MethodId) (args : Array Value) (below : List Frame) : Prop :=
  s.status = .running ∧ s.curStatus? = some .runnable ∧ s.alone = true ∧ s.methodNamed? x = some m ∧ s.hears m below = true ∧ s.hasRoom pl S.room = true ∧ S.pre.before args s = true
def un_Met (l : Launch) (x : MethodName) (ws : List Cond) (rm : Room) (Pc : Array Value → State → Prop) (Qc : Array Value → State → Outcome → State → Prop) (mc ms : Nat) (free : Addr → Prop) : Prop :=
  ∀ (p : Program) (e : Env), l.admits e → FairCas e.choices → FairClock e.choices → ∀ (s : State) (m : MethodId) (args : Array Value) (below : List Frame),
    s.frames = .invoking m args :: below → un_ok (headSpec ws rm) x e.platform s m args below → Pc args s →
    ∃ (n : Nat) (o : Outcome), (∀ k, k < n → Within (stepsAlone p.tables e k s) below) ∧ (stepsAlone p.tables e n s).status = .running ∧ Ended (stepsAlone p.tables e n s) below o ∧ (Qc args s o (stepsAlone p.tables e n s) ∧ ∃ L, FrameEnd s o (stepsAlone p.tables e n s) L mc ms ∧ ∀ q ∈ L, free q.base)
def un_CT {S α : Type} (l : Launch) (g : sm_G) (Rl : S → Heap → Prop) (A : Nat → Prop) (y : MethodName) (cc : ByteArray) (nL : Nat) (ret : Option FieldType) (fr lo : Nat) (av : List Value) (emb : α → Option Value ⊕ String) (f : PM S α) : Prop :=
  ∀ (σ : S) (r : α) (σ' : S) (k n : Nat), f σ = some (r, σ', k, n) → un_Met l y (ws_ y cc nL ret) { frames := fr, cells := k, slots := n, locals := lo } (sm_Pc g Rl A av σ) (sm_Qq Rl A emb r σ') k n A
set_option maxHeartbeats 1000000 in
theorem un_of {S α : Type} {l : Launch} {g : sm_G} {Rl : S → Heap → Prop} {A : Nat → Prop} {y : MethodName} {cc : ByteArray} {nL : Nat} {ret : Option FieldType} {fr lo : Nat} {av : List Value} {emb : α → Option Value ⊕ String} {f : PM S α} {own : String}
    (ho : y.cls = own) (hy : plainName y.cls = true) (hn : (lg_sl av).length ≤ nL) (body : ∀ Y : sm_Y S α, sm_C Y g cc own ret nL fr lo emb false → yW Y = Rl → yA Y = A → yL Y = l → (yH Y).name = y.name → Sim Y f 0 (lv_args 0 av) []) : un_CT l g Rl A y cc nL ret fr lo av emb f := by
  intro σ r σ' k n hf p e ha hc hk s m args below hfr hok hv
  obtain ⟨hrun, hable, halone, hname, hhears, hroom, hpre⟩ := hok
  obtain ⟨rfl, hW, hK, hA⟩ := hv
  have hts0 := atoms_spec (ws := ws_ y cc nL ret) hpre
  have hts : ∀ w ∈ lw_all, w.before av.toArray s = true := fun w h => hts0 w (List.mem_cons_of_mem _ h)
  obtain ⟨meth, c, hmeth, hcode, hbytes, hlocals, hret, hlocks, -, -⟩ := Cond.code_spec hname (hts0 _ List.mem_cons_self)
  have hcur := State.cur_lt_of_frames hfr
  have hf1 : (s.setFrames (.java (entryFrame m av.toArray nL) :: below)).frames = .java (entryFrame m av.toArray nL) :: below := State.frames_setFrames _ hcur
  have ht1 := State.topJava?_of_frames hf1
  have hplain : (s.setFrames (.java (entryFrame m av.toArray nL) :: below)).plainMethod m := State.plainMethod.of_named (s := s) (plainFor_of_name hy) hname hmeth
  have hAt : At (s.setFrames (.java (entryFrame m av.toArray nL) :: below)) m c below :=
    ⟨by rw [ht1]; rfl, ⟨[], by rw [hf1]; rfl⟩, hrun, by simpa using hable, by simpa using halone,
      by rw [State.code?_eq]; simp [State.setFrames, hmeth, hcode], hplain⟩
  have hstep : (stepThread p.tables e s).1 = (s.setFrames (.java (entryFrame m av.toArray nL) :: below)).setTop (entryFrame m av.toArray nL) := by
    have hfull : e.platform.stackFull (s.setFrames below).me (s.setFrames below).frames c.maxLocals = false := by
      obtain ⟨-, h1, -, h2⟩ := State.hasRoom_stack hroom
      rw [hfr, List.length_cons] at h1
      rw [State.localsInUse_invoking hfr hmeth hcode] at h2
      have hw := stackUse_le_stackWeight below
      rw [State.frames_setFrames _ hcur]
      exact Platform.stackFull_eq_false (by rw [State.stackLimits_setFrames]; omega) (by rw [State.stackLimits_setFrames]; omega)
    rw [stepThread_invoking hfr, (doInvoke_java (s := s.setFrames below) (e := e) (meth := meth) (code := c) hmeth hcode hlocks hfull).1, State.setTop_self ht1]
    simp only [State.pushFrame, State.frames_setFrames _ hcur, State.setFrames_setFrames, hlocals, entryFrame]
  obtain ⟨t0, ht0, -⟩ := State.frames_cons hfr
  have X0 : Stand p l e (headSpec (ws_ y cc nL ret) { frames := fr, cells := k, slots := n, locals := lo }).room s m av.toArray below meth c (s.setFrames (.java (entryFrame m av.toArray nL) :: below)) [] 0 0 :=
    ⟨ha, hc, hk, hfr, hroom, hhears, hmeth, hcode, hAt, by rw [hf1]; rfl, State.WarmedH.refl s, by rw [State.stackLimits_setFrames], by rw [State.stackBytes_setFrames], (State.sameButNew.refl s ht0).setFrames (.java (entryFrame m av.toArray nL) :: below) hcur⟩
  have hl := lv_entry av (n := nL) hn
  have hb := body ((p, l, e, (headSpec (ws_ y cc nL ret) { frames := fr, cells := k, slots := n, locals := lo }).room, s, m, av.toArray, below, meth, c), Rl, A, MQ below (sm_Qq Rl A emb r σ') av.toArray s k n A, (r, σ'), k, n, nL)
    ⟨by cases p <;> rfl, hbytes, hlocals, rfl, by rw [← ho]; exact findClass_of_methodNamed hname, hts, hret, hlocks, hK, ⟨rfl, rfl, rfl, rfl⟩, hA, fun _ => rfl, (fun h => by cases h), rfl⟩ rfl rfl rfl (name_of_methodNamed hname hmeth).1
  have hb2 : W p l e (headSpec (ws_ y cc nL ret) { frames := fr, cells := k, slots := n, locals := lo }).room s m av.toArray below meth c s.heap [] 0 0 (MQ below (sm_Qq Rl A emb r σ') av.toArray s k n A) (entryFrame m av.toArray nL) := by
    rw [lg_entry_eq]
    exact hb σ k n s.heap [] 0 0 _ hf hW va_S.rf (by show 0 + k ≤ k; omega) (by show 0 + n ≤ n; omega) hl
  obtain ⟨t, a1, o, b1, b2, b3⟩ := hb2 (s.setFrames (.java (entryFrame m av.toArray nL) :: below)) rfl X0
  obtain ⟨n1, hn1, hw⟩ := Steps.head (tb := p.tables) (e := e) ⟨hrun, hable, halone⟩ ⟨[.invoking m av.toArray], hfr, by simp, by simp⟩ (hstep ▸ a1)
  exact ⟨n1, o, hw, hn1 ▸ b1, hn1 ▸ b2, hn1 ▸ ⟨b3.1, b3.2⟩⟩
theorem un_call {l : Launch} {x : MethodName} {ws : List Cond} {rm : Room} {Pc : Array Value → State → Prop} {Qc : Array Value → State → Outcome → State → Prop} {mc ms : Nat} {free : Addr → Prop} {e : Env}
    (hM : un_Met l x ws rm Pc Qc mc ms free) (p : Program) (ha : l.admits e) (hc : FairCas e.choices) (hk : FairClock e.choices)
    {s : State} {m : MethodId} {args : Array Value} {acts : List Action} {mid below : List Frame}
    (hfr : s.frames = mid ++ below) (happ : un_ok (headSpec ws rm) x e.platform (s.pushFrame (.invoking m args)) m args s.frames) (hcur : s.cur < s.threads.size) (hP : Pc args (s.pushFrame (.invoking m args))) :
    ∃ o s₂, Steps p.tables e below (doInvoke e s acts m args).1 s₂ ∧ s₂.status = .running ∧ Ended s₂ s.frames o ∧ (Qc args (s.pushFrame (.invoking m args)) o s₂ ∧ ∃ L, FrameEnd (s.pushFrame (.invoking m args)) o s₂ L mc ms ∧ ∀ q ∈ L, free q.base) := by
  obtain ⟨t, ht⟩ : ∃ t, s.threads[s.cur]? = some t := ⟨_, Array.getElem?_eq_getElem hcur⟩
  have hlt : s.cur < s.threads.size := hcur
  have hf' : (s.pushFrame (.invoking m args)).frames = .invoking m args :: s.frames := State.frames_setFrames _ hlt
  obtain ⟨hrun, hable, halone, -⟩ := id happ
  have hgo : (s.pushFrame (.invoking m args)).goesOn := ⟨hrun, hable, halone⟩
  obtain ⟨n, o, hw, hr, he, hp⟩ := hM p e ha hc hk (s.pushFrame (.invoking m args)) m args s.frames hf' happ hP
  have hstep : (stepThread p.tables e (s.pushFrame (.invoking m args))).1 = (doInvoke e s acts m args).1 := by
    rw [stepThread_invoking hf', doInvoke_state e s acts, State.pushFrame, State.setFrames_setFrames, State.setFrames_self ht]
  cases n with
  | zero => exact absurd ⟨[.invoking m args], hf', by simp, by simp⟩ he.not_within
  | succ k =>
    rw [stepsAlone_succ _ hgo, hstep] at hr he hp
    refine ⟨o, _, ⟨k, rfl, fun j hj => ?_⟩, hr, he, hp⟩
    have := hw (j + 1) (by omega)
    rw [stepsAlone_succ _ hgo, hstep, hfr] at this
    exact this.weaken
section UNB
variable {l : Launch} {R : Room} {p : Program} {e : Env} {below : List Frame} {s : State} {sargs : Array Value} {y : MethodName} {len W9 : Nat}
set_option maxHeartbeats 1000000 in
theorem un_back {ws : List Cond} {rm : Room} {Pc : Array Value → State → Prop} {Qc : Array Value → State → Outcome → State → Prop} {mc ms : Nat} {free : Addr → Prop} {bytes : ByteArray} {maxL : Nat} {ret : Option FieldType}
    (hM : un_Met l y ws rm Pc Qc mc ms free) (hblind : FrameBlind Pc) (hrc : rm.cells = mc) (hrs : rm.slots = ms)
    (hframes : rm.frames + 1 ≤ R.frames) (hlocals : W9 + (maxL + 11) + rm.locals ≤ R.locals)
    (hws : ∀ w ∈ ws, ∀ a' U, s.WarmedH U.vm → w.before a' U = true) (hcode : Cond.code y bytes maxL ret ∈ ws) :
    Back l R p e below s sargs y len W9 (PreOf R mc ms Pc) (PostOf Qc mc ms free) := by
  intro m meth c A g ig mk a X hg hsize hdg hW hn hp
  have h1 : (headSpec ws rm).pre.before a A.U = true := atoms_intro fun w hw => hws w hw _ _ X.warmed
  have h2 : (Cond.code y bytes maxL ret).before a A.U = true := hws _ hcode _ _ X.warmed
  have h4 : A.cells + (headSpec ws rm).room.cells ≤ R.cells := by rw [show (headSpec ws rm).room.cells = mc from hrc]; exact hp.1
  have h5 : A.slots + (headSpec ws rm).room.slots ≤ R.slots := by rw [show (headSpec ws rm).room.slots = ms from hrs]; exact hp.2.1
  have hPc : Pc a (A.U.calling g mk a) := hblind _ _ _ _ hp.2.2
  obtain ⟨U, Ls, c0, s0⟩ := A
  dsimp only [Pt.U, Pt.locs, Pt.cells, Pt.slots] at h1 h2 h4 h5 X hn hPc ⊢
  obtain ⟨methY, cY, hmY, hcY, -, hlY, -⟩ := Cond.code_spec hn h2
  have h : At U g.method c below := by rw [hg]; exact X.here
  have hroom : (U.calling g mk a).hasRoom e.platform (headSpec ws rm).room = true := X.room_calling (g := g) (R' := (headSpec ws rm).room) hsize hmY hcY hframes (by have e9 : (headSpec ws rm).room.locals = rm.locals := rfl; rw [hlY, e9]; omega) h4 h5
  have hcd : (U.calling g mk a).code? g.method = some c := by
    have := h.code
    rw [State.code?_eq] at this ⊢
    simpa [State.calling, State.pushFrame, State.setFrames] using this
  obtain ⟨mid, hmid⟩ := h.above
  have hfr : (U.setTop g).frames = (.java g :: mid) ++ below := by rw [State.frames_setTop' g h.top, hmid]; rfl
  have hcur : (U.setTop g).cur < (U.setTop g).threads.size := State.cur_lt_of_frames (show (U.setTop g).frames = .java g :: (mid ++ below) by rw [hfr]; rfl)
  have hfc : (U.setTop g).frames = .java g :: U.frames.tail := State.frames_setTop' g h.top
  have happ : un_ok (headSpec ws rm) y e.platform (U.calling g mk a) mk a (U.setTop g).frames := by
    refine ⟨h.running, ?_, ?_, hn, ?_, hroom, ?_⟩
    · simpa [State.calling] using h.runnable
    · simpa [State.calling] using h.alone
    · rw [hfc]; simp [State.hears, hcd, hdg, Except.toOption]
    · rw [State.calling_eq h.top, Cond.before_setFrames]; exact h1
  obtain ⟨o, s₂, hsteps, -, hend, hq⟩ := un_call hM p X.admits X.cas X.clock (acts := []) hfr happ hcur hPc
  rw [hfc] at hend
  obtain ⟨hqc, L, hfe, hL⟩ := hq
  obtain ⟨⟨v, rfl⟩, hW₂, e2, q2, q3, q4, q5, q6⟩ := id hfe
  have e3 : s₂ = ({ (U.calling g mk a).setFrames s₂.frames with heap := s₂.heap, slotsUsed := s₂.slotsUsed } : State).setVm s₂.vm := by
    have : s₂ = ({ s₂ with vm := (U.calling g mk a).vm } : State).setVm s₂.vm := rfl
    rw [show ({ s₂ with vm := (U.calling g mk a).vm } : State) = _ from e2] at this
    exact this
  obtain ⟨c₂, i₂, len₂, hc₂, hd₂, hf₂⟩ := hend
  have hW' : U.WarmedH s₂.vm := hW₂
  have hcc : c₂ = c := by
    have h1 : s₂.code? g.method = U.code? g.method := by
      rw [State.code?_eq, State.code?_eq, hW'.alike.method?]
    exact Option.some.inj (hc₂.symm.trans (h1.trans h.code))
  subst hcc
  have hlen : len₂ = len := by rw [hdg] at hd₂; cases hd₂; rfl
  subst hlen
  obtain ⟨g₀, hg0⟩ := Option.isSome_iff_exists.mp h.top
  obtain ⟨r, hr⟩ := State.topJava?_eq_some.mp hg0
  have hs₂ : s₂ = (({ U with heap := s₂.heap, slotsUsed := s₂.slotsUsed } : State).setVm s₂.vm).setTop { g with pc := g.pc + len₂, stack := v.toList ++ g.stack } := by
    have hr' : (({ U with heap := s₂.heap, slotsUsed := s₂.slotsUsed } : State).setVm s₂.vm).frames = .java g₀ :: r := hr
    refine e3.trans ?_
    rw [hf₂, State.calling_eq h.top, State.setFrames_setFrames, State.setTop_of_frames _ hr', hr]
    rfl
  have hsame : U.sameButNew ({ U with heap := s₂.heap, slotsUsed := s₂.slotsUsed } : State) L mc ms := by
    refine ⟨?_, q2, q3, q4, q5, q6⟩
    obtain ⟨t, ht, -⟩ := State.frames_cons hr
    show ({ U with heap := s₂.heap, slotsUsed := s₂.slotsUsed } : State) = { U.setFrames U.frames with heap := s₂.heap, slotsUsed := s₂.slotsUsed }
    rw [State.setFrames_self ht]
  subst hg
  refine ⟨v, ⟨(({ U with heap := s₂.heap, slotsUsed := s₂.slotsUsed } : State).setVm s₂.vm), Ls ++ L, c0 + mc, s0 + ms⟩,
    ⟨X.admits, X.cas, X.clock, X.frames, X.room, X.hears, X.method, X.code, (X.here.setHeapUsed s₂.heap s₂.slotsUsed).setVm hW'.alike, X.tail, State.WarmedH.trans X.warmed hW', X.limits, X.bytes, X.same.trans (hsame.setVm s.vm)⟩,
    ⟨g, mk, s₂, L, rfl, rfl, hqc, rfl, hL, rfl, rfl⟩, ?_⟩
  show Steps p.tables e below _ ((({ U with heap := s₂.heap, slotsUsed := s₂.slotsUsed } : State).setVm s₂.vm).setTop { g with pc := g.pc + len₂, stack := v.toList ++ g.stack })
  rw [← hs₂]
  exact hsteps
end UNB
section UNC
variable {S ρ α β : Type} {Y : sm_Y S ρ} {g : sm_G} {own : String} {ret : Option FieldType} {nL fr lo : Nat} {emb : ρ → Option Value ⊕ String} {th : Bool} {pc : Nat} {L : List (Nat × Value)} {st0 rest : List Value} {cc : ByteArray} {emb2 : α → Option Value ⊕ String} {f : PM S α}
variable {y : MethodName} {cc2 : ByteArray} {nL2 fr2 lo2 i : Nat} {ret2 : Option FieldType}
theorem un_U (C : sm_C Y g cc own ret nL fr lo emb th) {b : Nat} {As : List Value} {C0 owner : String} {x : MethodName} (hct : un_CT (yL Y) g (yW Y) (yA Y) y cc2 nL2 ret2 fr2 lo2 (.ref b :: As) emb2 f) (hrv : sm_rv Y C0 b f) (hq1 : Cond.methodLink own i x ∈ lw_all) (hq2 : Cond.sameMethod x.cls owner x.name x.desc ∈ lw_all) (hdc : va_Decl (yS Y) ⟨owner, x.name, x.desc⟩) (hq3 : (Cond.selects C0 x y).before (yG Y) (yS Y) = true) (hq4 : Cond.instanceMethod y ∈ lw_all) (hq6 : Cond.code y cc2 nL2 ret2 ∈ lw_all) (hn : owner ≠ "java/lang/invoke/MethodHandle" ∧ owner ≠ "java/lang/invoke/VarHandle" ∧ (parseMethodDescriptor x.desc).map (fun d => d.parameters.length) = some As.length) (hroom : fr2 + 1 ≤ fr ∧ 8 + (nL2 + 11) + lo2 ≤ lo) (hst : st0 = As.reverse ++ .ref b :: rest) (hcat : (rest.map fun v => v.category).sum ≤ 8) (hd : decode cc pc = .ok (.invokevirtual i, 3)) : sm_Rn Y pc L st0 rest emb2 f := by
  intro σ r σ1 k n H locs cells slots ls hf hW hS hc hs hl
  have hcode : Cond.code y cc2 nL2 ret2 ∈ ws_ y cc2 nL2 ret2 := List.mem_cons_self
  have hp := sm_preV (As := As) (C0 := C0) C hW hS (hrv σ H _ hf hW ⟨hS.1, hS.2.1, fun _ h => by cases h⟩)
  have hK : Back (yL Y) (yR Y) (yP Y) (yE Y) (yB Y) (yS Y) (yG Y) y 3 8 (PreOf (yR Y) k n (sm_Pc g (yW Y) (yA Y) (.ref b :: As) σ)) (PostOf (sm_Qq (yW Y) (yA Y) emb2 r σ1) k n (yA Y)) :=
    un_back (bytes := cc2) (maxL := nL2) (ret := ret2) (hct σ r σ1 k n hf) hp.1 rfl rfl (by rw [C.rf]; exact hroom.1) (by rw [C.rl]; exact hroom.2) (pay_in C.w (lw_meth hq6)) hcode
  obtain ⟨-, ⟨cellB, hcB, hoB, hclB⟩, hPc⟩ := hp
  refine ⟨(Value.ref b :: As).toArray, fun T hT X => ?_⟩
  obtain ⟨v, vm₁, ⟨U', l2, c2, s2⟩, hW₁, X', ⟨g', mk, t, L2, e1, e2, hq, h1, hL, h2, h3⟩, st⟩ := va_callVU X C.x (C := C0) (owner := owner) (bytes := cc2) (maxL := nL2) (ret := ret2) C.o (C.w _ hq1) (C.w _ hq2) hdc ⟨hn.1, hn.2.1⟩ hq3 (C.w _ hq4) (C.w _ hq6) hK (by rw [hT]; exact hcB) hoB hclB (g := F0 (yM Y) pc ls st0) rfl (by rw [C.ml]; exact hl.1.trans C.n) (argsL := As) (rest := rest) (fun sig h => by
      have h2 := hn.2.2
      rw [h] at h2
      exact (Option.some.inj h2).symm) hst (lv_room hcat) (by rw [C.b]; exact hd)
    (fun vm₁ hW₁ => ⟨by rw [C.rc]; exact hc, by rw [C.rs]; exact hs, hPc (T.setVm vm₁) hT hW₁⟩)
  dsimp only [Pt.U, Pt.locs, Pt.cells, Pt.slots] at X' e1 e2 h1 h2 h3 st
  subst h1; subst h2; subst h3
  exact ⟨v, (T.setVm vm₁).calling g' mk (Value.ref b :: As).toArray, t, U', L2, hT, X', hL, e1, e2, hq, st⟩
end UNC
