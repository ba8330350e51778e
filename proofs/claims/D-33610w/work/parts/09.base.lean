/-! PURE PROGRAMS over a state S: they answer, leave a state, and say what they make (cells, slots); none: not covered -/
set_option maxRecDepth 100000
abbrev PM (S α : Type) : Type := S → Option (α × S × Nat × Nat)
def pm_r {S α : Type} (a : α) : PM S α := fun s => some (a, s, 0, 0)
def pm_n {S α : Type} : PM S α := fun _ => none
def pm_b {S α β : Type} (x : PM S α) (f : α → PM S β) : PM S β := fun s => (x s).bind fun r => (f r.1 r.2.1).bind fun t => some (t.1, t.2.1, r.2.2.1 + t.2.2.1, r.2.2.2 + t.2.2.2)
theorem pm_b_some {S α β : Type} {x : PM S α} {f : α → PM S β} {s s2 : S} {b : β} {k n : Nat} : pm_b x f s = some (b, s2, k, n) ↔ ∃ a s1 k1 n1 k2 n2, x s = some (a, s1, k1, n1) ∧ f a s1 = some (b, s2, k2, n2) ∧ k = k1 + k2 ∧ n = n1 + n2 := by
  constructor
  · intro h
    unfold pm_b at h
    cases hx : x s with
    | none => rw [hx] at h; cases h
    | some r =>
      obtain ⟨a, s1, k1, n1⟩ := r
      rw [hx, Option.bind_some] at h
      cases hf : f a s1 with
      | none => dsimp only at h; rw [hf] at h; cases h
      | some t =>
        obtain ⟨b', s', k2, n2⟩ := t
        dsimp only at h
        rw [hf, Option.bind_some] at h
        cases h
        exact ⟨a, s1, k1, n1, k2, n2, rfl, hf, rfl, rfl⟩
  · rintro ⟨a, s1, k1, n1, k2, n2, hx, hf, rfl, rfl⟩
    unfold pm_b
    rw [hx, Option.bind_some]
    dsimp only
    rw [hf, Option.bind_some]
theorem pm_b_at {S α β : Type} {x : PM S α} {f : α → PM S β} {s s1 s2 : S} {a : α} {b : β} {k1 n1 k2 n2 : Nat} (hx : x s = some (a, s1, k1, n1)) (hf : f a s1 = some (b, s2, k2, n2)) : pm_b x f s = some (b, s2, k1 + k2, n1 + n2) := pm_b_some.mpr ⟨a, s1, k1, n1, k2, n2, hx, hf, rfl, rfl⟩
theorem pm_r_some {S α : Type} {a b : α} {s s2 : S} {k n : Nat} (h : pm_r a s = some (b, s2, k, n)) : b = a ∧ s2 = s ∧ k = 0 ∧ n = 0 := by
  unfold pm_r at h
  cases h
  exact ⟨rfl, rfl, rfl, rfl⟩
theorem pm_b_n {S α β : Type} {x : PM S α} {f : α → PM S β} {s : S} (h : x s = none) : pm_b x f s = none := by
  unfold pm_b; rw [h]; rfl
theorem pm_n_b {S α β : Type} (f : α → PM S β) : pm_b pm_n f = pm_n := rfl
theorem pm_r_b {S α β : Type} (a : α) (f : α → PM S β) : pm_b (pm_r a) f = f a := by
  funext s
  show ((f a s).bind fun t => some (t.1, t.2.1, 0 + t.2.2.1, 0 + t.2.2.2)) = f a s
  cases f a s with
  | none => rfl
  | some t => simp
theorem pm_b_r {S α : Type} (x : PM S α) : pm_b x pm_r = x := by
  funext s
  show ((x s).bind fun r => some (r.1, r.2.1, r.2.2.1 + 0, r.2.2.2 + 0)) = x s
  cases x s with
  | none => rfl
  | some t => simp
theorem pm_b_as {S α β γ : Type} (x : PM S α) (f : α → PM S β) (g : β → PM S γ) : pm_b (pm_b x f) g = pm_b x (fun a => pm_b (f a) g) := by
  funext s
  unfold pm_b
  cases x s with
  | none => rfl
  | some r =>
    simp only [Option.bind_some]
    cases f r.1 r.2.1 with
    | none => rfl
    | some t =>
      simp only [Option.bind_some]
      cases g t.1 t.2.1 with
      | none => rfl
      | some u => simp [Nat.add_assoc]
theorem pm_ite_b {S α β : Type} (c : Prop) [Decidable c] (x y : PM S α) (f : α → PM S β) : pm_b (if c then x else y) f = if c then pm_b x f else pm_b y f := by
  split <;> rfl
/-- a loop: the body goes on (inl) or is through (inr) -/
def pm_lpN {S τ ρ : Type} (body : τ → PM S (τ ⊕ ρ)) : Nat → τ → PM S ρ
  | 0, _ => pm_n
  | n + 1, s => pm_b (body s) (Sum.elim (pm_lpN body n) pm_r)
theorem pm_lpN_up {S τ ρ : Type} {body : τ → PM S (τ ⊕ ρ)} : ∀ (n m : Nat) (s : τ) (σ : S) (v : ρ × S × Nat × Nat), n ≤ m → pm_lpN body n s σ = some v → pm_lpN body m s σ = some v := by
  intro n
  induction n with
  | zero => intro m s σ v _ h; cases h
  | succ n ih =>
    intro m s σ v hm h
    cases m with
    | zero => omega
    | succ m =>
      obtain ⟨b, s2, k, j⟩ := v
      obtain ⟨a, s1, k1, n1, k2, n2, h1, h2, rfl, rfl⟩ := pm_b_some.mp h
      refine pm_b_some.mpr ⟨a, s1, k1, n1, k2, n2, h1, ?_, rfl, rfl⟩
      cases a with
      | inl a => exact ih m a s1 _ (by omega) h2
      | inr a => exact h2
noncomputable def pm_lp {S τ ρ : Type} (body : τ → PM S (τ ⊕ ρ)) (s : τ) : PM S ρ := fun σ =>
  @dite _ (∃ n v, pm_lpN body n s σ = some v) (Classical.propDecidable _) (fun h => some (Classical.choose (Classical.choose_spec h))) (fun _ => none)
theorem pm_lp_iff {S τ ρ : Type} {body : τ → PM S (τ ⊕ ρ)} {s : τ} {σ : S} {v : ρ × S × Nat × Nat} : pm_lp body s σ = some v ↔ ∃ n, pm_lpN body n s σ = some v := by
  unfold pm_lp
  by_cases h : ∃ n v, pm_lpN body n s σ = some v
  · rw [dif_pos h]
    have h1 := Classical.choose_spec (Classical.choose_spec h)
    constructor
    · intro e
      exact ⟨_, by rw [← Option.some.inj e]; exact h1⟩
    · rintro ⟨n, hn⟩
      have a := pm_lpN_up _ _ _ _ _ (Nat.le_max_left n (Classical.choose h)) hn
      have b := pm_lpN_up _ _ _ _ _ (Nat.le_max_right n (Classical.choose h)) h1
      exact b.symm.trans a
  · rw [dif_neg h]
    constructor
    · intro e; cases e
    · rintro ⟨n, hn⟩; exact absurd ⟨n, v, hn⟩ h
theorem pm_lp_none {S τ ρ : Type} {body : τ → PM S (τ ⊕ ρ)} {s : τ} {σ : S} (h : ∀ n, pm_lpN body n s σ = none) : pm_lp body s σ = none := by
  cases e : pm_lp body s σ with
  | none => rfl
  | some v =>
    obtain ⟨n, hn⟩ := pm_lp_iff.mp e
    rw [h n] at hn; cases hn
theorem pm_lp_eq {S τ ρ : Type} (body : τ → PM S (τ ⊕ ρ)) (s : τ) : pm_lp body s = pm_b (body s) (Sum.elim (pm_lp body) pm_r) := by
  funext σ
  have key : ∀ v, pm_lp body s σ = some v ↔ pm_b (body s) (Sum.elim (pm_lp body) pm_r) σ = some v := by
    rintro ⟨b, s2, k, j⟩
    rw [pm_lp_iff]
    constructor
    · rintro ⟨n, hn⟩
      cases n with
      | zero => cases hn
      | succ n =>
        obtain ⟨a, s1, k1, n1, k2, n2, h1, h2, rfl, rfl⟩ := pm_b_some.mp hn
        refine pm_b_some.mpr ⟨a, s1, k1, n1, k2, n2, h1, ?_, rfl, rfl⟩
        cases a with
        | inl a => exact pm_lp_iff.mpr ⟨n, h2⟩
        | inr a => exact h2
    · intro h
      obtain ⟨a, s1, k1, n1, k2, n2, h1, h2, rfl, rfl⟩ := pm_b_some.mp h
      cases a with
      | inl a =>
        obtain ⟨n, hn⟩ := pm_lp_iff.mp h2
        exact ⟨n + 1, pm_b_some.mpr ⟨_, s1, k1, n1, k2, n2, h1, hn, rfl, rfl⟩⟩
      | inr a => exact ⟨1, pm_b_some.mpr ⟨_, s1, k1, n1, k2, n2, h1, h2, rfl, rfl⟩⟩
  cases h1 : pm_lp body s σ with
  | some v => exact ((key v).mp h1).symm
  | none =>
    cases h2 : pm_b (body s) (Sum.elim (pm_lp body) pm_r) σ with
    | none => rfl
    | some v => rw [(key v).mpr h2] at h1; cases h1
/-! WHERE A WALK STANDS: the machine; the world's relation, what may be written, what is owed at the end; the answer and the state behind; the room -/
abbrev sm_X : Type := Program × Launch × Env × Room × State × MethodId × Array Value × List Frame × Method × Code
abbrev sm_Y (S ρ : Type) : Type := sm_X × (S → Heap → Prop) × (Nat → Prop) × (State → Prop) × (ρ × S) × (Nat × Nat × Nat)
section SMY
variable {S ρ : Type} (Y : sm_Y S ρ)
abbrev yP : Program := Y.1.1
abbrev yL : Launch := Y.1.2.1
abbrev yE : Env := Y.1.2.2.1
abbrev yR : Room := Y.1.2.2.2.1
abbrev yS : State := Y.1.2.2.2.2.1
abbrev yM : MethodId := Y.1.2.2.2.2.2.1
abbrev yG : Array Value := Y.1.2.2.2.2.2.2.1
abbrev yB : List Frame := Y.1.2.2.2.2.2.2.2.1
abbrev yH : Method := Y.1.2.2.2.2.2.2.2.2.1
abbrev yC : Code := Y.1.2.2.2.2.2.2.2.2.2
abbrev yW : S → Heap → Prop := Y.2.1
abbrev yA : Nat → Prop := Y.2.2.1
abbrev yQ : State → Prop := Y.2.2.2.1
abbrev yF : ρ × S := Y.2.2.2.2.1
abbrev yc : Nat := Y.2.2.2.2.2.1
abbrev ys : Nat := Y.2.2.2.2.2.2.1
abbrev yn : Nat := Y.2.2.2.2.2.2.2
abbrev YW (H : Heap) (locs : List Loc) (cells slots : Nat) (g : JFrame) : Prop := W (yP Y) (yL Y) (yE Y) (yR Y) (yS Y) (yM Y) (yG Y) (yB Y) (yH Y) (yC Y) H locs cells slots (yQ Y) g
abbrev YX (H : Heap) (locs : List Loc) (cells slots : Nat) (g : JFrame) (q : Nat) : Prop := vx_W (yP Y) (yL Y) (yE Y) (yR Y) (yS Y) (yM Y) (yG Y) (yB Y) (yH Y) (yC Y) H locs cells slots (yQ Y) g q
end SMY
/-- the machine at pc with these locals and this stack does what f says -/
def Sim {S ρ : Type} (Y : sm_Y S ρ) (f : PM S ρ) (pc : Nat) (L : List (Nat × Value)) (st : List Value) : Prop :=
  ∀ (σ : S) (k n : Nat) (H : Heap) (locs : List Loc) (cells slots : Nat) (ls : Array Slot), f σ = some ((yF Y).1, (yF Y).2, k, n) → yW Y σ H → va_S (yA Y) (yS Y).heap H locs → cells + k ≤ yc Y → slots + n ≤ ys Y → lv_has ls (yn Y) L → YW Y H locs cells slots (F0 (yM Y) pc ls st)
section SMR
variable {S ρ α β γ τ : Type} {Y : sm_Y S ρ} {f : PM S ρ} {pc pc' : Nat} {L L' : List (Nat × Value)} {st st' : List Value} {cc : ByteArray}
/-- a row that the world doesn't see -/
theorem s_mono (h : ∀ (H : Heap) (locs : List Loc) (cells slots : Nat) (ls : Array Slot), lv_has ls (yn Y) L → YW Y H locs cells slots (F0 (yM Y) pc' ls st') → YW Y H locs cells slots (F0 (yM Y) pc ls st)) (k : Sim Y f pc' L st') : Sim Y f pc L st := by
  intro σ k1 n H locs cells slots ls hf hW hS hc hs hl
  exact h H locs cells slots ls hl (k σ k1 n H locs cells slots ls hf hW hS hc hs hl)
theorem s_monoL (h : ∀ (H : Heap) (locs : List Loc) (cells slots : Nat) (ls : Array Slot), lv_has ls (yn Y) L → (∀ ls' : Array Slot, lv_has ls' (yn Y) L' → YW Y H locs cells slots (F0 (yM Y) pc' ls' st')) → YW Y H locs cells slots (F0 (yM Y) pc ls st)) (k : Sim Y f pc' L' st') : Sim Y f pc L st := by
  intro σ k1 n H locs cells slots ls hf hW hS hc hs hl
  exact h H locs cells slots ls hl (fun ls' hl' => k σ k1 n H locs cells slots ls' hf hW hS hc hs hl')
theorem s_none : Sim Y (pm_b (pm_n : PM S α) (fun a => (f : PM S ρ))) pc L st := by
  intro σ k n H locs cells slots ls hf
  cases hf
theorem s_none1 {K : α → PM S ρ} : Sim Y (pm_b (pm_n : PM S α) K) pc L st := by
  intro σ k n H locs cells slots ls hf
  cases hf
/-- fewer listed locals, in any order -/
theorem s_lv (ks : List Nat) (hl : lv_pick L ks = L') (k : Sim Y f pc L' st) : Sim Y f pc L st := by
  intro σ k1 n H locs cells slots ls hf hW hS hc hs h
  exact k σ k1 n H locs cells slots ls hf hW hS hc hs (lv_sub h ks hl)
theorem s_top {f : PM S ρ} (k : Sim Y (pm_b f pm_r) pc L st) : Sim Y f pc L st := by rw [pm_b_r] at k; exact k
theorem s_as {x : PM S α} {g : α → PM S β} {K : β → PM S ρ} (k : Sim Y (pm_b x (fun a => pm_b (g a) K)) pc L st) : Sim Y (pm_b (pm_b x g) K) pc L st := by rw [pm_b_as]; exact k
theorem s_r {a : α} {K : α → PM S ρ} (k : Sim Y (K a) pc L st) : Sim Y (pm_b (pm_r a) K) pc L st := by rw [pm_r_b]; exact k
/-- a program bound to what comes behind it: that behind is named, and known to do its part -/
theorem s_cut {x : PM S α} {g : α → PM S β} {K : β → PM S ρ} {J : Nat} {LJ : α → List (Nat × Value)} {SJ : α → List Value} (hK : ∀ v, Sim Y (pm_b (g v) K) J (LJ v) (SJ v)) (k : ∀ K' : α → PM S ρ, (∀ v, K' v = pm_b (g v) K) → (∀ v, Sim Y (K' v) J (LJ v) (SJ v)) → Sim Y (pm_b x K') pc L st) : Sim Y (pm_b (pm_b x g) K) pc L st := by
  rw [pm_b_as]
  exact k _ (fun _ => rfl) hK
/-- a loop: at its head with the values s of what it carries -/
theorem s_lp {body : τ → PM S (τ ⊕ β)} {K : β → PM S ρ} {LJ : τ → List (Nat × Value)} (s0 : τ) (hL : LJ s0 = L)
    (h : ∀ (K' : τ ⊕ β → PM S ρ) (s : τ), (∀ s', Sim Y (K' (.inl s')) pc (LJ s') st) → (∀ v, K' (.inr v) = K v) → Sim Y (pm_b (body s) K') pc (LJ s) st) : Sim Y (pm_b (pm_lp body s0) K) pc L st := by
  subst hL
  have key : ∀ (n : Nat) (s : τ), Sim Y (pm_b (pm_lpN body n s) K) pc (LJ s) st := by
    intro n
    induction n with
    | zero =>
      intro s σ k1 n H locs cells slots ls hf
      cases hf
    | succ n ih =>
      intro s
      show Sim Y (pm_b (pm_b (body s) (Sum.elim (pm_lpN body n) pm_r)) K) pc (LJ s) st
      rw [pm_b_as]
      exact h (fun x => pm_b (Sum.elim (pm_lpN body n) pm_r x) K) s (fun s' => ih s') (fun v => pm_r_b v K)
  intro σ k1 n1 H locs cells slots ls hf hW hS hc hs hl
  obtain ⟨a, s1, k1, n1, k2, n2, h1, h2, rfl, rfl⟩ := pm_b_some.mp hf
  obtain ⟨n, hn⟩ := pm_lp_iff.mp h1
  exact key n s0 σ (k1 + k2) (n1 + n2) H locs cells slots ls (pm_b_at hn h2) hW hS hc hs hl
end SMR
/-! WHAT IS KNOWN OF THE TABLES AND OF STATICS, all through -/
/-- the classes' numbers, their fields' places, the array classes' numbers, where the law's own cells begin, the addresses of constants -/
abbrev sm_G : Type := (Nat → ClassId) × (Nat → Nat → Nat) × (Nat → ClassId) × Nat × (Nat → Nat)
abbrev vwCl : List vw_C := [(RX1, TX1, 4), (RX2, TX2, 14), (RX12, TX12, 3), (RX8, TX8, 8), (RX9, TX9, 3), (RX10, TX10, 2), (RX6, TX6, 2), (RX11, TX11, 3), (RX13, TX13, 4), (RX14, TX14, 4), (RJ2, TJ2, 3), (RJ5, TJ5, 4), (RX4, TX4, 20)]
abbrev sm_tys (g : sm_G) : List (ClassId × FieldType) := [(g.2.2.1 0, .int), (g.2.2.1 1, .boolean), (g.2.2.1 2, .byte), (g.2.2.1 3, .long), (g.2.2.1 4, .object "java/lang/Object"), (g.2.2.1 5, .object "PatchCords$Way")]
def nw_ok : Cond → Bool
  | .fieldLinkNest _ _ _ _ _ _ => true
  | .methodLinkNest _ _ _ _ => true
  | .declares _ => true
  | .castable _ _ => true
  | _ => false
theorem nw_tab {w : Cond} (h : nw_ok w = true) : w.onTables = true := by
  cases w <;> first | rfl | cases h
theorem nw_warm {w : Cond} (h : nw_ok w = true) {s U : State} (hW : s.WarmedH U.vm) (hZ : va_Nw w s) : va_Nw w U := by
  cases w with
  | fieldLinkNest => exact va_Nw.warmF hW hZ
  | methodLinkNest => exact va_Nw.warmM hW hZ
  | declares => exact va_Nw.warmD hW hZ
  | castable => exact va_Nw.warmC hW hZ
  | _ => cases h
/-- pairs of classes of which the first isn't castable to the second -/
def sm_nc : List (String × String) := [("PatchCords$Summer", "PatchCords$Integrator"), ("PatchCords$Pot", "PatchCords$Integrator"), ("PatchCords$Product", "PatchCords$Integrator"), ("PatchCords$Choice", "PatchCords$Integrator"), ("PatchCords$Steady", "PatchCords$Integrator"),
  ("PatchCords$Pot", "PatchCords$Weighted"), ("PatchCords$Product", "PatchCords$Weighted"), ("PatchCords$Choice", "PatchCords$Weighted"), ("PatchCords$Steady", "PatchCords$Weighted"),
  ("PatchCords$Summer", "PatchCords$Pot"), ("PatchCords$Integrator", "PatchCords$Pot"), ("PatchCords$Product", "PatchCords$Pot"), ("PatchCords$Choice", "PatchCords$Pot"), ("PatchCords$Steady", "PatchCords$Pot"),
  ("java/lang/IllegalStateException", "java/lang/IllegalArgumentException"), ("java/lang/IllegalArgumentException", "java/lang/IndexOutOfBoundsException"), ("java/lang/IllegalStateException", "java/lang/IndexOutOfBoundsException"),
  ("PatchCords$Summer", "PatchCords$Steady"), ("PatchCords$Integrator", "PatchCords$Steady"), ("PatchCords$Pot", "PatchCords$Steady"), ("PatchCords$Product", "PatchCords$Steady"), ("PatchCords$Choice", "PatchCords$Steady")]
/-- Preconditions.SIOOBE_FORMATTER -/
def sa_io (g : sm_G) : Option Nat := if g.2.2.2.2 5 = 0 then none else some (g.2.2.2.2 6)
/-- a private method of StringBuilder's superclass is found from there too -/
def sm_xw : List Cond := [Cond.selects "java/lang/StringBuilder" ⟨"java/lang/AbstractStringBuilder", "ensureCapacityInternal", "(I)V"⟩ ⟨"java/lang/AbstractStringBuilder", "ensureCapacityInternal", "(I)V"⟩]
/-- statics that nobody writes -/
def sm_T (g : sm_G) (A : Nat → Prop) (U : State) (H : Heap) : Prop :=
  va_Z "PatchCords$Way" "AT_ONCE" "LPatchCords$Way;" (.ref (g.2.2.2.2 0)) A U H ∧ va_Z "PatchCords$Way" "$VALUES" "[LPatchCords$Way;" (.ref (g.2.2.2.2 2)) A U H ∧ va_Z "java/util/ArrayList" "DEFAULTCAPACITY_EMPTY_ELEMENTDATA" "[Ljava/lang/Object;" (.ref (g.2.2.2.2 3)) A U H ∧ va_Z "java/lang/String" "COMPACT_STRINGS" "Z" (.int 1) A U H ∧
  vx_Zq Bundle.tN "UNASSIGNED_STACK" Bundle.steD A U H ∧ vx_Zq Bundle.tN "SUPPRESSED_SENTINEL" Bundle.listD A U H ∧
  va_O "PatchCords$Way$1" (g.2.2.2.2 0) A U H ∧ va_O "PatchCords$Way$2" (g.2.2.2.2 1) A U H ∧ va_OF "java/lang/Enum" "ordinal" "I" (.int 0) (g.2.2.2.2 0) A U H ∧ va_OF "java/lang/Enum" "ordinal" "I" (.int 1) (g.2.2.2.2 1) A U H ∧
  va_T (.object "java/lang/Object") (g.2.2.2.2 3) 0 (fun _ => .null) A U H ∧
  ((∃ cell : Cell, H[g.2.2.2.2 2]? = some cell ∧ cell.cls = g.2.2.1 5 ∧ cell.vm.isStatics = false ∧ cell.vm ≠ .unknown ∧ cell.slots = (vp_cell (g.2.2.1 5) (2, .inr (.inr (.inr (.inr (fun i => some (if i = 0 then g.2.2.2.2 0 else g.2.2.2.2 1))))))).slots) ∧ ¬ A (g.2.2.2.2 2)) ∧ U.vm.findClass "[LPatchCords$Way;" = some (g.2.2.1 5) ∧
  va_Z "jdk/internal/util/Preconditions" "SIOOBE_FORMATTER" "Ljava/util/function/BiFunction;" (va_rf (sa_io g)) A U H ∧ va_Mi "[Ljava/lang/Object;" (g.2.2.2.2 4) U ∧ ∀ w ∈ sm_xw, va_Nw w U
def sm_K (g : sm_G) (A : Nat → Prop) (U : State) (H : Heap) : Prop :=
  va_K (g.1, g.2.1) vwCl (sm_tys g) U ∧ (∀ w ∈ lw_tbl, nw_ok w = true → va_Nw w U) ∧ (∀ q ∈ sm_nc, va_Nc q.1 q.2 U) ∧ va_AO "java/lang/Object" U ∧ sm_T g A U H
theorem sm_T.step {g : sm_G} {A : Nat → Prop} {s U : State} {H H1 : Heap} (h : sm_T g A s H) (hW : s.WarmedH U.vm) (hq : ∀ a : Nat, a < H.size → ¬ A a → H1[a]? = H[a]?) : sm_T g A U H1 := by
  obtain ⟨h1, h2, h3, h4, h5, h6, h7, h8, h9, h10, h11, ⟨h12, h13⟩, h14, h15, h16, h17⟩ := h
  have hvm := hW.alike
  refine ⟨(h1.kept hq).moved hvm, (h2.kept hq).moved hvm, (h3.kept hq).moved hvm, (h4.kept hq).moved hvm, (h5.kept hq).moved hvm, (h6.kept hq).moved hvm, (h7.kept hq).moved hvm, (h8.kept hq).moved hvm, (h9.kept hq).moved hvm, (h10.kept hq).moved hvm, (h11.kept hq).moved hvm, ⟨?_, h13⟩, ?_, (h15.kept hq).moved hvm, va_Mi.moved hvm h16, fun w hw => ?_⟩
  · obtain ⟨cell, z1, z2⟩ := h12
    exact ⟨cell, by rw [hq _ (Array.getElem?_eq_some_iff.mp z1).1 h13]; exact z1, z2⟩
  · rw [hvm.findClass]; exact h14
  · have h := h17 w hw
    have hk : (w.onTables && w.keeps) = true := by
      simp only [sm_xw, List.mem_cons, List.not_mem_nil, or_false] at hw
      subst hw; rfl
    exact word_at hW (Or.inl hk) h
theorem sm_T.narrow {g : sm_G} {A B : Nat → Prop} {U : State} {H : Heap} (h : sm_T g A U H) (hAB : ∀ q, B q → A q) : sm_T g B U H := by
  obtain ⟨h1, h2, h3, h4, h5, h6, h7, h8, h9, h10, h11, ⟨h12, h13⟩, h14, h15, h16, h17⟩ := h
  exact ⟨h1.narrow hAB, h2.narrow hAB, h3.narrow hAB, h4.narrow hAB, h5.narrow hAB, h6.narrow hAB, h7.narrow hAB, h8.narrow hAB, h9.narrow hAB, h10.narrow hAB, h11.narrow hAB, ⟨h12, fun z => h13 (hAB _ z)⟩, h14, h15.narrow hAB, h16, h17⟩
theorem sm_K.step {g : sm_G} {A : Nat → Prop} {s U : State} {H H1 : Heap} (h : sm_K g A s H) (hW : s.WarmedH U.vm) (hq : ∀ a : Nat, a < H.size → ¬ A a → H1[a]? = H[a]?) : sm_K g A U H1 :=
  ⟨va_K.moved hW.alike h.1, fun w hw ho => nw_warm ho hW (h.2.1 w hw ho), fun q hq => va_Nc.moved hW.alike (h.2.2.1 q hq), va_AO.moved hW.alike h.2.2.2.1, h.2.2.2.2.step hW hq⟩
theorem sm_K.same {g : sm_G} {A : Nat → Prop} {s U : State} {H : Heap} (h : sm_K g A s H) (hv : s.vm = U.vm) : sm_K g A U H := by
  have hal : s.vm.Alike U.vm := by rw [hv]; exact Vm.Alike.refl U.vm
  exact ⟨va_K.moved hal h.1, fun w hw ho => va_Nw.same (nw_tab ho) hv (h.2.1 w hw ho), fun q hq => va_Nc.moved hal (h.2.2.1 q hq), va_AO.moved hal h.2.2.2.1, h.2.2.2.2.step (by rw [← hv]; exact State.WarmedH.refl s) (fun _ _ _ => rfl)⟩
theorem sm_K.narrow {g : sm_G} {A B : Nat → Prop} {U : State} {H : Heap} (h : sm_K g A U H) (hAB : ∀ q, B q → A q) : sm_K g B U H := ⟨h.1, h.2.1, h.2.2.1, h.2.2.2.1, h.2.2.2.2.narrow hAB⟩
/-! CONTRACTS -/
abbrev em_v : Unit → Option Value ⊕ String := fun _ => .inl none
abbrev em_i : Int32 → Option Value ⊕ String := fun v => .inl (some (.int v))
abbrev em_l : Int64 → Option Value ⊕ String := fun v => .inl (some (.long v))
abbrev em_d : UInt64 → Option Value ⊕ String := fun v => .inl (some (.double v))
abbrev em_r : Nat → Option Value ⊕ String := fun v => .inl (some (.ref v))
abbrev em_q : Option Nat → Option Value ⊕ String := fun v => .inl (some (va_rf v))
abbrev em_x {α : Type} (e : α → Option Value ⊕ String) : α ⊕ String → Option Value ⊕ String := Sum.elim e .inr
def sm_Pc {S : Type} (g : sm_G) (Rl : S → Heap → Prop) (A : Nat → Prop) (av : List Value) (σ : S) : Array Value → State → Prop := fun v U => v = av.toArray ∧ Rl σ U.heap ∧ sm_K g A U U.heap ∧ ∀ q, U.heap.size ≤ q → A q
def sm_Qq {S α : Type} (Rl : S → Heap → Prop) (A : Nat → Prop) (emb : α → Option Value ⊕ String) (r : α) (σ' : S) : Array Value → State → Outcome → State → Prop := fun _ st oc t => (∃ o, emb r = .inl o ∧ oc = .returned o ∧ Rl σ' t.heap) ∧ va_F A st t
def sm_Xq {S α : Type} (Rl : S → Heap → Prop) (A : Nat → Prop) (emb : α → Option Value ⊕ String) (r : α) (σ' : S) : String → State → State → Prop := fun E st t => (emb r = .inr E ∧ Rl σ' t.heap) ∧ va_F A st t
def sm_CT {S α : Type} (l : Launch) (g : sm_G) (Rl : S → Heap → Prop) (A : Nat → Prop) (y : MethodName) (cc : ByteArray) (nL : Nat) (ret : Option FieldType) (fr lo : Nat) (av : List Value) (emb : α → Option Value ⊕ String) (f : PM S α) : Prop :=
  ∀ (σ : S) (r : α) (σ' : S) (k n : Nat), f σ = some (r, σ', k, n) → Met l y (ws_ y cc nL ret) { frames := fr, cells := k, slots := n, locals := lo } (sm_Pc g Rl A av σ) (sm_Qq Rl A emb r σ') k n A
/-- .. of a method that may throw -/
def sm_CX {S α : Type} (l : Launch) (g : sm_G) (Rl : S → Heap → Prop) (A : Nat → Prop) (y : MethodName) (cc : ByteArray) (nL : Nat) (ret : Option FieldType) (fr lo : Nat) (av : List Value) (emb : α → Option Value ⊕ String) (f : PM S α) : Prop :=
  ∀ (σ : S) (r : α) (σ' : S) (k n : Nat), f σ = some (r, σ', k, n) → vx_Met l y (ws_ y cc nL ret) { frames := fr, cells := k, slots := n, locals := lo } (sm_Pc g Rl A av σ) (sm_Qq Rl A emb r σ') (sm_Xq Rl A emb r σ') k n A
/-- what a walk knows -/
def sm_C {S ρ : Type} (Y : sm_Y S ρ) (g : sm_G) (cc : ByteArray) (own : String) (ret : Option FieldType) (nL fr lo : Nat) (emb : ρ → Option Value ⊕ String) (th : Bool) : Prop :=
  (yP Y).tables.exec = Jvm.exec ∧ (yC Y).code = cc ∧ (yC Y).maxLocals = nL ∧ yn Y = nL ∧ (yS Y).vm.findClass own = some (yM Y).cls ∧ (∀ w ∈ lw_all, w.before (yG Y) (yS Y) = true) ∧ (yH Y).sig.returnType = ret ∧ (yH Y).locks = false ∧
  sm_K g (yA Y) (yS Y) (yS Y).heap ∧ ((yR Y).frames = fr ∧ (yR Y).locals = lo ∧ (yR Y).cells = yc Y ∧ (yR Y).slots = ys Y) ∧ (∀ q, (yS Y).heap.size ≤ q → yA Y q) ∧
  (th = false → yQ Y = MQ (yB Y) (sm_Qq (yW Y) (yA Y) emb (yF Y).1 (yF Y).2) (yG Y) (yS Y) (yc Y) (ys Y) (yA Y)) ∧
  (th = true → yQ Y = vx_MQ (yB Y) (sm_Qq (yW Y) (yA Y) emb (yF Y).1 (yF Y).2) (sm_Xq (yW Y) (yA Y) emb (yF Y).1 (yF Y).2) (yG Y) (yS Y) (yc Y) (ys Y) (yA Y) ∧ (yL Y).stackTraces = false ∧ ∀ x ∈ (yC Y).exceptionTable.toList, False) ∧ (yH Y).name = (yH Y).name
section SMC
variable {S ρ : Type} {Y : sm_Y S ρ} {g : sm_G} {cc : ByteArray} {own : String} {ret : Option FieldType} {nL fr lo : Nat} {emb : ρ → Option Value ⊕ String} {th : Bool}
theorem sm_C.x (C : sm_C Y g cc own ret nL fr lo emb th) : (yP Y).tables.exec = Jvm.exec := C.1
theorem sm_C.b (C : sm_C Y g cc own ret nL fr lo emb th) : (yC Y).code = cc := C.2.1
theorem sm_C.ml (C : sm_C Y g cc own ret nL fr lo emb th) : (yC Y).maxLocals = nL := C.2.2.1
theorem sm_C.n (C : sm_C Y g cc own ret nL fr lo emb th) : yn Y = nL := C.2.2.2.1
theorem sm_C.o (C : sm_C Y g cc own ret nL fr lo emb th) : (yS Y).vm.findClass own = some (yM Y).cls := C.2.2.2.2.1
theorem sm_C.w (C : sm_C Y g cc own ret nL fr lo emb th) : ∀ w ∈ lw_all, w.before (yG Y) (yS Y) = true := C.2.2.2.2.2.1
theorem sm_C.r (C : sm_C Y g cc own ret nL fr lo emb th) : (yH Y).sig.returnType = ret := C.2.2.2.2.2.2.1
theorem sm_C.lk (C : sm_C Y g cc own ret nL fr lo emb th) : (yH Y).locks = false := C.2.2.2.2.2.2.2.1
theorem sm_C.k (C : sm_C Y g cc own ret nL fr lo emb th) : sm_K g (yA Y) (yS Y) (yS Y).heap := C.2.2.2.2.2.2.2.2.1
theorem sm_C.rf (C : sm_C Y g cc own ret nL fr lo emb th) : (yR Y).frames = fr := C.2.2.2.2.2.2.2.2.2.1.1
theorem sm_C.rl (C : sm_C Y g cc own ret nL fr lo emb th) : (yR Y).locals = lo := C.2.2.2.2.2.2.2.2.2.1.2.1
theorem sm_C.rc (C : sm_C Y g cc own ret nL fr lo emb th) : (yR Y).cells = yc Y := C.2.2.2.2.2.2.2.2.2.1.2.2.1
theorem sm_C.rs (C : sm_C Y g cc own ret nL fr lo emb th) : (yR Y).slots = ys Y := C.2.2.2.2.2.2.2.2.2.1.2.2.2
theorem sm_C.a (C : sm_C Y g cc own ret nL fr lo emb th) : ∀ q, (yS Y).heap.size ≤ q → yA Y q := C.2.2.2.2.2.2.2.2.2.2.1
theorem sm_C.q0 (C : sm_C Y g cc own ret nL fr lo emb false) : yQ Y = MQ (yB Y) (sm_Qq (yW Y) (yA Y) emb (yF Y).1 (yF Y).2) (yG Y) (yS Y) (yc Y) (ys Y) (yA Y) := C.2.2.2.2.2.2.2.2.2.2.2.1 rfl
theorem sm_C.q1 (C : sm_C Y g cc own ret nL fr lo emb true) : yQ Y = vx_MQ (yB Y) (sm_Qq (yW Y) (yA Y) emb (yF Y).1 (yF Y).2) (sm_Xq (yW Y) (yA Y) emb (yF Y).1 (yF Y).2) (yG Y) (yS Y) (yc Y) (ys Y) (yA Y) := (C.2.2.2.2.2.2.2.2.2.2.2.2.1 rfl).1
theorem sm_C.tr (C : sm_C Y g cc own ret nL fr lo emb true) : (yL Y).stackTraces = false := (C.2.2.2.2.2.2.2.2.2.2.2.2.1 rfl).2.1
theorem sm_C.et (C : sm_C Y g cc own ret nL fr lo emb true) : ∀ x ∈ (yC Y).exceptionTable.toList, False := (C.2.2.2.2.2.2.2.2.2.2.2.2.1 rfl).2.2
end SMC
section SMB
variable {S ρ α β : Type} {Y : sm_Y S ρ} {g : sm_G} {own : String} {ret : Option FieldType} {nL fr lo : Nat} {emb : ρ → Option Value ⊕ String} {th : Bool} {f : PM S ρ} {pc : Nat} {L L' : List (Nat × Value)} {st : List Value} {cc : ByteArray}
theorem s_iload_n (C : sm_C Y g cc own ret nL fr lo emb th) {x : Int32} {j : Fin 4} (hd : decode cc pc = .ok (.iload_n j, 1)) (pc' : Nat) (hp : pc + 1 = pc') (k : Nat) (hL : L[k]? = some ((j : Nat), .int x)) (kk : Sim Y f pc' L (.int x :: st)) : Sim Y f pc L st := s_mono (fun H locs cells slots ls hl w => lv_iload_n C.x C.b hd rfl (lv_at hl k hL) (by rw [hp]; exact w)) kk
theorem s_iload (C : sm_C Y g cc own ret nL fr lo emb th) {x : Int32} {j : Nat} (hd : decode cc pc = .ok (.iload j, 2)) (pc' : Nat) (hp : pc + 2 = pc') (k : Nat) (hL : L[k]? = some (j, .int x)) (kk : Sim Y f pc' L (.int x :: st)) : Sim Y f pc L st := s_mono (fun H locs cells slots ls hl w => lv_iload C.x C.b hd (lv_at hl k hL) (by rw [hp]; exact w)) kk
theorem s_aload_n (C : sm_C Y g cc own ret nL fr lo emb th) {x : Nat} {j : Fin 4} (hd : decode cc pc = .ok (.aload_n j, 1)) (pc' : Nat) (hp : pc + 1 = pc') (k : Nat) (hL : L[k]? = some ((j : Nat), .ref x)) (kk : Sim Y f pc' L (.ref x :: st)) : Sim Y f pc L st := s_mono (fun H locs cells slots ls hl w => lv_aload_n C.x C.b hd rfl (lv_at hl k hL) (by rw [hp]; exact w)) kk
theorem s_aload (C : sm_C Y g cc own ret nL fr lo emb th) {x : Nat} {j : Nat} (hd : decode cc pc = .ok (.aload j, 2)) (pc' : Nat) (hp : pc + 2 = pc') (k : Nat) (hL : L[k]? = some (j, .ref x)) (kk : Sim Y f pc' L (.ref x :: st)) : Sim Y f pc L st := s_mono (fun H locs cells slots ls hl w => lv_aload C.x C.b hd (lv_at hl k hL) (by rw [hp]; exact w)) kk
theorem s_lload_n (C : sm_C Y g cc own ret nL fr lo emb th) {x : Int64} {j : Fin 4} (hd : decode cc pc = .ok (.lload_n j, 1)) (pc' : Nat) (hp : pc + 1 = pc') (k : Nat) (hL : L[k]? = some ((j : Nat), .long x)) (kk : Sim Y f pc' L (.long x :: st)) : Sim Y f pc L st := s_mono (fun H locs cells slots ls hl w => lv_lload_n C.x C.b hd rfl (lv_at hl k hL) (by rw [hp]; exact w)) kk
theorem s_lload (C : sm_C Y g cc own ret nL fr lo emb th) {x : Int64} {j : Nat} (hd : decode cc pc = .ok (.lload j, 2)) (pc' : Nat) (hp : pc + 2 = pc') (k : Nat) (hL : L[k]? = some (j, .long x)) (kk : Sim Y f pc' L (.long x :: st)) : Sim Y f pc L st := s_mono (fun H locs cells slots ls hl w => lv_lload C.x C.b hd (lv_at hl k hL) (by rw [hp]; exact w)) kk
theorem s_dload_n (C : sm_C Y g cc own ret nL fr lo emb th) {x : UInt64} {j : Fin 4} (hd : decode cc pc = .ok (.dload_n j, 1)) (pc' : Nat) (hp : pc + 1 = pc') (k : Nat) (hL : L[k]? = some ((j : Nat), .double x)) (kk : Sim Y f pc' L (.double x :: st)) : Sim Y f pc L st := s_mono (fun H locs cells slots ls hl w => lv_dload_n C.x C.b hd rfl (lv_at hl k hL) (by rw [hp]; exact w)) kk
theorem s_dload (C : sm_C Y g cc own ret nL fr lo emb th) {x : UInt64} {j : Nat} (hd : decode cc pc = .ok (.dload j, 2)) (pc' : Nat) (hp : pc + 2 = pc') (k : Nat) (hL : L[k]? = some (j, .double x)) (kk : Sim Y f pc' L (.double x :: st)) : Sim Y f pc L st := s_mono (fun H locs cells slots ls hl w => lv_dload C.x C.b hd (lv_at hl k hL) (by rw [hp]; exact w)) kk
theorem s_istore_n (C : sm_C Y g cc own ret nL fr lo emb th) {x : Int32} {j : Nat} {j' : Fin 4} (hd : decode cc pc = .ok (.istore_n j', 1)) (hj : (j' : Nat) = j) (hn : j < nL) (pc' : Nat) (hp : pc + 1 = pc') (L' : List (Nat × Value)) (hL : (j, Value.int x) :: L.filter (fun q => !(q.1 == j) && !(q.1 + 1 == j && q.2.category == 2)) = L') (kk : Sim Y f pc' L' st) : Sim Y f pc L (.int x :: st) := s_monoL (fun H locs cells slots ls hl w => lv_istore_n C.x C.b hd hj hl (by rw [C.n]; exact hn) hL (fun ls' hl' => by rw [hp]; exact w ls' hl')) kk
theorem s_istore (C : sm_C Y g cc own ret nL fr lo emb th) {x : Int32} {j : Nat} (hd : decode cc pc = .ok (.istore j, 2))  (hn : j < nL) (pc' : Nat) (hp : pc + 2 = pc') (L' : List (Nat × Value)) (hL : (j, Value.int x) :: L.filter (fun q => !(q.1 == j) && !(q.1 + 1 == j && q.2.category == 2)) = L') (kk : Sim Y f pc' L' st) : Sim Y f pc L (.int x :: st) := s_monoL (fun H locs cells slots ls hl w => lv_istore C.x C.b hd hl (by rw [C.n]; exact hn) hL (fun ls' hl' => by rw [hp]; exact w ls' hl')) kk
theorem s_astore_n (C : sm_C Y g cc own ret nL fr lo emb th) {x : Nat} {j : Nat} {j' : Fin 4} (hd : decode cc pc = .ok (.astore_n j', 1)) (hj : (j' : Nat) = j) (hn : j < nL) (pc' : Nat) (hp : pc + 1 = pc') (L' : List (Nat × Value)) (hL : (j, Value.ref x) :: L.filter (fun q => !(q.1 == j) && !(q.1 + 1 == j && q.2.category == 2)) = L') (kk : Sim Y f pc' L' st) : Sim Y f pc L (.ref x :: st) := s_monoL (fun H locs cells slots ls hl w => lv_astore_n C.x C.b hd hj hl (by rw [C.n]; exact hn) hL (fun ls' hl' => by rw [hp]; exact w ls' hl')) kk
theorem s_astore (C : sm_C Y g cc own ret nL fr lo emb th) {x : Nat} {j : Nat} (hd : decode cc pc = .ok (.astore j, 2))  (hn : j < nL) (pc' : Nat) (hp : pc + 2 = pc') (L' : List (Nat × Value)) (hL : (j, Value.ref x) :: L.filter (fun q => !(q.1 == j) && !(q.1 + 1 == j && q.2.category == 2)) = L') (kk : Sim Y f pc' L' st) : Sim Y f pc L (.ref x :: st) := s_monoL (fun H locs cells slots ls hl w => lv_astore C.x C.b hd hl (by rw [C.n]; exact hn) hL (fun ls' hl' => by rw [hp]; exact w ls' hl')) kk
theorem s_lstore_n (C : sm_C Y g cc own ret nL fr lo emb th) {x : Int64} {j : Nat} {j' : Fin 4} (hd : decode cc pc = .ok (.lstore_n j', 1)) (hj : (j' : Nat) = j) (hn : j + 1 < nL) (pc' : Nat) (hp : pc + 1 = pc') (L' : List (Nat × Value)) (hL : (j, Value.long x) :: L.filter (fun q => !(q.1 == j) && (!(q.1 == j + 1) && !(q.1 + 1 == j && q.2.category == 2))) = L') (kk : Sim Y f pc' L' st) : Sim Y f pc L (.long x :: st) := s_monoL (fun H locs cells slots ls hl w => lv_lstore_n C.x C.b hd hj hl (by rw [C.n]; exact hn) hL (fun ls' hl' => by rw [hp]; exact w ls' hl')) kk
theorem s_lstore (C : sm_C Y g cc own ret nL fr lo emb th) {x : Int64} {j : Nat} (hd : decode cc pc = .ok (.lstore j, 2))  (hn : j + 1 < nL) (pc' : Nat) (hp : pc + 2 = pc') (L' : List (Nat × Value)) (hL : (j, Value.long x) :: L.filter (fun q => !(q.1 == j) && (!(q.1 == j + 1) && !(q.1 + 1 == j && q.2.category == 2))) = L') (kk : Sim Y f pc' L' st) : Sim Y f pc L (.long x :: st) := s_monoL (fun H locs cells slots ls hl w => lv_lstore C.x C.b hd hl (by rw [C.n]; exact hn) hL (fun ls' hl' => by rw [hp]; exact w ls' hl')) kk
theorem s_dstore_n (C : sm_C Y g cc own ret nL fr lo emb th) {x : UInt64} {j : Nat} {j' : Fin 4} (hd : decode cc pc = .ok (.dstore_n j', 1)) (hj : (j' : Nat) = j) (hn : j + 1 < nL) (pc' : Nat) (hp : pc + 1 = pc') (L' : List (Nat × Value)) (hL : (j, Value.double x) :: L.filter (fun q => !(q.1 == j) && (!(q.1 == j + 1) && !(q.1 + 1 == j && q.2.category == 2))) = L') (kk : Sim Y f pc' L' st) : Sim Y f pc L (.double x :: st) := s_monoL (fun H locs cells slots ls hl w => lv_dstore_n C.x C.b hd hj hl (by rw [C.n]; exact hn) hL (fun ls' hl' => by rw [hp]; exact w ls' hl')) kk
theorem s_dstore (C : sm_C Y g cc own ret nL fr lo emb th) {x : UInt64} {j : Nat} (hd : decode cc pc = .ok (.dstore j, 2))  (hn : j + 1 < nL) (pc' : Nat) (hp : pc + 2 = pc') (L' : List (Nat × Value)) (hL : (j, Value.double x) :: L.filter (fun q => !(q.1 == j) && (!(q.1 == j + 1) && !(q.1 + 1 == j && q.2.category == 2))) = L') (kk : Sim Y f pc' L' st) : Sim Y f pc L (.double x :: st) := s_monoL (fun H locs cells slots ls hl w => lv_dstore C.x C.b hd hl (by rw [C.n]; exact hn) hL (fun ls' hl' => by rw [hp]; exact w ls' hl')) kk
theorem s_iconst (C : sm_C Y g cc own ret nL fr lo emb th) {n : Int} {v : Int32} (hd : decode cc pc = .ok (.iconst n, 1)) (hv : Int32.ofInt n = v) (pc' : Nat) (hp : pc + 1 = pc') (kk : Sim Y f pc' L (.int v :: st)) : Sim Y f pc L st := s_mono (fun H locs cells slots ls hl w => lv_iconst C.x C.b hd hv (by rw [hp]; exact w)) kk
theorem s_bipush (C : sm_C Y g cc own ret nL fr lo emb th) {n : Int} {v : Int32} (hd : decode cc pc = .ok (.bipush n, 2)) (hv : (Int8.ofInt n).toInt32 = v) (pc' : Nat) (hp : pc + 2 = pc') (kk : Sim Y f pc' L (.int v :: st)) : Sim Y f pc L st := s_mono (fun H locs cells slots ls hl w => lv_bipush C.x C.b hd hv (by rw [hp]; exact w)) kk
theorem s_sipush (C : sm_C Y g cc own ret nL fr lo emb th) {n : Int} {v : Int32} (hd : decode cc pc = .ok (.sipush n, 3)) (hv : (Int16.ofInt n).toInt32 = v) (pc' : Nat) (hp : pc + 3 = pc') (kk : Sim Y f pc' L (.int v :: st)) : Sim Y f pc L st := s_mono (fun H locs cells slots ls hl w => lv_sipush C.x C.b hd hv (by rw [hp]; exact w)) kk
theorem s_lconst (C : sm_C Y g cc own ret nL fr lo emb th) {n : Fin 2} {v : Int64} (hd : decode cc pc = .ok (.lconst n, 1)) (hv : Int64.ofNat (n : Nat) = v) (pc' : Nat) (hp : pc + 1 = pc') (kk : Sim Y f pc' L (.long v :: st)) : Sim Y f pc L st := s_mono (fun H locs cells slots ls hl w => lv_lconst C.x C.b hd hv (by rw [hp]; exact w)) kk
theorem s_null (C : sm_C Y g cc own ret nL fr lo emb th) (hd : decode cc pc = .ok (.aconst_null, 1)) (pc' : Nat) (hp : pc + 1 = pc') (kk : Sim Y f pc' L (.null :: st)) : Sim Y f pc L st := s_mono (fun H locs cells slots ls hl w => lv_null C.x C.b hd (by rw [hp]; exact w)) kk
theorem s_ldc (C : sm_C Y g cc own ret nL fr lo emb th) {i : Nat} {v : Int32} (hq : (Jvm.Cond.constant own i v) ∈ lw_all) (hd : decode cc pc = .ok (.ldc i, 2)) (pc' : Nat) (hp : pc + 2 = pc') (kk : Sim Y f pc' L (.int v :: st)) : Sim Y f pc L st := s_mono (fun H locs cells slots ls hl w => lv_ldc C.x C.b C.o (C.w _ hq) hd (by rw [hp]; exact w)) kk
theorem s_ldc2 (C : sm_C Y g cc own ret nL fr lo emb th) {i : Nat} {v : Int64} (hq : (Jvm.Cond.constantLong own i v) ∈ lw_all) (hd : decode cc pc = .ok (.ldc2_w i, 3)) (pc' : Nat) (hp : pc + 3 = pc') (kk : Sim Y f pc' L (.long v :: st)) : Sim Y f pc L st := s_mono (fun H locs cells slots ls hl w => lv_ldc2 C.x C.b C.o (C.w _ hq) hd (by rw [hp]; exact w)) kk
theorem s_iadd (C : sm_C Y g cc own ret nL fr lo emb th) {x y : Int32} (hd : decode cc pc = .ok (.iadd, 1)) (pc' : Nat) (hp : pc + 1 = pc') (kk : Sim Y f pc' L (.int (x + y) :: st)) : Sim Y f pc L (.int y :: .int x :: st) := s_mono (fun H locs cells slots ls hl w => lv_iadd C.x C.b hd (by rw [hp]; exact w)) kk
theorem s_isub (C : sm_C Y g cc own ret nL fr lo emb th) {x y : Int32} (hd : decode cc pc = .ok (.isub, 1)) (pc' : Nat) (hp : pc + 1 = pc') (kk : Sim Y f pc' L (.int (x - y) :: st)) : Sim Y f pc L (.int y :: .int x :: st) := s_mono (fun H locs cells slots ls hl w => lv_isub C.x C.b hd (by rw [hp]; exact w)) kk
theorem s_imul (C : sm_C Y g cc own ret nL fr lo emb th) {x y : Int32} (hd : decode cc pc = .ok (.imul, 1)) (pc' : Nat) (hp : pc + 1 = pc') (kk : Sim Y f pc' L (.int (x * y) :: st)) : Sim Y f pc L (.int y :: .int x :: st) := s_mono (fun H locs cells slots ls hl w => lv_imul C.x C.b hd (by rw [hp]; exact w)) kk
theorem s_iand (C : sm_C Y g cc own ret nL fr lo emb th) {x y : Int32} (hd : decode cc pc = .ok (.iand, 1)) (pc' : Nat) (hp : pc + 1 = pc') (kk : Sim Y f pc' L (.int (x &&& y) :: st)) : Sim Y f pc L (.int y :: .int x :: st) := s_mono (fun H locs cells slots ls hl w => lv_iand C.x C.b hd (by rw [hp]; exact w)) kk
theorem s_ior (C : sm_C Y g cc own ret nL fr lo emb th) {x y : Int32} (hd : decode cc pc = .ok (.ior, 1)) (pc' : Nat) (hp : pc + 1 = pc') (kk : Sim Y f pc' L (.int (x ||| y) :: st)) : Sim Y f pc L (.int y :: .int x :: st) := s_mono (fun H locs cells slots ls hl w => lv_ior C.x C.b hd (by rw [hp]; exact w)) kk
theorem s_ixor (C : sm_C Y g cc own ret nL fr lo emb th) {x y : Int32} (hd : decode cc pc = .ok (.ixor, 1)) (pc' : Nat) (hp : pc + 1 = pc') (kk : Sim Y f pc' L (.int (x ^^^ y) :: st)) : Sim Y f pc L (.int y :: .int x :: st) := s_mono (fun H locs cells slots ls hl w => lv_ixor C.x C.b hd (by rw [hp]; exact w)) kk
theorem s_ishl (C : sm_C Y g cc own ret nL fr lo emb th) {x y : Int32} (hd : decode cc pc = .ok (.ishl, 1)) (pc' : Nat) (hp : pc + 1 = pc') (kk : Sim Y f pc' L (.int (x <<< (y &&& 31)) :: st)) : Sim Y f pc L (.int y :: .int x :: st) := s_mono (fun H locs cells slots ls hl w => lv_ishl C.x C.b hd (by rw [hp]; exact w)) kk
theorem s_ishr (C : sm_C Y g cc own ret nL fr lo emb th) {x y : Int32} (hd : decode cc pc = .ok (.ishr, 1)) (pc' : Nat) (hp : pc + 1 = pc') (kk : Sim Y f pc' L (.int (x >>> (y &&& 31)) :: st)) : Sim Y f pc L (.int y :: .int x :: st) := s_mono (fun H locs cells slots ls hl w => lv_ishr C.x C.b hd (by rw [hp]; exact w)) kk
theorem s_ladd (C : sm_C Y g cc own ret nL fr lo emb th) {x y : Int64} (hd : decode cc pc = .ok (.ladd, 1)) (pc' : Nat) (hp : pc + 1 = pc') (kk : Sim Y f pc' L (.long (x + y) :: st)) : Sim Y f pc L (.long y :: .long x :: st) := s_mono (fun H locs cells slots ls hl w => lv_ladd C.x C.b hd (by rw [hp]; exact w)) kk
theorem s_lmul (C : sm_C Y g cc own ret nL fr lo emb th) {x y : Int64} (hd : decode cc pc = .ok (.lmul, 1)) (pc' : Nat) (hp : pc + 1 = pc') (kk : Sim Y f pc' L (.long (x * y) :: st)) : Sim Y f pc L (.long y :: .long x :: st) := s_mono (fun H locs cells slots ls hl w => lv_lmul C.x C.b hd (by rw [hp]; exact w)) kk
theorem s_ineg (C : sm_C Y g cc own ret nL fr lo emb th) {x : Int32} (hd : decode cc pc = .ok (.ineg, 1)) (pc' : Nat) (hp : pc + 1 = pc') (kk : Sim Y f pc' L (.int (-x) :: st)) : Sim Y f pc L (.int x :: st) := s_mono (fun H locs cells slots ls hl w => lv_ineg C.x C.b hd (by rw [hp]; exact w)) kk
theorem s_i2l (C : sm_C Y g cc own ret nL fr lo emb th) {x : Int32} (hd : decode cc pc = .ok (.i2l, 1)) (pc' : Nat) (hp : pc + 1 = pc') (kk : Sim Y f pc' L (.long x.toInt64 :: st)) : Sim Y f pc L (.int x :: st) := s_mono (fun H locs cells slots ls hl w => lv_i2l C.x C.b hd rfl (by rw [hp]; exact w)) kk
theorem s_i2c (C : sm_C Y g cc own ret nL fr lo emb th) {x : Int32} (hd : decode cc pc = .ok (.i2c, 1)) (pc' : Nat) (hp : pc + 1 = pc') (kk : Sim Y f pc' L (.int (x.toUInt32 % 65536).toInt32 :: st)) : Sim Y f pc L (.int x :: st) := s_mono (fun H locs cells slots ls hl w => lv_i2c C.x C.b hd rfl (by rw [hp]; exact w)) kk
theorem s_i2d (C : sm_C Y g cc own ret nL fr lo emb th) {x : Int32} (hd : decode cc pc = .ok (.i2d, 1)) (pc' : Nat) (hp : pc + 1 = pc') (kk : Sim Y f pc' L (.double (FP.i2d x) :: st)) : Sim Y f pc L (.int x :: st) := s_mono (fun H locs cells slots ls hl w => lv_i2d C.x C.b hd (by rw [hp]; exact w)) kk
theorem s_lcmp (C : sm_C Y g cc own ret nL fr lo emb th) {x y : Int64} (hd : decode cc pc = .ok (.lcmp, 1)) (pc' : Nat) (hp : pc + 1 = pc') (kk : Sim Y f pc' L (.int (lg_cmp x y) :: st)) : Sim Y f pc L (.long y :: .long x :: st) := s_mono (fun H locs cells slots ls hl w => W.lcmp C.x C.b hd (by rw [hp]; exact w)) kk
theorem s_dcmp (C : sm_C Y g cc own ret nL fr lo emb th) {op : CmpOp} {x y : UInt64} (hd : decode cc pc = .ok (.dcmp op, 1)) (pc' : Nat) (hp : pc + 1 = pc') (kk : Sim Y f pc' L (.int (Op.cmpValue (FP.dcmp x y) op) :: st)) : Sim Y f pc L (.double y :: .double x :: st) := s_mono (fun H locs cells slots ls hl w => lv_dcmp C.x C.b hd (by rw [hp]; exact w)) kk
theorem s_dup (C : sm_C Y g cc own ret nL fr lo emb th) {v : Value} (hd : decode cc pc = .ok (.dup, 1)) (hv : v.category = 1) (pc' : Nat) (hp : pc + 1 = pc') (kk : Sim Y f pc' L (v :: v :: st)) : Sim Y f pc L (v :: st) := s_mono (fun H locs cells slots ls hl w => lv_dup C.x C.b hd hv (by rw [hp]; exact w)) kk
theorem s_dup_x1 (C : sm_C Y g cc own ret nL fr lo emb th) {v u : Value} (hd : decode cc pc = .ok (.dup_x1, 1)) (hv : v.category = 1) (hu : u.category = 1) (pc' : Nat) (hp : pc + 1 = pc') (kk : Sim Y f pc' L (v :: u :: v :: st)) : Sim Y f pc L (v :: u :: st) := s_mono (fun H locs cells slots ls hl w => lv_dup_x1 C.x C.b hd hv hu (by rw [hp]; exact w)) kk
theorem s_pop (C : sm_C Y g cc own ret nL fr lo emb th) {v : Value} (hd : decode cc pc = .ok (.pop, 1)) (hv : v.category = 1) (pc' : Nat) (hp : pc + 1 = pc') (kk : Sim Y f pc' L st) : Sim Y f pc L (v :: st) := s_mono (fun H locs cells slots ls hl w => lv_pop C.x C.b hd hv (by rw [hp]; exact w)) kk
theorem s_dup2 (C : sm_C Y g cc own ret nL fr lo emb th) {v u : Value} (hd : decode cc pc = .ok (.dup2, 1)) (hv : v.category = 1) (hu : u.category = 1) (pc' : Nat) (hp : pc + 1 = pc') (kk : Sim Y f pc' L (v :: u :: v :: u :: st)) : Sim Y f pc L (v :: u :: st) := s_mono (fun H locs cells slots ls hl w => lv_dup2_11 C.x C.b hd hv hu (by rw [hp]; exact w)) kk
theorem s_goto (C : sm_C Y g cc own ret nL fr lo emb th) {off : Int} (hd : decode cc pc = .ok (.goto off, 3)) (pc' : Nat) (ht : (pc : Int) + off = (pc' : Int)) (kk : Sim Y f pc' L st) : Sim Y f pc L st := s_mono (fun H locs cells slots ls hl w => lv_goto C.x C.b hd ht w) kk
theorem s_iinc (C : sm_C Y g cc own ret nL fr lo emb th) {j : Nat} {n : Int} {x : Int32} (hd : decode cc pc = .ok (.iinc j n, 3)) (v : Int32) (hv : x + Int32.ofInt n = v) (k : Nat) (hk : L[k]? = some (j, .int x)) (hn : j < nL) (pc' : Nat) (hp : pc + 3 = pc') (L' : List (Nat × Value)) (hL : (j, Value.int v) :: L.filter (fun q => !(q.1 == j) && !(q.1 + 1 == j && q.2.category == 2)) = L') (kk : Sim Y f pc' L' st) : Sim Y f pc L st := s_monoL (fun H locs cells slots ls hl w => lv_iinc C.x C.b hd hl hk hv (by rw [C.n]; exact hn) hL (fun ls' hl' => by rw [hp]; exact w ls' hl')) kk
theorem s_icmp_eq (C : sm_C Y g cc own ret nL fr lo emb th) {A B : PM S α} {K : α → PM S ρ} {x y : Int32} {off : Int} (hd : decode cc pc = .ok (.if_icmp .eq off, 3)) (pt pf : Nat) (ht : (pc : Int) + off = (pt : Int)) (hp : pc + 3 = pf) (kt : Sim Y (pm_b A K) pt L st) (kf : Sim Y (pm_b B K) pf L st) : Sim Y (pm_b (if x = y then A else B) K) pc L (.int y :: .int x :: st) := by
  intro σ k n H locs cells slots ls hf hW hS hc hs hl
  subst hp
  exact lv_icmp_eq C.x C.b hd ht (fun c => kt σ k n H locs cells slots ls (by rw [if_pos c] at hf; exact hf) hW hS hc hs hl) (fun c => kf σ k n H locs cells slots ls (by rw [if_neg c] at hf; exact hf) hW hS hc hs hl)
theorem s_icmp_lt (C : sm_C Y g cc own ret nL fr lo emb th) {A B : PM S α} {K : α → PM S ρ} {x y : Int32} {off : Int} (hd : decode cc pc = .ok (.if_icmp .lt off, 3)) (pt pf : Nat) (ht : (pc : Int) + off = (pt : Int)) (hp : pc + 3 = pf) (kt : Sim Y (pm_b A K) pt L st) (kf : Sim Y (pm_b B K) pf L st) : Sim Y (pm_b (if x < y then A else B) K) pc L (.int y :: .int x :: st) := by
  intro σ k n H locs cells slots ls hf hW hS hc hs hl
  subst hp
  exact lv_icmp_lt C.x C.b hd ht (fun c => kt σ k n H locs cells slots ls (by rw [if_pos c] at hf; exact hf) hW hS hc hs hl) (fun c => kf σ k n H locs cells slots ls (by rw [if_neg c] at hf; exact hf) hW hS hc hs hl)
theorem s_icmp_ge (C : sm_C Y g cc own ret nL fr lo emb th) {A B : PM S α} {K : α → PM S ρ} {x y : Int32} {off : Int} (hd : decode cc pc = .ok (.if_icmp .ge off, 3)) (pt pf : Nat) (ht : (pc : Int) + off = (pt : Int)) (hp : pc + 3 = pf) (kt : Sim Y (pm_b A K) pt L st) (kf : Sim Y (pm_b B K) pf L st) : Sim Y (pm_b (if y ≤ x then A else B) K) pc L (.int y :: .int x :: st) := by
  intro σ k n H locs cells slots ls hf hW hS hc hs hl
  subst hp
  exact lv_icmp_ge C.x C.b hd ht (fun c => kt σ k n H locs cells slots ls (by rw [if_pos c] at hf; exact hf) hW hS hc hs hl) (fun c => kf σ k n H locs cells slots ls (by rw [if_neg c] at hf; exact hf) hW hS hc hs hl)
theorem s_icmp_gt (C : sm_C Y g cc own ret nL fr lo emb th) {A B : PM S α} {K : α → PM S ρ} {x y : Int32} {off : Int} (hd : decode cc pc = .ok (.if_icmp .gt off, 3)) (pt pf : Nat) (ht : (pc : Int) + off = (pt : Int)) (hp : pc + 3 = pf) (kt : Sim Y (pm_b A K) pt L st) (kf : Sim Y (pm_b B K) pf L st) : Sim Y (pm_b (if y < x then A else B) K) pc L (.int y :: .int x :: st) := by
  intro σ k n H locs cells slots ls hf hW hS hc hs hl
  subst hp
  exact lv_icmp_gt C.x C.b hd ht (fun c => kt σ k n H locs cells slots ls (by rw [if_pos c] at hf; exact hf) hW hS hc hs hl) (fun c => kf σ k n H locs cells slots ls (by rw [if_neg c] at hf; exact hf) hW hS hc hs hl)
theorem s_icmp_le (C : sm_C Y g cc own ret nL fr lo emb th) {A B : PM S α} {K : α → PM S ρ} {x y : Int32} {off : Int} (hd : decode cc pc = .ok (.if_icmp .le off, 3)) (pt pf : Nat) (ht : (pc : Int) + off = (pt : Int)) (hp : pc + 3 = pf) (kt : Sim Y (pm_b A K) pt L st) (kf : Sim Y (pm_b B K) pf L st) : Sim Y (pm_b (if x ≤ y then A else B) K) pc L (.int y :: .int x :: st) := by
  intro σ k n H locs cells slots ls hf hW hS hc hs hl
  subst hp
  exact lv_icmp_le C.x C.b hd ht (fun c => kt σ k n H locs cells slots ls (by rw [if_pos c] at hf; exact hf) hW hS hc hs hl) (fun c => kf σ k n H locs cells slots ls (by rw [if_neg c] at hf; exact hf) hW hS hc hs hl)
theorem s_icmp_ne (C : sm_C Y g cc own ret nL fr lo emb th) {A B : PM S α} {K : α → PM S ρ} {x y : Int32} {off : Int} (hd : decode cc pc = .ok (.if_icmp .ne off, 3)) (pt pf : Nat) (ht : (pc : Int) + off = (pt : Int)) (hp : pc + 3 = pf) (kf : Sim Y (pm_b A K) pf L st) (kt : Sim Y (pm_b B K) pt L st) : Sim Y (pm_b (if x = y then A else B) K) pc L (.int y :: .int x :: st) := by
  intro σ k n H locs cells slots ls hf hW hS hc hs hl
  subst hp
  exact lv_icmp_ne C.x C.b hd ht (fun c => kt σ k n H locs cells slots ls (by rw [if_neg c] at hf; exact hf) hW hS hc hs hl) (fun c => kf σ k n H locs cells slots ls (by rw [if_pos c] at hf; exact hf) hW hS hc hs hl)
theorem s_if_eq (C : sm_C Y g cc own ret nL fr lo emb th) {A B : PM S α} {K : α → PM S ρ} {x : Int32} {off : Int} (hd : decode cc pc = .ok (.ifCond .eq off, 3)) (pt pf : Nat) (ht : (pc : Int) + off = (pt : Int)) (hp : pc + 3 = pf) (kt : Sim Y (pm_b A K) pt L st) (kf : Sim Y (pm_b B K) pf L st) : Sim Y (pm_b (if x = 0 then A else B) K) pc L (.int x :: st) := by
  intro σ k n H locs cells slots ls hf hW hS hc hs hl
  subst hp
  exact lv_if_eq C.x C.b hd ht (fun c => kt σ k n H locs cells slots ls (by rw [if_pos c] at hf; exact hf) hW hS hc hs hl) (fun c => kf σ k n H locs cells slots ls (by rw [if_neg c] at hf; exact hf) hW hS hc hs hl)
theorem s_if_lt (C : sm_C Y g cc own ret nL fr lo emb th) {A B : PM S α} {K : α → PM S ρ} {x : Int32} {off : Int} (hd : decode cc pc = .ok (.ifCond .lt off, 3)) (pt pf : Nat) (ht : (pc : Int) + off = (pt : Int)) (hp : pc + 3 = pf) (kt : Sim Y (pm_b A K) pt L st) (kf : Sim Y (pm_b B K) pf L st) : Sim Y (pm_b (if x < 0 then A else B) K) pc L (.int x :: st) := by
  intro σ k n H locs cells slots ls hf hW hS hc hs hl
  subst hp
  exact lv_if_lt C.x C.b hd ht (fun c => kt σ k n H locs cells slots ls (by rw [if_pos c] at hf; exact hf) hW hS hc hs hl) (fun c => kf σ k n H locs cells slots ls (by rw [if_neg c] at hf; exact hf) hW hS hc hs hl)
theorem s_if_ge (C : sm_C Y g cc own ret nL fr lo emb th) {A B : PM S α} {K : α → PM S ρ} {x : Int32} {off : Int} (hd : decode cc pc = .ok (.ifCond .ge off, 3)) (pt pf : Nat) (ht : (pc : Int) + off = (pt : Int)) (hp : pc + 3 = pf) (kt : Sim Y (pm_b A K) pt L st) (kf : Sim Y (pm_b B K) pf L st) : Sim Y (pm_b (if 0 ≤ x then A else B) K) pc L (.int x :: st) := by
  intro σ k n H locs cells slots ls hf hW hS hc hs hl
  subst hp
  exact lv_if_ge C.x C.b hd ht (fun c => kt σ k n H locs cells slots ls (by rw [if_pos c] at hf; exact hf) hW hS hc hs hl) (fun c => kf σ k n H locs cells slots ls (by rw [if_neg c] at hf; exact hf) hW hS hc hs hl)
theorem s_if_gt (C : sm_C Y g cc own ret nL fr lo emb th) {A B : PM S α} {K : α → PM S ρ} {x : Int32} {off : Int} (hd : decode cc pc = .ok (.ifCond .gt off, 3)) (pt pf : Nat) (ht : (pc : Int) + off = (pt : Int)) (hp : pc + 3 = pf) (kt : Sim Y (pm_b A K) pt L st) (kf : Sim Y (pm_b B K) pf L st) : Sim Y (pm_b (if 0 < x then A else B) K) pc L (.int x :: st) := by
  intro σ k n H locs cells slots ls hf hW hS hc hs hl
  subst hp
  exact lv_if_gt C.x C.b hd ht (fun c => kt σ k n H locs cells slots ls (by rw [if_pos c] at hf; exact hf) hW hS hc hs hl) (fun c => kf σ k n H locs cells slots ls (by rw [if_neg c] at hf; exact hf) hW hS hc hs hl)
theorem s_if_le (C : sm_C Y g cc own ret nL fr lo emb th) {A B : PM S α} {K : α → PM S ρ} {x : Int32} {off : Int} (hd : decode cc pc = .ok (.ifCond .le off, 3)) (pt pf : Nat) (ht : (pc : Int) + off = (pt : Int)) (hp : pc + 3 = pf) (kt : Sim Y (pm_b A K) pt L st) (kf : Sim Y (pm_b B K) pf L st) : Sim Y (pm_b (if x ≤ 0 then A else B) K) pc L (.int x :: st) := by
  intro σ k n H locs cells slots ls hf hW hS hc hs hl
  subst hp
  exact lv_if_le C.x C.b hd ht (fun c => kt σ k n H locs cells slots ls (by rw [if_pos c] at hf; exact hf) hW hS hc hs hl) (fun c => kf σ k n H locs cells slots ls (by rw [if_neg c] at hf; exact hf) hW hS hc hs hl)
theorem s_if_ne (C : sm_C Y g cc own ret nL fr lo emb th) {A B : PM S α} {K : α → PM S ρ} {x : Int32} {off : Int} (hd : decode cc pc = .ok (.ifCond .ne off, 3)) (pt pf : Nat) (ht : (pc : Int) + off = (pt : Int)) (hp : pc + 3 = pf) (kf : Sim Y (pm_b A K) pf L st) (kt : Sim Y (pm_b B K) pt L st) : Sim Y (pm_b (if x = 0 then A else B) K) pc L (.int x :: st) := by
  intro σ k n H locs cells slots ls hf hW hS hc hs hl
  subst hp
  exact lv_if_ne C.x C.b hd ht (fun c => kt σ k n H locs cells slots ls (by rw [if_neg c] at hf; exact hf) hW hS hc hs hl) (fun c => kf σ k n H locs cells slots ls (by rw [if_pos c] at hf; exact hf) hW hS hc hs hl)
theorem s_acmp_eq (C : sm_C Y g cc own ret nL fr lo emb th) {A B : PM S α} {K : α → PM S ρ} {x y : Option Nat} {off : Int} (hd : decode cc pc = .ok (.if_acmp .eq off, 3)) (pt pf : Nat) (ht : (pc : Int) + off = (pt : Int)) (hp : pc + 3 = pf) (kt : Sim Y (pm_b A K) pt L st) (kf : Sim Y (pm_b B K) pf L st) : Sim Y (pm_b (if x = y then A else B) K) pc L (va_rf y :: va_rf x :: st) := by
  intro σ k n H locs cells slots ls hf hW hS hc hs hl
  subst hp
  exact lv_acmp_eq C.x C.b hd ht (fun c => kt σ k n H locs cells slots ls (by rw [if_pos c] at hf; exact hf) hW hS hc hs hl) (fun c => kf σ k n H locs cells slots ls (by rw [if_neg c] at hf; exact hf) hW hS hc hs hl)
theorem s_acmp_ne (C : sm_C Y g cc own ret nL fr lo emb th) {A B : PM S α} {K : α → PM S ρ} {x y : Option Nat} {off : Int} (hd : decode cc pc = .ok (.if_acmp .ne off, 3)) (pt pf : Nat) (ht : (pc : Int) + off = (pt : Int)) (hp : pc + 3 = pf) (kf : Sim Y (pm_b A K) pf L st) (kt : Sim Y (pm_b B K) pt L st) : Sim Y (pm_b (if x = y then A else B) K) pc L (va_rf y :: va_rf x :: st) := by
  intro σ k n H locs cells slots ls hf hW hS hc hs hl
  subst hp
  exact lv_acmp_ne C.x C.b hd ht (fun c => kt σ k n H locs cells slots ls (by rw [if_neg c] at hf; exact hf) hW hS hc hs hl) (fun c => kf σ k n H locs cells slots ls (by rw [if_pos c] at hf; exact hf) hW hS hc hs hl)
end SMB
/-! A METHOD'S CONTRACT OUT OF ITS WALK; returns -/
theorem sm_of {S α : Type} {l : Launch} {g : sm_G} {Rl : S → Heap → Prop} {A : Nat → Prop} {y : MethodName} {cc : ByteArray} {nL : Nat} {ret : Option FieldType} {fr lo : Nat} {av : List Value} {emb : α → Option Value ⊕ String} {f : PM S α} {own : String}
    (ho : y.cls = own) (hy : plainName y.cls = true) (hn : (lg_sl av).length ≤ nL) (body : ∀ Y : sm_Y S α, sm_C Y g cc own ret nL fr lo emb false → yW Y = Rl → yA Y = A → yL Y = l → (yH Y).name = y.name → Sim Y f 0 (lv_args 0 av) []) : sm_CT l g Rl A y cc nL ret fr lo av emb f := by
  intro σ r σ' k n hf
  refine Met.ofW (cc := cc) (maxL := nL) (ret := ret) hy rfl ?_
  intro p e s m args below meth c s₁ B hml hv
  obtain ⟨rfl, hW, hK, hA⟩ := hv
  have hts := atoms_spec (ws := ws_ y cc nL ret) B.pre
  have hts : ∀ w ∈ lw_all, w.before _ s = true := fun w h => hts w (List.mem_cons_of_mem _ h)
  have hl := lv_entry av (n := nL) hn
  rw [lg_entry_eq]
  have hb := body ((p, l, e, (headSpec (ws_ y cc nL ret) { frames := fr, cells := k, slots := n, locals := lo }).room, s, m, av.toArray, below, meth, c), Rl, A, MQ below (sm_Qq Rl A emb r σ') av.toArray s k n A, (r, σ'), k, n, nL)
    ⟨B.exec, B.bytes, hml, rfl, by rw [← ho]; exact findClass_of_methodNamed B.named, hts, B.returns, B.notSynchronized, hK, ⟨rfl, rfl, rfl, rfl⟩, hA, fun _ => rfl, (fun h => by cases h), rfl⟩ rfl rfl rfl (name_of_methodNamed B.named B.method).1
  exact hb σ k n s.heap [] 0 0 _ hf hW va_S.rf (by show 0 + k ≤ k; omega) (by show 0 + n ≤ n; omega) hl
theorem sm_ofX {S α : Type} {l : Launch} (htr : l.stackTraces = false) {g : sm_G} {Rl : S → Heap → Prop} {A : Nat → Prop} {y : MethodName} {cc : ByteArray} {nL : Nat} {ret : Option FieldType} {fr lo : Nat} {av : List Value} {emb : α → Option Value ⊕ String} {f : PM S α} {own : String}
    (ho : y.cls = own) (hy : plainName y.cls = true) (hn : (lg_sl av).length ≤ nL) (body : ∀ Y : sm_Y S α, sm_C Y g cc own ret nL fr lo emb true → yW Y = Rl → yA Y = A → yL Y = l → (yH Y).name = y.name → Sim Y f 0 (lv_args 0 av) []) : sm_CX l g Rl A y cc nL ret fr lo av emb f := by
  intro σ r σ' k n hf
  refine vx_ofW (cc := cc) (maxL := nL) (ret := ret) hy rfl ?_
  intro p e s m args below meth c s₁ B hml het hv
  obtain ⟨rfl, hW, hK, hA⟩ := hv
  have hts := atoms_spec (ws := ws_ y cc nL ret) B.pre
  have hts : ∀ w ∈ lw_all, w.before _ s = true := fun w h => hts w (List.mem_cons_of_mem _ h)
  have hl := lv_entry av (n := nL) hn
  rw [lg_entry_eq]
  have hb := body ((p, l, e, (headSpec (ws_ y cc nL ret) { frames := fr, cells := k, slots := n, locals := lo }).room, s, m, av.toArray, below, meth, c), Rl, A, vx_MQ below (sm_Qq Rl A emb r σ') (sm_Xq Rl A emb r σ') av.toArray s k n A, (r, σ'), k, n, nL)
    ⟨B.exec, B.bytes, hml, rfl, by rw [← ho]; exact findClass_of_methodNamed B.named, hts, B.returns, B.notSynchronized, hK, ⟨rfl, rfl, rfl, rfl⟩, hA, (fun h => by cases h), fun _ => ⟨rfl, htr, het⟩, rfl⟩ rfl rfl rfl (name_of_methodNamed B.named B.method).1
  exact hb σ k n s.heap [] 0 0 _ hf hW va_S.rf (by show 0 + k ≤ k; omega) (by show 0 + n ≤ n; omega) hl
section SMZ
variable {S ρ : Type} {Y : sm_Y S ρ} {g : sm_G} {own : String} {ret : Option FieldType} {nL fr lo : Nat} {emb : ρ → Option Value ⊕ String} {th : Bool} {pc : Nat} {L : List (Nat × Value)} {st : List Value} {cc : ByteArray}
/-- the end of a method that returns: out of the kit's row -/
theorem s_end (C : sm_C Y g cc own ret nL fr lo emb th) {r : ρ} {o : Option Value} (he : emb r = .inl o)
    (row : ∀ (H : Heap) (locs : List Loc) (ls : Array Slot), (∀ t : State, t.heap = H → (yS Y).WarmedH t.vm → sm_Qq (yW Y) (yA Y) emb (yF Y).1 (yF Y).2 (yG Y) (yS Y) (.returned o) t) → (∀ q ∈ locs, yA Y q.base) → W (yP Y) (yL Y) (yE Y) (yR Y) (yS Y) (yM Y) (yG Y) (yB Y) (yH Y) (yC Y) H locs (yc Y) (ys Y) (MQ (yB Y) (sm_Qq (yW Y) (yA Y) emb (yF Y).1 (yF Y).2) (yG Y) (yS Y) (yc Y) (ys Y) (yA Y)) (F0 (yM Y) pc ls st)) : Sim Y (pm_b (pm_r r) pm_r) pc L st := by
  intro σ k n H locs cells slots ls hf hW hS hc hs hl
  rw [pm_r_b] at hf
  obtain ⟨e1, e2, rfl, rfl⟩ := pm_r_some hf
  have hq : ∀ t : State, t.heap = H → (yS Y).WarmedH t.vm → sm_Qq (yW Y) (yA Y) emb (yF Y).1 (yF Y).2 (yG Y) (yS Y) (.returned o) t := fun t ht _ => ⟨⟨o, by rw [e1]; exact he, rfl, by rw [ht, e2]; exact hW⟩, hS.F ht⟩
  refine W.widen (k := yc Y) (n := ys Y) hc hs ?_
  have hr := row H locs ls hq hS.2.2
  cases th with
  | false => rw [C.q0]; exact hr
  | true => rw [C.q1]; exact vx_ret hr
theorem s_iret {ty : FieldType} (C : sm_C Y g cc own (some ty) nL fr lo emb th) {r : ρ} {v : Int32} (he : emb r = .inl (some (.int v))) (hn : narrow ty (.int v) = .int v) (hd : decode cc pc = .ok (.ireturn, 1)) : Sim Y (pm_b (pm_r r) pm_r) pc L [.int v] :=
  s_end C he (fun H locs ls hq hf => W.zret C.x C.b C.r hn hq hf hd C.lk)
theorem s_lret (C : sm_C Y g cc own (some .long) nL fr lo emb th) {r : ρ} {v : Int64} (he : emb r = .inl (some (.long v))) (hd : decode cc pc = .ok (.lreturn, 1)) : Sim Y (pm_b (pm_r r) pm_r) pc L [.long v] :=
  s_end C he (fun H locs ls hq hf => W.lret C.x C.b C.r hq hf hd C.lk)
theorem s_dret (C : sm_C Y g cc own (some .double) nL fr lo emb th) {r : ρ} {v : UInt64} (he : emb r = .inl (some (.double v))) (hd : decode cc pc = .ok (.dreturn, 1)) : Sim Y (pm_b (pm_r r) pm_r) pc L [.double v] :=
  s_end C he (fun H locs ls hq hf => W.dret C.x C.b C.r hq hf hd C.lk)
theorem s_aret {ty : FieldType} (C : sm_C Y g cc own (some ty) nL fr lo emb th) {r : ρ} {v : Nat} (he : emb r = .inl (some (.ref v))) (hty : (∃ n, ty = .object n) ∨ ∃ t, ty = .array t) (hd : decode cc pc = .ok (.areturn, 1)) : Sim Y (pm_b (pm_r r) pm_r) pc L [.ref v] :=
  s_end C he (fun H locs ls hq hf => W.aret C.x C.b C.r hty (Or.inr ⟨v, rfl⟩) hq hf hd C.lk)
theorem s_vret (C : sm_C Y g cc own none nL fr lo emb th) {r : ρ} (he : emb r = .inl none) (hd : decode cc pc = .ok (.return_, 1)) : Sim Y (pm_b (pm_r r) pm_r) pc L [] :=
  s_end C he (fun H locs ls hq hf => W.vret C.x C.b C.r hq hf hd C.lk)
end SMZ
/-- an answer that is a truth value, a letter -/
def pm_z {S : Type} (v : Int32) : PM S Int32 := if v = 0 ∨ v = 1 then pm_r v else pm_n
def pm_c {S : Type} (v : Int32) : PM S Int32 := if (v.toUInt32 % 65536).toInt32 = v then pm_r v else pm_n
section SMZ2
variable {S ρ α β : Type} {Y : sm_Y S ρ} {g : sm_G} {own : String} {ret : Option FieldType} {nL fr lo : Nat} {emb : ρ → Option Value ⊕ String} {th : Bool} {pc : Nat} {L : List (Nat × Value)} {st : List Value} {cc : ByteArray}
theorem s_z {v : Int32} {K : Int32 → PM S ρ} (kk : v = 0 ∨ v = 1 → Sim Y (K v) pc L st) : Sim Y (pm_b (pm_z v) K) pc L st := by
  intro σ k n H locs cells slots ls hf hW hS hc hs hl
  unfold pm_z at hf
  by_cases h : v = 0 ∨ v = 1
  · rw [if_pos h, pm_r_b] at hf; exact kk h σ k n H locs cells slots ls hf hW hS hc hs hl
  · rw [if_neg h] at hf; cases hf
theorem s_c {v : Int32} {K : Int32 → PM S ρ} (kk : (v.toUInt32 % 65536).toInt32 = v → Sim Y (K v) pc L st) : Sim Y (pm_b (pm_c v) K) pc L st := by
  intro σ k n H locs cells slots ls hf hW hS hc hs hl
  unfold pm_c at hf
  by_cases h : (v.toUInt32 % 65536).toInt32 = v
  · rw [if_pos h, pm_r_b] at hf; exact kk h σ k n H locs cells slots ls hf hW hS hc hs hl
  · rw [if_neg h] at hf; cases hf
theorem s_zn {v : Int32} (h : v = 0 ∨ v = 1) : narrow .boolean (.int v) = .int v := by rcases h with rfl | rfl <;> rfl
theorem s_cn {v : Int32} (h : (v.toUInt32 % 65536).toInt32 = v) : narrow .char (.int v) = .int v := by
  have h2 := vp_nar_char v
  have h3 : narrow .char (.int v) = .int (vp_nar .char v) := rfl
  rw [h3, h2, UInt32.toUInt32_toUInt16]
  exact congrArg Value.int h
end SMZ2
