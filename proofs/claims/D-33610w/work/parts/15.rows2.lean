theorem bl {a b : Nat} (h : Nat.ble a b = true) : a ≤ b := Nat.le_of_ble_eq_true h
/-- what isn't null -/
def pm_sm {S : Type} (x : Option Nat) : PM S Nat := match x with
  | some a => pm_r a
  | none => pm_n
/-- a division of doubles that doesn't answer NaN -/
def pm_dd {S : Type} (x y : UInt64) : PM S UInt64 := if FP.ddiv x y &&& 0x7fffffffffffffff ≤ 0x7ff0000000000000 then pm_r (FP.ddiv x y) else pm_n
section SR2
variable {S ρ α β γ τ : Type} {Y : sm_Y S ρ} {g : sm_G} {own : String} {ret : Option FieldType} {nL fr lo : Nat} {emb : ρ → Option Value ⊕ String} {th : Bool} {f : PM S ρ} {pc : Nat} {L L' : List (Nat × Value)} {st : List Value} {cc : ByteArray}
theorem s_loop {body : τ → PM S (τ ⊕ β)} {G : β → PM S γ} {K : γ → PM S ρ} (LJ : τ → List (Nat × Value)) (LX : β → List (Nat × Value)) (e : Nat) (s0 : τ) (hL : LJ s0 = L) (hx : ∀ v, Sim Y (pm_b (G v) K) e (LX v) [])
    (hb : ∀ (K' : τ ⊕ β → PM S ρ) (s : τ), (∀ s', Sim Y (K' (.inl s')) pc (LJ s') []) → (∀ v, Sim Y (K' (.inr v)) e (LX v) []) → Sim Y (pm_b (body s) K') pc (LJ s) []) : Sim Y (pm_b (pm_b (pm_lp body s0) G) K) pc L [] := by
  rw [pm_b_as]
  refine s_lp (LJ := LJ) s0 hL (fun K' s hk hr => ?_)
  exact hb K' s hk (fun v => by rw [hr]; exact hx v)
theorem s_loop2 {body : τ → PM S (τ ⊕ (β ⊕ γ))} {α2 : Type} {G0 : β → PM S α2} {G1 : γ → PM S α2} {K : α2 → PM S ρ} (LJ : τ → List (Nat × Value)) (LX0 : β → List (Nat × Value)) (LX1 : γ → List (Nat × Value)) (e0 e1 : Nat) (s0 : τ) (hL : LJ s0 = L) (hx0 : ∀ v, Sim Y (pm_b (G0 v) K) e0 (LX0 v) []) (hx1 : ∀ v, Sim Y (pm_b (G1 v) K) e1 (LX1 v) [])
    (hb : ∀ (K' : τ ⊕ (β ⊕ γ) → PM S ρ) (s : τ), (∀ s', Sim Y (K' (.inl s')) pc (LJ s') []) → (∀ v, Sim Y (K' (.inr (.inl v))) e0 (LX0 v) []) → (∀ v, Sim Y (K' (.inr (.inr v))) e1 (LX1 v) []) → Sim Y (pm_b (body s) K') pc (LJ s) []) : Sim Y (pm_b (pm_b (pm_lp body s0) (Sum.elim G0 G1)) K) pc L [] := by
  rw [pm_b_as]
  refine s_lp (LJ := LJ) s0 hL (fun K' s hk hr => ?_)
  exact hb K' s hk (fun v => by rw [hr]; exact hx0 v) (fun v => by rw [hr]; exact hx1 v)
theorem s_topi {e : Int32} {G : Int32 → PM S β} {K : β → PM S ρ} (kk : ∀ x, Sim Y (pm_b (G x) K) pc L (.int x :: st)) : Sim Y (pm_b (pm_b (pm_r e) G) K) pc L (.int e :: st) := by rw [pm_b_as, pm_r_b]; exact kk e
theorem s_topl {e : Int64} {G : Int64 → PM S β} {K : β → PM S ρ} (kk : ∀ x, Sim Y (pm_b (G x) K) pc L (.long x :: st)) : Sim Y (pm_b (pm_b (pm_r e) G) K) pc L (.long e :: st) := by rw [pm_b_as, pm_r_b]; exact kk e
theorem s_some {x : Option Nat} {G : Nat → PM S β} {K : β → PM S ρ} (kk : ∀ a, Sim Y (pm_b (G a) K) pc L (.ref a :: st)) : Sim Y (pm_b (pm_b (pm_sm x) G) K) pc L (va_rf x :: st) := by
  rw [pm_b_as]
  cases x with
  | none => exact s_none1
  | some a => show Sim Y (pm_b (pm_r a) _) pc L (.ref a :: st); rw [pm_r_b]; exact kk a
theorem s_zb {v : Int32} {G : Int32 → PM S β} {K : β → PM S ρ} (kk : v = 0 ∨ v = 1 → Sim Y (pm_b (G v) K) pc L st) : Sim Y (pm_b (pm_b (pm_z v) G) K) pc L st := by rw [pm_b_as]; exact s_z kk
theorem s_cb {v : Int32} {G : Int32 → PM S β} {K : β → PM S ρ} (kk : (v.toUInt32 % 65536).toInt32 = v → Sim Y (pm_b (G v) K) pc L st) : Sim Y (pm_b (pm_b (pm_c v) G) K) pc L st := by rw [pm_b_as]; exact s_c kk
theorem s_zf {v : Int32} (h : v = 0 ∨ v = 1) : fits .boolean (.int v) = true := by rcases h with rfl | rfl <;> decide
theorem s_cf {v : Int32} (h : (v.toUInt32 % 65536).toInt32 = v) : fits .char (.int v) = true := by
  rw [← h]
  have hm : (v.toUInt32 % 65536).toNat < 65536 := by
    rw [UInt32.toNat_mod]
    exact Nat.mod_lt _ (by decide)
  generalize v.toUInt32 % 65536 = u at hm
  have e : u.toInt32.toInt = (u.toNat : Int) := by
    show u.toBitVec.toInt = _
    rw [BitVec.toInt_eq_toNat_cond]
    have : u.toBitVec.toNat = u.toNat := rfl
    rw [this, if_pos (by omega)]
  show (decide (0 ≤ u.toInt32) && decide (u.toInt32 ≤ 65535)) = true
  rw [Bool.and_eq_true, decide_eq_true_eq, decide_eq_true_eq, Int32.le_iff_toInt_le, Int32.le_iff_toInt_le, e]
  have e1 : (0 : Int32).toInt = 0 := by decide
  have e2 : (65535 : Int32).toInt = 65535 := by decide
  rw [e1, e2]
  omega
theorem s_popq (C : sm_C Y g cc own ret nL fr lo emb th) {x : Option Nat} (hd : decode cc pc = .ok (.pop, 1)) (pc' : Nat) (hp : pc + 1 = pc') (kk : Sim Y f pc' L st) : Sim Y f pc L (va_rf x :: st) := s_pop C hd (by cases x <;> rfl) pc' hp kk
theorem s_i2b (C : sm_C Y g cc own ret nL fr lo emb th) {x : Int32} (hd : decode cc pc = .ok (.i2b, 1)) (pc' : Nat) (hp : pc + 1 = pc') (kk : Sim Y f pc' L (.int x.toInt8.toInt32 :: st)) : Sim Y f pc L (.int x :: st) := s_mono (fun H locs cells slots ls hl w => lv_i2b C.x C.b hd rfl (by rw [hp]; exact w)) kk
theorem s_ldc_w (C : sm_C Y g cc own ret nL fr lo emb th) {i : Nat} {v : Int32} (hq : (Jvm.Cond.constant own i v) ∈ lw_all) (hd : decode cc pc = .ok (.ldc_w i, 3)) (pc' : Nat) (hp : pc + 3 = pc') (kk : Sim Y f pc' L (.int v :: st)) : Sim Y f pc L st := s_mono (fun H locs cells slots ls hl w => lv_ldcw C.x C.b C.o (C.w _ hq) hd (by rw [hp]; exact w)) kk
theorem s_idv (C : sm_C Y g cc own ret nL fr lo emb th) {x y : Int32} (hd : decode cc pc = .ok (.idiv, 1)) (pc' : Nat) (hp : pc + 1 = pc') {G : Int32 → PM S β} {K : β → PM S ρ} (kk : ∀ z, Sim Y (pm_b (G z) K) pc' L (.int z :: st)) : Sim Y (pm_b (pm_b (pm_dv x y) G) K) pc L (.int y :: .int x :: st) := by
  rw [pm_b_as]
  unfold pm_dv
  by_cases h : y = 0
  · rw [if_pos h]; exact s_none1
  · rw [if_neg h, pm_r_b]; exact s_idiv C hd h pc' hp (kk _)
theorem s_ddiv (C : sm_C Y g cc own ret nL fr lo emb th) {x y : UInt64} (hd : decode cc pc = .ok (.ddiv, 1)) (pc' : Nat) (hp : pc + 1 = pc') {G : UInt64 → PM S β} {K : β → PM S ρ} (kk : ∀ z, Sim Y (pm_b (G z) K) pc' L (.double z :: st)) : Sim Y (pm_b (pm_b (pm_dd x y) G) K) pc L (.double y :: .double x :: st) := by
  rw [pm_b_as]
  unfold pm_dd
  by_cases h : FP.ddiv x y &&& 0x7fffffffffffffff ≤ 0x7ff0000000000000
  · rw [if_pos h, pm_r_b]; exact s_mono (fun H locs cells slots ls hl w => lv_ddiv C.x C.b hd h (by rw [hp]; exact w)) (kk _)
  · rw [if_neg h]; exact s_none1
theorem s_acmpr_eq (C : sm_C Y g cc own ret nL fr lo emb th) {A B : PM S α} {K : α → PM S ρ} {x y : Nat} {off : Int} (hd : decode cc pc = .ok (.if_acmp .eq off, 3)) (pt pf : Nat) (ht : (pc : Int) + off = (pt : Int)) (hp : pc + 3 = pf) (kt : Sim Y (pm_b A K) pt L st) (kf : Sim Y (pm_b B K) pf L st) : Sim Y (pm_b (if x = y then A else B) K) pc L (.ref y :: .ref x :: st) := by
  have h := s_acmp_eq (A := A) (B := B) (K := K) (x := some x) (y := some y) C hd pt pf ht hp kt kf
  by_cases e : x = y
  · rw [if_pos e]; rw [if_pos (congrArg some e)] at h; exact h
  · rw [if_neg e]; rw [if_neg (fun z => e (Option.some.inj z))] at h; exact h
theorem s_acmpr_ne (C : sm_C Y g cc own ret nL fr lo emb th) {A B : PM S α} {K : α → PM S ρ} {x y : Nat} {off : Int} (hd : decode cc pc = .ok (.if_acmp .ne off, 3)) (pt pf : Nat) (ht : (pc : Int) + off = (pt : Int)) (hp : pc + 3 = pf) (kf : Sim Y (pm_b A K) pf L st) (kt : Sim Y (pm_b B K) pt L st) : Sim Y (pm_b (if x = y then A else B) K) pc L (.ref y :: .ref x :: st) := by
  have h := s_acmp_ne (A := A) (B := B) (K := K) (x := some x) (y := some y) C hd pt pf ht hp kf kt
  by_cases e : x = y
  · rw [if_pos e]; rw [if_pos (congrArg some e)] at h; exact h
  · rw [if_neg e]; rw [if_neg (fun z => e (Option.some.inj z))] at h; exact h
theorem s_acmp_same_ne (C : sm_C Y g cc own ret nL fr lo emb th) {G : PM S α} {K : α → PM S ρ} {x : Nat} {off : Int} (hd : decode cc pc = .ok (.if_acmp .ne off, 3)) (pt pf : Nat) (ht : (pc : Int) + off = (pt : Int)) (hp : pc + 3 = pf) (kf : Sim Y (pm_b G K) pf L st) : Sim Y (pm_b G K) pc L (.ref x :: .ref x :: st) := by
  intro σ k n H locs cells slots ls hf hW hS hc hs hl
  subst hp
  exact lv_acmp_ne (rx := some x) (ry := some x) (tgt := pt) C.x C.b hd ht (fun c => absurd rfl c) (fun _ => kf σ k n H locs cells slots ls hf hW hS hc hs hl)
theorem s_ifnull (C : sm_C Y g cc own ret nL fr lo emb th) {A B : PM S α} {K : α → PM S ρ} {x : Option Nat} {off : Int} (hd : decode cc pc = .ok (.ifnull off, 3)) (pt pf : Nat) (ht : (pc : Int) + off = (pt : Int)) (hp : pc + 3 = pf) (kt : Sim Y (pm_b A K) pt L st) (kf : Sim Y (pm_b B K) pf L st) : Sim Y (pm_b (if x = none then A else B) K) pc L (va_rf x :: st) := by
  subst hp
  cases x with
  | none => rw [if_pos rfl]; exact s_mono (fun H locs cells slots ls hl w => lv_ifnullN C.x C.b hd ht w) kt
  | some a => rw [if_neg (fun h => by cases h)]; exact s_mono (fun H locs cells slots ls hl w => lv_ifnull C.x C.b hd w) kf
theorem s_ifnonnull (C : sm_C Y g cc own ret nL fr lo emb th) {A B : PM S α} {K : α → PM S ρ} {x : Option Nat} {off : Int} (hd : decode cc pc = .ok (.ifnonnull off, 3)) (pt pf : Nat) (ht : (pc : Int) + off = (pt : Int)) (hp : pc + 3 = pf) (kf : Sim Y (pm_b A K) pf L st) (kt : Sim Y (pm_b B K) pt L st) : Sim Y (pm_b (if x = none then A else B) K) pc L (va_rf x :: st) := by
  subst hp
  cases x with
  | none => rw [if_pos rfl]; exact s_mono (fun H locs cells slots ls hl w => lv_ifnonnullN C.x C.b hd w) kf
  | some a => rw [if_neg (fun h => by cases h)]; exact s_mono (fun H locs cells slots ls hl w => lv_ifnonnull C.x C.b hd ht w) kt
theorem s_qret {ty : FieldType} (C : sm_C Y g cc own (some ty) nL fr lo emb th) {r : ρ} (v : Option Nat) (he : emb r = .inl (some (va_rf v))) (hty : (∃ n, ty = .object n) ∨ ∃ t, ty = .array t) (hd : decode cc pc = .ok (.areturn, 1)) : Sim Y (pm_b (pm_r r) pm_r) pc L [va_rf v] :=
  s_end C he (fun H locs ls hq hf => W.aret C.x C.b C.r hty (by cases v with | none => exact Or.inl rfl | some a => exact Or.inr ⟨a, rfl⟩) hq hf hd C.lk)
theorem ct_at {l : Launch} {Rl : S → Heap → Prop} {A : Nat → Prop} {y : MethodName} {cc : ByteArray} {nL fr lo : Nat} {ret : Option FieldType} {av : List Value} {emb : α → Option Value ⊕ String} {f : PM S α} (hR : yW Y = Rl) (hA : yA Y = A) (h : sm_CT l g Rl A y cc nL ret fr lo av emb f) : sm_CT l g (yW Y) (yA Y) y cc nL ret fr lo av emb f := by rw [hR, hA]; exact h
theorem cx_at {l : Launch} {Rl : S → Heap → Prop} {A : Nat → Prop} {y : MethodName} {cc : ByteArray} {nL fr lo : Nat} {ret : Option FieldType} {av : List Value} {emb : α → Option Value ⊕ String} {f : PM S α} (hR : yW Y = Rl) (hA : yA Y = A) (h : sm_CX l g Rl A y cc nL ret fr lo av emb f) : sm_CX l g (yW Y) (yA Y) y cc nL ret fr lo av emb f := by rw [hR, hA]; exact h
theorem un_at {l : Launch} {Rl : S → Heap → Prop} {A : Nat → Prop} {y : MethodName} {cc : ByteArray} {nL fr lo : Nat} {ret : Option FieldType} {av : List Value} {emb : α → Option Value ⊕ String} {f : PM S α} (hR : yW Y = Rl) (hA : yA Y = A) (h : un_CT l g Rl A y cc nL ret fr lo av emb f) : un_CT l g (yW Y) (yA Y) y cc nL ret fr lo av emb f := by rw [hR, hA]; exact h
end SR2
abbrev vw_0 : vw_C := (RX1, TX1, 4)
abbrev vw_1 : vw_C := (RX2, TX2, 14)
abbrev vw_2 : vw_C := (RX12, TX12, 3)
abbrev vw_3 : vw_C := (RX8, TX8, 8)
abbrev vw_4 : vw_C := (RX9, TX9, 3)
abbrev vw_5 : vw_C := (RX10, TX10, 2)
abbrev vw_6 : vw_C := (RX6, TX6, 2)
abbrev vw_7 : vw_C := (RX11, TX11, 3)
abbrev vw_8 : vw_C := (RX13, TX13, 4)
abbrev vw_9 : vw_C := (RX14, TX14, 4)
abbrev vw_10 : vw_C := (RJ2, TJ2, 3)
abbrev vw_11 : vw_C := (RJ5, TJ5, 4)
abbrev vw_12 : vw_C := (RX4, TX4, 20)
theorem cd_0 : sm_cd 0 RX1 TX1 4 tyX1 := ⟨rfl, in_X1, tyX1_ok, nmX1⟩
theorem cd_1 : sm_cd 1 RX2 TX2 14 tyX2 := ⟨rfl, in_X2, tyX2_ok, nmX2⟩
theorem cd_2 : sm_cd 2 RX12 TX12 3 tyX12 := ⟨rfl, in_X12, tyX12_ok, nmX12⟩
theorem cd_3 : sm_cd 3 RX8 TX8 8 tyX8 := ⟨rfl, in_X8, tyX8_ok, nmX8⟩
theorem cd_4 : sm_cd 4 RX9 TX9 3 tyX9 := ⟨rfl, in_X9, tyX9_ok, nmX9⟩
theorem cd_5 : sm_cd 5 RX10 TX10 2 tyX10 := ⟨rfl, in_X10, tyX10_ok, nmX10⟩
theorem cd_6 : sm_cd 6 RX6 TX6 2 tyX6 := ⟨rfl, in_X6, tyX6_ok, nmX6⟩
theorem cd_7 : sm_cd 7 RX11 TX11 3 tyX11 := ⟨rfl, in_X11, tyX11_ok, nmX11⟩
theorem cd_8 : sm_cd 8 RX13 TX13 4 tyX13 := ⟨rfl, in_X13, tyX13_ok, nmX13⟩
theorem cd_9 : sm_cd 9 RX14 TX14 4 tyX14 := ⟨rfl, in_X14, tyX14_ok, nmX14⟩
theorem cd_10 : sm_cd 10 RJ2 TJ2 3 tyJ2 := ⟨rfl, in_J2, tyJ2_ok, nmJ2⟩
theorem cd_11 : sm_cd 11 RJ5 TJ5 4 tyJ5 := ⟨rfl, in_J5, tyJ5_ok, nmJ5⟩
theorem cd_12 : sm_cd 12 RX4 TX4 20 tyX4 := ⟨rfl, in_X4, tyX4_ok, nmX4⟩
theorem df_0 : ∀ j, j < 4 → defaultValue (tyX1 j) = vp_V (so_df 0) j := by
  intro j hj
  match j, hj with
  | 0, _ => rfl
  | 1, _ => rfl
  | 2, _ => rfl
  | 3, _ => rfl
  | j + 4, h => exact absurd h (by omega)
theorem df_1 : ∀ j, j < 14 → defaultValue (tyX2 j) = vp_V (so_df 1) j := by
  intro j hj
  match j, hj with
  | 0, _ => rfl
  | 1, _ => rfl
  | 2, _ => rfl
  | 3, _ => rfl
  | 4, _ => rfl
  | 5, _ => rfl
  | 6, _ => rfl
  | 7, _ => rfl
  | 8, _ => rfl
  | 9, _ => rfl
  | 10, _ => rfl
  | 11, _ => rfl
  | 12, _ => rfl
  | 13, _ => rfl
  | j + 14, h => exact absurd h (by omega)
theorem df_2 : ∀ j, j < 3 → defaultValue (tyX12 j) = vp_V (so_df 2) j := by
  intro j hj
  match j, hj with
  | 0, _ => rfl
  | 1, _ => rfl
  | 2, _ => rfl
  | j + 3, h => exact absurd h (by omega)
theorem df_3 : ∀ j, j < 8 → defaultValue (tyX8 j) = vp_V (so_df 3) j := by
  intro j hj
  match j, hj with
  | 0, _ => rfl
  | 1, _ => rfl
  | 2, _ => rfl
  | 3, _ => rfl
  | 4, _ => rfl
  | 5, _ => rfl
  | 6, _ => rfl
  | 7, _ => rfl
  | j + 8, h => exact absurd h (by omega)
theorem df_4 : ∀ j, j < 3 → defaultValue (tyX9 j) = vp_V (so_df 4) j := by
  intro j hj
  match j, hj with
  | 0, _ => rfl
  | 1, _ => rfl
  | 2, _ => rfl
  | j + 3, h => exact absurd h (by omega)
theorem df_5 : ∀ j, j < 2 → defaultValue (tyX10 j) = vp_V (so_df 5) j := by
  intro j hj
  match j, hj with
  | 0, _ => rfl
  | 1, _ => rfl
  | j + 2, h => exact absurd h (by omega)
theorem df_6 : ∀ j, j < 2 → defaultValue (tyX6 j) = vp_V (so_df 6) j := by
  intro j hj
  match j, hj with
  | 0, _ => rfl
  | 1, _ => rfl
  | j + 2, h => exact absurd h (by omega)
theorem df_7 : ∀ j, j < 3 → defaultValue (tyX11 j) = vp_V (so_df 7) j := by
  intro j hj
  match j, hj with
  | 0, _ => rfl
  | 1, _ => rfl
  | 2, _ => rfl
  | j + 3, h => exact absurd h (by omega)
theorem df_8 : ∀ j, j < 4 → defaultValue (tyX13 j) = vp_V (so_df 8) j := by
  intro j hj
  match j, hj with
  | 0, _ => rfl
  | 1, _ => rfl
  | 2, _ => rfl
  | 3, _ => rfl
  | j + 4, h => exact absurd h (by omega)
theorem df_9 : ∀ j, j < 4 → defaultValue (tyX14 j) = vp_V (so_df 9) j := by
  intro j hj
  match j, hj with
  | 0, _ => rfl
  | 1, _ => rfl
  | 2, _ => rfl
  | 3, _ => rfl
  | j + 4, h => exact absurd h (by omega)
theorem df_10 : ∀ j, j < 3 → defaultValue (tyJ2 j) = vp_V (so_df 10) j := by
  intro j hj
  match j, hj with
  | 0, _ => rfl
  | 1, _ => rfl
  | 2, _ => rfl
  | j + 3, h => exact absurd h (by omega)
theorem df_11 : ∀ j, j < 4 → defaultValue (tyJ5 j) = vp_V (so_df 11) j := by
  intro j hj
  match j, hj with
  | 0, _ => rfl
  | 1, _ => rfl
  | 2, _ => rfl
  | 3, _ => rfl
  | j + 4, h => exact absurd h (by omega)
theorem df_12 : ∀ j, j < 20 → defaultValue (tyX4 j) = vp_V (so_df 12) j := by
  intro j hj
  match j, hj with
  | 0, _ => rfl
  | 1, _ => rfl
  | 2, _ => rfl
  | 3, _ => rfl
  | 4, _ => rfl
  | 5, _ => rfl
  | 6, _ => rfl
  | 7, _ => rfl
  | 8, _ => rfl
  | 9, _ => rfl
  | 10, _ => rfl
  | 11, _ => rfl
  | 12, _ => rfl
  | 13, _ => rfl
  | 14, _ => rfl
  | 15, _ => rfl
  | 16, _ => rfl
  | 17, _ => rfl
  | 18, _ => rfl
  | 19, _ => rfl
  | j + 20, h => exact absurd h (by omega)
