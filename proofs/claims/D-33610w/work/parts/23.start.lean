/-! THE START: what the tables' words and the Statement's premises give -/
theorem st_all {args : Array Value} {s : State} (hts : ∀ w ∈ lw_tbl, w.before args s = true) : ∀ w ∈ lw_all, w.before args s = true := fun w h => hts w (List.mem_filter.mp h).1
theorem st_arrT {args : Array Value} {s : State} {ty : FieldType} (h : (Cond.arrayClass ty).before args s = true) (hty : ∀ C, ty ≠ .object C) : ∃ cA, ArrOfT s cA ty ∧ va_RA s cA ty := by
  obtain ⟨c, k, comp, h1, h2, h3⟩ := Cond.arrayClass_spec h
  refine ⟨c, fun n z => ?_, ?_⟩
  · exact ⟨(fun k h => by cases h), k, h2, comp, h3⟩
  · cases ty with
    | object C => exact absurd rfl (hty C)
    | _ => exact h1
theorem st_arrO {args : Array Value} {s : State} {C : String} (h : (Cond.arrayOver (.object C)).before args s = true) : ∃ cA, ArrOfT s cA (.object C) ∧ va_RA s cA (.object C) := by
  obtain ⟨comp, c, k, h1, h2, h3, h4, h5⟩ := Cond.arrayOver_spec h
  exact ⟨c, fun n z => ⟨(fun k h => by cases h), k, h3, comp, h4⟩, k, comp, h3, h4, h1, h5⟩
theorem st_ref {args : Array Value} {s : State} {t : Term} (h : (Cond.isRef t).before args s = true) : ∃ o : Option Nat, t.eval args s none [] s = some (va_rf o) := by
  obtain ⟨v, hv, hr⟩ := Cond.isRef_spec h
  cases v with
  | ref a => exact ⟨some a, hv⟩
  | null => exact ⟨none, hv⟩
  | _ => cases hr
theorem st_ex {args : Array Value} {s : State} {t : Term} {nm : String} (h : (Cond.exactly t nm).before args s = true) : ∃ a : Nat, t.eval args s none [] s = some (.ref a) ∧ a < s.heap.size := by
  obtain ⟨a, c, cell, k, q1, q2, q3, q4⟩ := Cond.exactly_spec h
  exact ⟨a, q1, (Array.getElem?_eq_some_iff.mp q3).1⟩
/-- a private method is found from any class -/
theorem st_priv {args : Array Value} {s : State} {C : String} {x x2 y : MethodName} (h : (Cond.selects C x2 y).before args s = true) (hx2 : y.cls = x.cls) (hpriv : (Cond.privateMethod x).before args s = true) (hinst : (Cond.instanceMethod x).before args s = true) (hy : x.cls ≠ "java/lang/invoke/MethodHandle" ∧ x.cls ≠ "java/lang/invoke/VarHandle") : (Cond.selects C x x).before args s = true := by
  obtain ⟨c, r, m, hc, -, hm, -, k, hk, hni⟩ := Cond.selects_spec h
  obtain ⟨mk, methM, hnamed, hmethM, -, -⟩ := Cond.instanceMethod_spec hinst
  have hfound : s.methodFound? x.cls x.name x.desc = some mk := State.methodFound?_of_named hnamed hy
  have hcls : mk.cls = m.cls := Option.some.inj ((findClass_of_methodNamed hnamed).symm.trans (by rw [← hx2]; exact findClass_of_methodNamed hm))
  have hsel : selectMethod {} s.vm c mk = .method mk := selectMethod_private hmethM (Cond.privateMethod_at hpriv mk methM hnamed hmethM)
  rw [← hcls] at hk
  simp only [Cond.before, Cond.holds, Cond.value, hc, hfound, hnamed, hsel, hk]
  simp; exact hni

theorem st_n_emptyR : (Cond.isRef (.static "java/util/ArrayList" "DEFAULTCAPACITY_EMPTY_ELEMENTDATA" "[Ljava/lang/Object;")) ∈ flatC (Jvm.Cond.and given_1 narrow_1) := by decide +kernel
theorem st_n_emptyA : (Cond.arrayOf (.static "java/util/ArrayList" "DEFAULTCAPACITY_EMPTY_ELEMENTDATA" "[Ljava/lang/Object;") (.object "java/lang/Object")) ∈ flatC (Jvm.Cond.and given_1 narrow_1) := by decide +kernel
theorem st_n_emptyL : (Cond.eq (.length (.static "java/util/ArrayList" "DEFAULTCAPACITY_EMPTY_ELEMENTDATA" "[Ljava/lang/Object;")) (.int 0)) ∈ flatC (Jvm.Cond.and given_1 narrow_1) := by decide +kernel
theorem st_n_w0 : (Cond.exactly (.static "PatchCords$Way" "AT_ONCE" "LPatchCords$Way;") "PatchCords$Way$1") ∈ flatC (Jvm.Cond.and given_1 narrow_1) := by decide +kernel
theorem st_n_w0o : (Cond.eq (.field (.static "PatchCords$Way" "AT_ONCE" "LPatchCords$Way;") "java/lang/Enum" "ordinal" "I") (.int 0)) ∈ flatC (Jvm.Cond.and given_1 narrow_1) := by decide +kernel
theorem st_n_cs : (Cond.eq (.static "java/lang/String" "COMPACT_STRINGS" "Z") (.int 1)) ∈ flatC (Jvm.Cond.and given_1 narrow_1) := by decide +kernel
theorem st_n_io : (Cond.isRef (.static "jdk/internal/util/Preconditions" "SIOOBE_FORMATTER" "Ljava/util/function/BiFunction;")) ∈ flatC (Jvm.Cond.and given_1 narrow_1) := by decide +kernel
theorem st_n_us : (Cond.isRef (.static "java/lang/Throwable" "UNASSIGNED_STACK" "[Ljava/lang/StackTraceElement;")) ∈ flatC (Jvm.Cond.and given_1 narrow_1) := by decide +kernel
theorem st_n_ss : (Cond.isRef (.static "java/lang/Throwable" "SUPPRESSED_SENTINEL" "Ljava/util/List;")) ∈ flatC (Jvm.Cond.and given_1 narrow_1) := by decide +kernel
theorem st_n_vx : (Cond.exactly (.static "PatchCords$Way" "$VALUES" "[LPatchCords$Way;") "[LPatchCords$Way;") ∈ flatC (Jvm.Cond.and given_1 narrow_1) := by decide +kernel
theorem st_n_va : (Cond.arrayOf (.static "PatchCords$Way" "$VALUES" "[LPatchCords$Way;") (.object "PatchCords$Way")) ∈ flatC (Jvm.Cond.and given_1 narrow_1) := by decide +kernel
theorem st_n_vl : (Cond.eq (.length (.static "PatchCords$Way" "$VALUES" "[LPatchCords$Way;")) (.int 2)) ∈ flatC (Jvm.Cond.and given_1 narrow_1) := by decide +kernel
theorem st_n_v0 : (Cond.eq (.elem (.static "PatchCords$Way" "$VALUES" "[LPatchCords$Way;") (.int 0)) (.static "PatchCords$Way" "AT_ONCE" "LPatchCords$Way;")) ∈ flatC (Jvm.Cond.and given_1 narrow_1) := by decide +kernel
theorem st_n_v1 : (Cond.eq (.elem (.static "PatchCords$Way" "$VALUES" "[LPatchCords$Way;") (.int 1)) (.static "PatchCords$Way" "BY_MIDDLES" "LPatchCords$Way;")) ∈ flatC (Jvm.Cond.and given_1 narrow_1) := by decide +kernel
theorem st_n_w1 : (Cond.exactly (.static "PatchCords$Way" "BY_MIDDLES" "LPatchCords$Way;") "PatchCords$Way$2") ∈ flatC (Jvm.Cond.and given_1 narrow_1) := by decide +kernel
theorem st_n_w1o : (Cond.eq (.field (.static "PatchCords$Way" "BY_MIDDLES" "LPatchCords$Way;") "java/lang/Enum" "ordinal" "I") (.int 1)) ∈ flatC (Jvm.Cond.and given_1 narrow_1) := by decide +kernel
theorem st_n_wn : (Cond.not (.eq (.static "PatchCords$Way" "AT_ONCE" "LPatchCords$Way;") (.static "PatchCords$Way" "BY_MIDDLES" "LPatchCords$Way;"))) ∈ flatC (Jvm.Cond.and given_1 narrow_1) := by decide +kernel
theorem st_n_mi : (Cond.isRef (.mirror "[Ljava/lang/Object;")) ∈ flatC (Jvm.Cond.and given_1 narrow_1) := by decide +kernel
theorem st_n_all : (Cond.all (.static "PatchCords$Way" "$VALUES" "[LPatchCords$Way;") (.le (.index 0) (.int 1))) ∈ flatC (Jvm.Cond.and given_1 narrow_1) := by decide +kernel
theorem st_nc : ∀ q ∈ sm_nc, (Cond.not (.castable q.1 q.2)) ∈ flatC (Jvm.Cond.and given_1 narrow_1) := by decide +kernel
set_option maxHeartbeats 2000000 in
theorem st_K {args : Array Value} {s : State} (hts : ∀ w ∈ lw_tbl, w.before args s = true) (hgv : (Jvm.Cond.and given_1 narrow_1).before args s = true) :
    ∃ g : sm_G, g.2.2.2.1 = s.heap.size ∧ sm_K g (so_A g (fun _ => False)) s s.heap ∧ (∀ k, k < 4 → g.2.2.2.2 k < s.heap.size) ∧ g.2.2.2.2 0 ≠ g.2.2.2.2 1 := by
  have hta := st_all hts
  have hn := flat_of_before _ hgv
  obtain ⟨c0, i0, hk0⟩ := u_known (C := RX1) (T := TX1) (N := 4) (n := 4) hta in_X1 (hta _ q142)
  obtain ⟨c1, i1, hk1⟩ := u_known (C := RX2) (T := TX2) (N := 14) (n := 14) hta in_X2 (hta _ q150)
  obtain ⟨c2, i2, hk2⟩ := u_known (C := RX12) (T := TX12) (N := 3) (n := 3) hta in_X12 (hta _ q439)
  obtain ⟨c3, i3, hk3⟩ := u_known (C := RX8) (T := TX8) (N := 8) (n := 8) hta in_X8 (hta _ q355)
  obtain ⟨c4, i4, hk4⟩ := u_known (C := RX9) (T := TX9) (N := 3) (n := 3) hta in_X9 (hta _ q394)
  obtain ⟨c5, i5, hk5⟩ := u_known (C := RX10) (T := TX10) (N := 2) (n := 2) hta in_X10 (hta _ q411)
  obtain ⟨c6, i6, hk6⟩ := u_known (C := RX6) (T := TX6) (N := 2) (n := 2) hta in_X6 (hta _ q332)
  obtain ⟨c7, i7, hk7⟩ := u_known (C := RX11) (T := TX11) (N := 3) (n := 3) hta in_X11 (hta _ q423)
  obtain ⟨c8, i8, hk8⟩ := u_known (C := RX13) (T := TX13) (N := 4) (n := 4) hta in_X13 (hta _ q1122)
  obtain ⟨c9, i9, hk9⟩ := u_known (C := RX14) (T := TX14) (N := 4) (n := 4) hta in_X14 (hta _ q1179)
  obtain ⟨c10, i10, hk10⟩ := u_known (C := RJ2) (T := TJ2) (N := 3) (n := 3) hta in_J2 (hta _ q156)
  obtain ⟨c11, i11, hk11⟩ := u_known (C := RJ5) (T := TJ5) (N := 4) (n := 4) hta in_J5 (hta _ q241)
  obtain ⟨c12, i12, hk12⟩ := u_known (C := RX4) (T := TX4) (N := 20) (n := 20) hta in_X4 (hta _ q1803)
  obtain ⟨dC, dI, hKc⟩ : ∃ (dC : Nat → ClassId) (dI : Nat → Nat → Nat), ∀ (k : Nat) (q : vw_C), vwCl[k]? = some q → u_Kn s q.1 q.2.1 q.2.2 (dC k) (dI k) := by
    refine ⟨fun k => [c0, c1, c2, c3, c4, c5, c6, c7, c8, c9, c10, c11, c12].getD k c0, fun k => [i0, i1, i2, i3, i4, i5, i6, i7, i8, i9, i10, i11, i12].getD k i0, ?_⟩
    intro k q hq
    match k, hq with
    | 0, hq => cases hq; exact hk0
    | 1, hq => cases hq; exact hk1
    | 2, hq => cases hq; exact hk2
    | 3, hq => cases hq; exact hk3
    | 4, hq => cases hq; exact hk4
    | 5, hq => cases hq; exact hk5
    | 6, hq => cases hq; exact hk6
    | 7, hq => cases hq; exact hk7
    | 8, hq => cases hq; exact hk8
    | 9, hq => cases hq; exact hk9
    | 10, hq => cases hq; exact hk10
    | 11, hq => cases hq; exact hk11
    | 12, hq => cases hq; exact hk12
    | k + 13, hq => simp [vwCl] at hq
  obtain ⟨a0, ha0⟩ := st_arrT (hta _ q237) (fun _ h => by cases h)
  obtain ⟨a1, ha1⟩ := st_arrT (hta _ q1631) (fun _ h => by cases h)
  obtain ⟨a2, ha2⟩ := st_arrT (hta _ q272) (fun _ h => by cases h)
  obtain ⟨a3, ha3⟩ := st_arrT (hta _ q2373) (fun _ h => by cases h)
  obtain ⟨a4, ha4⟩ := st_arrO (C := "java/lang/Object") (hts _ q511)
  obtain ⟨a5, ha5⟩ := st_arrO (C := "PatchCords$Way") (hts _ q1538)
  obtain ⟨w0, ew0, hw0⟩ := st_ex (hn _ st_n_w0)
  obtain ⟨w1, ew1, hw1⟩ := st_ex (hn _ st_n_w1)
  obtain ⟨vv, evv, hvv⟩ := st_ex (hn _ st_n_vx)
  obtain ⟨io, eio⟩ := st_ref (hn _ st_n_io)
  obtain ⟨mi, hmi⟩ := va_Mi.of (hn _ st_n_mi)
  have hne : w0 ≠ w1 := by
    rintro rfl
    have h := hn _ st_n_wn
    simp [Cond.before, Cond.holds, Cond.value, ew0, ew1] at h
  obtain ⟨A, eA⟩ : ∃ A : Nat → Prop, A = fun q => s.heap.size ≤ q ∧ ¬ False := ⟨_, rfl⟩
  have hA : ∀ a : Nat, a < s.heap.size → ¬ A a := fun a h z => by rw [eA] at z; exact absurd z.1 (Nat.not_le.mpr h)
  obtain ⟨em, eem, hem⟩ := va_Tof (A := A) (N := 0) (f := fun _ => .null) (by decide) (hn _ st_n_emptyA) (va_eqt (hn _ st_n_emptyL)) (fun j hj => absurd hj (Nat.not_lt_zero j)) hA
  obtain ⟨vt, evt, hvt⟩ := va_Tof (A := A) (N := 2) (f := fun i => .ref (if i = 0 then w0 else w1)) (by decide) (hn _ st_n_va) (va_eqt (hn _ st_n_vl)) (fun j hj => by
    rcases (show j = 0 ∨ j = 1 by omega) with rfl | rfl
    · exact Cond.eq_refs (hn _ st_n_v0) ew0 rfl
    · exact Cond.eq_refs (hn _ st_n_v1) ew1 rfl) hA
  have e1 : vt = vv := by rw [evv] at evt; cases evt; rfl
  subst e1
  obtain ⟨av, cv, cellv, kv, x1, x2, x3, x4, x5, x6, -⟩ := Cond.exactly_spec (hn _ st_n_vx)
  have e2 : av = vt := by have h := x1.symm.trans evv; cases h; rfl
  subst e2
  obtain ⟨cell2, y1, y2, y3, y4, y5, y6, y7⟩ := hvt
  have e3 : cell2 = cellv := by rw [x3] at y1; cases y1; rfl
  subst e3
  have hcv : cell2.cls = a5 := by
    have h := va_nmO (nm := "[LPatchCords$Way;") ha5.2 (by decide +kernel)
    rw [x6]
    exact Option.some.inj (x2.symm.trans h)
  have hsz : cell2.slots.size = 2 := by
    have hat : s.arrayAt? av = some cell2 := by
      obtain ⟨t9, cell9, z1, z2, -⟩ := Term.length_spec (va_eqt (hn _ st_n_vl))
      have e : t9 = av := by have h := z1.symm.trans evv; cases h; rfl
      subst e
      obtain ⟨z3, -⟩ := State.arrayAt?_spec z2
      rw [x3] at z3
      cases z3
      exact z2
    have hall := Cond.all_elim evv hat (by simpa [Cond.before, Cond.holds] using hn _ st_n_all)
    rcases Nat.lt_or_ge 2 cell2.slots.size with h | h
    · have h9 := hall 2 h
      simp [Cond.value, Term.eval] at h9
      exact absurd h9 (by decide)
    · omega
  obtain ⟨dA, edA⟩ : ∃ dA : Nat → ClassId, dA = fun k => [a0, a1, a2, a3, a4, a5].getD k a0 := ⟨_, rfl⟩
  obtain ⟨sa, esa⟩ : ∃ sa : Nat → Nat, sa = fun k => [w0, w1, av, em, mi, (match io with | none => 0 | some _ => 1), (match io with | none => 0 | some a => a)].getD k 0 := ⟨_, rfl⟩
  have d0 : dA 0 = a0 := by rw [edA]; rfl
  have d1 : dA 1 = a1 := by rw [edA]; rfl
  have d2 : dA 2 = a2 := by rw [edA]; rfl
  have d3 : dA 3 = a3 := by rw [edA]; rfl
  have d4 : dA 4 = a4 := by rw [edA]; rfl
  have d5 : dA 5 = a5 := by rw [edA]; rfl
  have z0 : sa 0 = w0 := by rw [esa]; rfl
  have z1 : sa 1 = w1 := by rw [esa]; rfl
  have z2 : sa 2 = av := by rw [esa]; rfl
  have z3 : sa 3 = em := by rw [esa]; rfl
  have z4 : sa 4 = mi := by rw [esa]; rfl
  have z5 : sa_io (dC, dI, dA, s.heap.size, sa) = io := by
    unfold sa_io
    show (if sa 5 = 0 then none else some (sa 6)) = io
    rw [esa]
    cases io <;> rfl
  clear esa edA
  have hAA : so_A (dC, dI, dA, s.heap.size, sa) (fun _ => False) = A := eA.symm
  refine ⟨(dC, dI, dA, s.heap.size, sa), rfl, ?_, ?_, by show sa 0 ≠ sa 1; rw [z0, z1]; exact hne⟩
  · rw [hAA]
    refine ⟨⟨hKc, fun k q hq => ?_⟩, fun w hw ho => va_Nw.of (nw_tab ho) (hts w hw), fun q hq => va_Nc.of (hn _ (st_nc q hq)), va_AO.of (hts _ q511), ?_⟩
    · match k, hq with
      | 0, hq => cases hq; show ArrOfT s (dA 0) _ ∧ va_RA s (dA 0) _; rw [d0]; exact ha0
      | 1, hq => cases hq; show ArrOfT s (dA 1) _ ∧ va_RA s (dA 1) _; rw [d1]; exact ha1
      | 2, hq => cases hq; show ArrOfT s (dA 2) _ ∧ va_RA s (dA 2) _; rw [d2]; exact ha2
      | 3, hq => cases hq; show ArrOfT s (dA 3) _ ∧ va_RA s (dA 3) _; rw [d3]; exact ha3
      | 4, hq => cases hq; show ArrOfT s (dA 4) _ ∧ va_RA s (dA 4) _; rw [d4]; exact ha4
      | 5, hq => cases hq; show ArrOfT s (dA 5) _ ∧ va_RA s (dA 5) _; rw [d5]; exact ha5
      | k + 6, hq => simp at hq
    · unfold sm_T
      rw [z5]
      dsimp only
      rw [z0, z1, z2, z3, z4, d5]
      refine ⟨va_Zref (hts _ q182) (hta _ q107) ew0 hA, va_Zref (hts _ q1533) (hta _ q107) evv hA, va_Zref (hts _ q168) (hta _ q105) eem hA, va_Zof (hts _ q250) (hta _ q110) (va_eqt (hn _ st_n_cs)) hA, vx_Zqof (hts _ q996) (hta _ q113) (hn _ st_n_us) hA, vx_Zqof (hts _ q998) (hta _ q113) (hn _ st_n_ss) hA,
        va_Oof (hn _ st_n_w0) ew0 hA, va_Oof (hn _ st_n_w1) ew1 hA, vk_OFof ew0 (va_eqt (hn _ st_n_w0o)) hA, vk_OFof ew1 (va_eqt (hn _ st_n_w1o)) hA, hem, ⟨⟨cell2, x3, hcv, x5, y3, ?_⟩, hA av hvv⟩, va_nmO (nm := "[LPatchCords$Way;") ha5.2 (by decide +kernel), ?_, hmi, ?_⟩
      · refine Array.ext (hsz.trans (arrV_size _ _ _).symm) (fun i h1 h2 => ?_)
        have hi : i < 2 := by omega
        have h3 := y6 i hi
        have h4 : (arrV a5 2 (fun j => va_rf (some (if j = 0 then w0 else w1)))).slots[i]? = some (va_rf (some (if i = 0 then w0 else w1))) := arrV_read _ _ hi
        have h5 : cell2.slots[i]? = (arrV a5 2 (fun j => va_rf (some (if j = 0 then w0 else w1)))).slots[i]? := h3.trans h4.symm
        rw [Array.getElem?_eq_getElem h1] at h5
        exact Option.some.inj (h5.trans (Array.getElem?_eq_getElem h2))
      · exact va_Zof (hts _ q859) (hta _ q119) eio hA
      · intro w hw
        simp only [sm_xw, List.mem_cons, List.not_mem_nil, or_false] at hw
        subst hw
        exact va_Nw.of rfl (st_priv (hta _ q844) rfl (hts _ q822) (hta _ q823) (by decide +kernel))
  · intro k hk
    match k, hk with
    | 0, _ => show sa 0 < _; rw [z0]; exact hw0
    | 1, _ => show sa 1 < _; rw [z1]; exact hw1
    | 2, _ => show sa 2 < _; rw [z2]; exact hvv
    | 3, _ => show sa 3 < _; rw [z3]; obtain ⟨cell, h, -⟩ := hem; exact (Array.getElem?_eq_some_iff.mp h).1
    | k + 4, h => omega
