/-! THE REFERENCE'S METHODS AS PROGRAMS -/
noncomputable def f_X4_init (g : sm_G) (a0 : Nat) : PM Sto Unit :=
pm_b (n_a 0 242) fun x1 =>
pm_b (p_f [12] 1 a0 (.ref x1)) fun _ =>
pm_b (n_a 0 1452) fun x2 =>
pm_b (p_f [12] 2 a0 (.ref x2)) fun _ =>
pm_b (n_a 0 242) fun x3 =>
pm_b (p_f [12] 4 a0 (.ref x3)) fun _ =>
pm_b (n_a 0 242) fun x4 =>
pm_b (p_f [12] 6 a0 (.ref x4)) fun _ =>
pm_b (n_a 0 16) fun x5 =>
pm_b (p_f [12] 7 a0 (.ref x5)) fun _ =>
pm_b (n_a 0 16) fun x6 =>
pm_b (p_f [12] 8 a0 (.ref x6)) fun _ =>
pm_b (n_a 0 16) fun x7 =>
pm_b (p_f [12] 10 a0 (.ref x7)) fun _ =>
pm_b (n_a 0 16) fun x8 =>
pm_b (p_f [12] 11 a0 (.ref x8)) fun _ =>
pm_b (n_a 0 60) fun x9 =>
pm_b (p_f [12] 12 a0 (.ref x9)) fun _ =>
pm_b (g_r [12] 1 a0) fun x10 =>
pm_b (pa_i 0 x10 5 (-1)) fun _ =>
pm_b (g_r [12] 1 a0) fun x11 =>
pm_b (pa_i 0 x11 8 (-1)) fun _ =>
pm_b (g_r [12] 1 a0) fun x12 =>
pm_b (pa_i 0 x12 9 (-1)) fun _ =>
pm_r ()
noncomputable def f_X4_thrown (g : sm_G) (a0 : Nat) : PM Sto Int32 :=
pm_b (g_i [12] 0 a0) fun x1 =>
pm_r x1
noncomputable def f_X4_within (g : sm_G) (p0 : Int32) (p1 : Int32) (p2 : Int32) : PM Sto Int32 :=
pm_b (
if p0 < p1 then (
pm_r 0)
else (
if p2 < p0 then (
pm_r 0)
else (
pm_r 1))) fun (v1 : Int32) =>
pm_b (pm_z v1) fun x3 =>
pm_r x3
noncomputable def f_X4_canPut (g : sm_G) (a0 : Nat) : PM Sto Int32 :=
pm_b (g_r [12] 1 a0) fun x1 =>
pm_b (a_i 0 x1 0) fun x2 =>
pm_b (
if (16 : Int32) ≤ x2 then (
pm_r 0)
else (
pm_r 1)) fun (v3 : Int32) =>
pm_b (pm_z v3) fun x5 =>
pm_r x5
noncomputable def f_X4_saves (g : sm_G) (a0 : Nat) : PM Sto Unit :=
pm_b (g_i [12] 3 a0) fun x1 =>
pm_b (
if x1 = 6 then (
pm_b (pm_lp (fun (s4 : Int32) =>
if (1210 : Int32) ≤ s4 then (
pm_r (Sum.inr ()))
else (
pm_b (g_r [12] 2 a0) fun x7 =>
pm_b (g_r [12] 2 a0) fun x8 =>
pm_b (a_i 0 x8 (s4 + 242)) fun x9 =>
pm_b (pa_i 0 x7 s4 x9) fun _ =>
pm_r (Sum.inl (s4 + 1)))) 0) fun (v10 : Unit) =>
pm_b (g_i [12] 3 a0) fun x11 =>
pm_b (p_f [12] 3 a0 (.int (x11 - 1))) fun _ =>
pm_r ())
else (
pm_r ())) fun (v2 : Unit) =>
pm_b (pm_lp (fun (s12 : Int32) =>
if (242 : Int32) ≤ s12 then (
pm_r (Sum.inr ()))
else (
pm_b (g_r [12] 2 a0) fun x15 =>
pm_b (g_i [12] 3 a0) fun x16 =>
pm_b (g_r [12] 1 a0) fun x17 =>
pm_b (a_i 0 x17 s12) fun x18 =>
pm_b (pa_i 0 x15 ((x16 * 242) + s12) x18) fun _ =>
pm_r (Sum.inl (s12 + 1)))) 0) fun (v19 : Unit) =>
pm_b (g_i [12] 3 a0) fun x20 =>
pm_b (p_f [12] 3 a0 (.int (x20 + 1))) fun _ =>
pm_r ()
noncomputable def f_X4_puts (g : sm_G) (a0 : Nat) (p0 : Int32) (p1 : Int32) (p2 : Int32) : PM Sto Unit :=
pm_b (g_r [12] 1 a0) fun x1 =>
pm_b (pa_i 0 x1 ((34 + (13 * p0)) + p1) p2) fun _ =>
pm_r ()
noncomputable def f_X4_putsUp (g : sm_G) (a0 : Nat) (p0 : Int32) : PM Sto Int32 :=
pm_b (g_r [12] 1 a0) fun x1 =>
pm_b (a_i 0 x1 0) fun x2 =>
pm_b (g_r [12] 1 a0) fun x3 =>
pm_b (a_i 0 x3 0) fun x4 =>
pm_b (pa_i 0 x3 0 (x4 + 1)) fun _ =>
pm_b (pm_on 12 a0 (f_X4_puts g a0 x2 0 p0)) fun _ =>
pm_b (
if p0 = 5 then (
pm_r 10000)
else (
if p0 = 2 then (
pm_r 500)
else (
pm_r 0))) fun (v6 : Int32) =>
pm_b (pm_on 12 a0 (f_X4_puts g a0 x2 1 v6)) fun _ =>
pm_b (pm_on 12 a0 (f_X4_puts g a0 x2 2 100)) fun _ =>
pm_b (pm_on 12 a0 (f_X4_puts g a0 x2 3 0)) fun _ =>
pm_b (pm_on 12 a0 (f_X4_puts g a0 x2 4 0)) fun _ =>
pm_b (pm_lp (fun (s12 : Int32) =>
if (4 : Int32) ≤ s12 then (
pm_r (Sum.inr ()))
else (
pm_b (pm_on 12 a0 (f_X4_puts g a0 x2 (5 + s12) (-1))) fun _ =>
pm_b (pm_on 12 a0 (f_X4_puts g a0 x2 (9 + s12) 1)) fun _ =>
pm_r (Sum.inl (s12 + 1)))) 0) fun (v17 : Unit) =>
pm_r x2
noncomputable def f_X4_put (g : sm_G) (a0 : Nat) (p0 : Int32) : PM Sto Int32 :=
pm_b (f_X4_within g p0 0 5) fun x1 =>
pm_b (
if x1 = 0 then (
pm_r 1)
else (
pm_b (pm_on 12 a0 (f_X4_canPut g a0)) fun x4 =>
if x4 = 0 then (
pm_r 2)
else (
pm_r 0))) fun (v2 : Int32) =>
pm_b (p_f [12] 0 a0 (.int v2)) fun _ =>
pm_b (g_i [12] 0 a0) fun x5 =>
if x5 ≤ 0 then (
pm_b (pm_on 12 a0 (f_X4_saves g a0)) fun _ =>
pm_b (pm_on 12 a0 (f_X4_putsUp g a0 p0)) fun x7 =>
pm_r x7)
else (
pm_r 0)
noncomputable def f_X4_isModule (g : sm_G) (a0 : Nat) (p0 : Int32) : PM Sto Int32 :=
pm_b (g_r [12] 1 a0) fun x1 =>
pm_b (a_i 0 x1 0) fun x2 =>
pm_b (f_X4_within g p0 0 (x2 - 1)) fun x3 =>
pm_b (pm_z x3) fun x4 =>
pm_r x4
noncomputable def f_X4_of (g : sm_G) (a0 : Nat) (p0 : Int32) (p1 : Int32) : PM Sto Int32 :=
pm_b (g_r [12] 1 a0) fun x1 =>
pm_b (a_i 0 x1 ((34 + (13 * p0)) + p1)) fun x2 =>
pm_r x2
noncomputable def f_X4_kind (g : sm_G) (a0 : Nat) (p0 : Int32) : PM Sto Int32 :=
pm_b (pm_on 12 a0 (f_X4_of g a0 p0 0)) fun x1 =>
pm_r x1
noncomputable def f_X4_isWeighted (g : sm_G) (a0 : Nat) (p0 : Int32) : PM Sto Int32 :=
pm_b (pm_on 12 a0 (f_X4_kind g a0 p0)) fun x1 =>
pm_b (
if x1 = 0 then (
pm_r 1)
else (
pm_b (pm_on 12 a0 (f_X4_kind g a0 p0)) fun x4 =>
if x4 = 1 then (
pm_r 1)
else (
pm_r 0))) fun (v2 : Int32) =>
pm_b (pm_z v2) fun x5 =>
pm_r x5
noncomputable def f_X4_inputsOfKind (g : sm_G) (p0 : Int32) : PM Sto Int32 :=
pm_b (
if p0 = 5 then (
pm_r 0)
else (
if p0 = 2 then (
pm_r 1)
else (
if p0 = 3 then (
pm_r 2)
else (
pm_r 4)))) fun (v1 : Int32) =>
pm_r v1
noncomputable def f_X4_isInput (g : sm_G) (a0 : Nat) (p0 : Int32) (p1 : Int32) : PM Sto Int32 :=
pm_b (pm_on 12 a0 (f_X4_isModule g a0 p0)) fun x1 =>
pm_b (
if x1 = 0 then (
pm_r 0)
else (
pm_b (pm_on 12 a0 (f_X4_kind g a0 p0)) fun x4 =>
pm_b (f_X4_inputsOfKind g x4) fun x5 =>
pm_b (f_X4_within g p1 0 (x5 - 1)) fun x6 =>
if x6 = 0 then (
pm_r 0)
else (
pm_r 1))) fun (v2 : Int32) =>
pm_b (pm_z v2) fun x7 =>
pm_r x7
noncomputable def f_X4_whyNoWeight (g : sm_G) (a0 : Nat) (p0 : Int32) (p1 : Int32) : PM Sto Int32 :=
pm_b (pm_on 12 a0 (f_X4_isModule g a0 p0)) fun x1 =>
pm_b (
if x1 = 0 then (
pm_r 1)
else (
pm_b (f_X4_within g p1 0 3) fun x4 =>
if x4 = 0 then (
pm_r 1)
else (
pm_b (pm_on 12 a0 (f_X4_isWeighted g a0 p0)) fun x5 =>
if x5 = 0 then (
pm_b (pm_on 12 a0 (f_X4_isInput g a0 p0 p1)) fun x6 =>
if x6 = 0 then (
pm_r 1)
else (
pm_r 2))
else (
pm_r 0)))) fun (v2 : Int32) =>
pm_r v2
noncomputable def f_X4_turnWeight (g : sm_G) (a0 : Nat) (p0 : Int32) (p1 : Int32) : PM Sto Int32 :=
pm_b (pm_on 12 a0 (f_X4_whyNoWeight g a0 p0 p1)) fun x1 =>
pm_b (p_f [12] 0 a0 (.int x1)) fun _ =>
pm_b (g_i [12] 0 a0) fun x2 =>
if x2 ≤ 0 then (
pm_b (pm_on 12 a0 (f_X4_saves g a0)) fun _ =>
pm_b (pm_on 12 a0 (f_X4_of g a0 p0 (9 + p1))) fun x4 =>
pm_b (pm_on 12 a0 (f_X4_puts g a0 p0 (9 + p1) (11 - x4))) fun _ =>
pm_b (pm_on 12 a0 (f_X4_of g a0 p0 (9 + p1))) fun x6 =>
pm_r x6)
else (
pm_r 0)
noncomputable def f_X4_hasVoltage (g : sm_G) (a0 : Nat) (p0 : Int32) : PM Sto Int32 :=
pm_b (pm_on 12 a0 (f_X4_kind g a0 p0)) fun x1 =>
pm_b (
if x1 = 5 then (
pm_r 1)
else (
pm_b (pm_on 12 a0 (f_X4_kind g a0 p0)) fun x4 =>
if x4 = 1 then (
pm_r 1)
else (
pm_r 0))) fun (v2 : Int32) =>
pm_b (pm_z v2) fun x5 =>
pm_r x5
noncomputable def f_X4_whyNoVoltage (g : sm_G) (a0 : Nat) (p0 : Int32) (p1 : Int32) : PM Sto Int32 :=
pm_b (pm_on 12 a0 (f_X4_isModule g a0 p0)) fun x1 =>
pm_b (
if x1 = 0 then (
pm_r 1)
else (
pm_b (pm_on 12 a0 (f_X4_hasVoltage g a0 p0)) fun x4 =>
if x4 = 0 then (
pm_r 2)
else (
pm_b (f_X4_within g p1 (-10000) 10000) fun x5 =>
if x5 = 0 then (
pm_r 2)
else (
pm_r 0)))) fun (v2 : Int32) =>
pm_r v2
noncomputable def f_X4_setsVoltage (g : sm_G) (a0 : Nat) (p0 : Int32) (p1 : Int32) : PM Sto Int32 :=
pm_b (pm_on 12 a0 (f_X4_of g a0 p0 1)) fun x1 =>
pm_b (pm_on 12 a0 (f_X4_puts g a0 p0 1 p1)) fun _ =>
pm_b (pm_on 12 a0 (f_X4_kind g a0 p0)) fun x3 =>
pm_b (
if x3 = 1 then (
pm_b (g_r [12] 1 a0) fun x6 =>
pm_b (a_i 0 x6 1) fun x7 =>
if x7 = 0 then (
pm_b (pm_on 12 a0 (f_X4_puts g a0 p0 3 (1000 * p1))) fun _ =>
pm_r ())
else (
pm_r ()))
else (
pm_r ())) fun (v4 : Unit) =>
pm_r x1
noncomputable def f_X4_setVoltage (g : sm_G) (a0 : Nat) (p0 : Int32) (p1 : Int32) : PM Sto Int32 :=
pm_b (pm_on 12 a0 (f_X4_whyNoVoltage g a0 p0 p1)) fun x1 =>
pm_b (p_f [12] 0 a0 (.int x1)) fun _ =>
pm_b (g_i [12] 0 a0) fun x2 =>
if x2 ≤ 0 then (
pm_b (pm_on 12 a0 (f_X4_saves g a0)) fun _ =>
pm_b (pm_on 12 a0 (f_X4_setsVoltage g a0 p0 p1)) fun x4 =>
pm_r x4)
else (
pm_r 0)
noncomputable def f_X4_whyNoFactor (g : sm_G) (a0 : Nat) (p0 : Int32) (p1 : Int32) : PM Sto Int32 :=
pm_b (pm_on 12 a0 (f_X4_isModule g a0 p0)) fun x1 =>
pm_b (
if x1 = 0 then (
pm_r 1)
else (
pm_b (pm_on 12 a0 (f_X4_kind g a0 p0)) fun x4 =>
if x4 = 2 then (
pm_b (f_X4_within g p1 0 1000) fun x5 =>
if x5 = 0 then (
pm_r 2)
else (
pm_r 0))
else (
pm_r 2))) fun (v2 : Int32) =>
pm_r v2
noncomputable def f_X4_setsFactor (g : sm_G) (a0 : Nat) (p0 : Int32) (p1 : Int32) : PM Sto Int32 :=
pm_b (pm_on 12 a0 (f_X4_of g a0 p0 1)) fun x1 =>
pm_b (pm_on 12 a0 (f_X4_puts g a0 p0 1 p1)) fun _ =>
pm_r x1
noncomputable def f_X4_setFactor (g : sm_G) (a0 : Nat) (p0 : Int32) (p1 : Int32) : PM Sto Int32 :=
pm_b (pm_on 12 a0 (f_X4_whyNoFactor g a0 p0 p1)) fun x1 =>
pm_b (p_f [12] 0 a0 (.int x1)) fun _ =>
pm_b (g_i [12] 0 a0) fun x2 =>
if x2 ≤ 0 then (
pm_b (pm_on 12 a0 (f_X4_saves g a0)) fun _ =>
pm_b (pm_on 12 a0 (f_X4_setsFactor g a0 p0 p1)) fun x4 =>
pm_r x4)
else (
pm_r 0)
noncomputable def f_X4_setSpeed (g : sm_G) (a0 : Nat) (p0 : Int32) (p1 : Int32) : PM Sto Int32 :=
pm_b (pm_on 12 a0 (f_X4_isModule g a0 p0)) fun x1 =>
pm_b (
if x1 = 0 then (
pm_r 1)
else (
pm_b (pm_on 12 a0 (f_X4_kind g a0 p0)) fun x4 =>
if x4 = 1 then (
pm_b (f_X4_within g p1 1 1000) fun x5 =>
if x5 = 0 then (
pm_r 2)
else (
pm_r 0))
else (
pm_r 2))) fun (v2 : Int32) =>
pm_b (p_f [12] 0 a0 (.int v2)) fun _ =>
pm_b (g_i [12] 0 a0) fun x6 =>
if x6 ≤ 0 then (
pm_b (pm_on 12 a0 (f_X4_saves g a0)) fun _ =>
pm_b (pm_on 12 a0 (f_X4_of g a0 p0 2)) fun x8 =>
pm_b (pm_on 12 a0 (f_X4_puts g a0 p0 2 p1)) fun _ =>
pm_r x8)
else (
pm_r 0)
noncomputable def f_X4_feedersOf (g : sm_G) (a0 : Nat) (p0 : Int32) : PM Sto Int32 :=
pm_b (pm_lp (fun (s1 : Int32 × Int32) =>
if (4 : Int32) ≤ s1.2 then (
pm_r (Sum.inr s1.1))
else (
pm_b (pm_on 12 a0 (f_X4_of g a0 p0 (5 + s1.2))) fun x4 =>
pm_b (
if x4 = (-1) then (
pm_r 0)
else (
pm_b (pm_on 12 a0 (f_X4_of g a0 p0 (5 + s1.2))) fun x7 =>
pm_r ((1 : Int32) <<< (x7 &&& 31)))) fun (v5 : Int32) =>
pm_b (pm_r (s1.1 ||| v5)) fun x8 =>
pm_r (Sum.inl (x8, s1.2 + 1)))) (0, 0)) fun (v9 : Int32) =>
pm_r v9
noncomputable def f_X4_has (g : sm_G) (p0 : Int32) (p1 : Int32) : PM Sto Int32 :=
pm_b (
if ((p0 >>> (p1 &&& 31)) &&& 1) = 1 then (
pm_r 1)
else (
pm_r 0)) fun (v1 : Int32) =>
pm_b (pm_z v1) fun x3 =>
pm_r x3
noncomputable def f_X4_depends (g : sm_G) (a0 : Nat) (p0 : Int32) (p1 : Int32) : PM Sto Int32 :=
pm_b (
if p1 = 0 then (
pm_b (pm_on 12 a0 (f_X4_kind g a0 p0)) fun x4 =>
if x4 = 1 then (
pm_r 0)
else (
pm_b (pm_on 12 a0 (f_X4_feedersOf g a0 p0)) fun x5 =>
pm_r x5))
else (
pm_b (pm_on 12 a0 (f_X4_feedersOf g a0 p0)) fun x3 =>
pm_r x3)) fun (v1 : Int32) =>
pm_b (pm_lp (fun (s6 : Int32 × Int32) =>
if s6.2 = s6.1 then (
pm_r (Sum.inr s6.1))
else (
pm_b (pm_lp (fun (s9 : Int32 × Int32) =>
pm_b (g_r [12] 1 a0) fun x12 =>
pm_b (a_i 0 x12 0) fun x13 =>
if x13 ≤ s9.2 then (
pm_r (Sum.inr s9.1))
else (
pm_b (f_X4_has g s6.2 s9.2) fun x14 =>
pm_b (
if x14 = 0 then (
pm_r 0)
else (
if p1 = 0 then (
pm_b (pm_on 12 a0 (f_X4_kind g a0 s9.2)) fun x18 =>
if x18 = 1 then (
pm_r 0)
else (
pm_b (pm_on 12 a0 (f_X4_feedersOf g a0 s9.2)) fun x19 =>
pm_r x19))
else (
pm_b (pm_on 12 a0 (f_X4_feedersOf g a0 s9.2)) fun x17 =>
pm_r x17))) fun (v15 : Int32) =>
pm_b (pm_r (s9.1 ||| v15)) fun x20 =>
pm_r (Sum.inl (x20, s9.2 + 1)))) (s6.2, 0)) fun (v21 : Int32) =>
pm_r (Sum.inl (s6.2, v21)))) (0, v1)) fun (v22 : Int32) =>
pm_r v22
noncomputable def f_X4_circles (g : sm_G) (a0 : Nat) (p0 : Int32) (p1 : Int32) : PM Sto Int32 :=
pm_b (pm_on 12 a0 (f_X4_kind g a0 p0)) fun x1 =>
if x1 = 1 then (
pm_r 0)
else (
pm_b (pm_on 12 a0 (f_X4_kind g a0 p1)) fun x2 =>
if x2 = 1 then (
pm_r 0)
else (
pm_b (
if p0 = p1 then (
pm_r 1)
else (
pm_b (pm_on 12 a0 (f_X4_depends g a0 p0 0)) fun x5 =>
pm_b (f_X4_has g x5 p1) fun x6 =>
if x6 = 0 then (
pm_r 0)
else (
pm_r 1))) fun (v3 : Int32) =>
pm_b (pm_z v3) fun x7 =>
pm_r x7))
noncomputable def f_X4_whyNoJoin (g : sm_G) (a0 : Nat) (p0 : Int32) (p1 : Int32) (p2 : Int32) : PM Sto Int32 :=
pm_b (pm_on 12 a0 (f_X4_isModule g a0 p0)) fun x1 =>
pm_b (
if x1 = 0 then (
pm_r 1)
else (
pm_b (pm_on 12 a0 (f_X4_isInput g a0 p1 p2)) fun x4 =>
if x4 = 0 then (
pm_r 1)
else (
pm_b (pm_on 12 a0 (f_X4_circles g a0 p0 p1)) fun x5 =>
if x5 = 0 then (
pm_r 0)
else (
pm_r 2)))) fun (v2 : Int32) =>
pm_r v2
noncomputable def f_X4_joins (g : sm_G) (a0 : Nat) (p0 : Int32) (p1 : Int32) (p2 : Int32) : PM Sto Int32 :=
pm_b (pm_on 12 a0 (f_X4_of g a0 p1 (5 + p2))) fun x1 =>
pm_b (pm_on 12 a0 (f_X4_puts g a0 p1 (5 + p2) p0)) fun _ =>
pm_r x1
noncomputable def f_X4_join (g : sm_G) (a0 : Nat) (p0 : Int32) (p1 : Int32) (p2 : Int32) : PM Sto Int32 :=
pm_b (pm_on 12 a0 (f_X4_whyNoJoin g a0 p0 p1 p2)) fun x1 =>
pm_b (p_f [12] 0 a0 (.int x1)) fun _ =>
pm_b (g_i [12] 0 a0) fun x2 =>
if x2 ≤ 0 then (
pm_b (pm_on 12 a0 (f_X4_saves g a0)) fun _ =>
pm_b (pm_on 12 a0 (f_X4_joins g a0 p0 p1 p2)) fun x4 =>
pm_r x4)
else (
pm_r 0)
noncomputable def f_X4_whyNoCord (g : sm_G) (a0 : Nat) (p0 : Int32) (p1 : Int32) : PM Sto Int32 :=
pm_b (pm_on 12 a0 (f_X4_isInput g a0 p0 p1)) fun x1 =>
pm_b (
if x1 = 0 then (
pm_r 1)
else (
pm_b (pm_on 12 a0 (f_X4_of g a0 p0 (5 + p1))) fun x4 =>
if x4 = (-1) then (
pm_r 2)
else (
pm_r 0))) fun (v2 : Int32) =>
pm_r v2
noncomputable def f_X4_takeOut (g : sm_G) (a0 : Nat) (p0 : Int32) (p1 : Int32) : PM Sto Int32 :=
pm_b (pm_on 12 a0 (f_X4_whyNoCord g a0 p0 p1)) fun x1 =>
pm_b (p_f [12] 0 a0 (.int x1)) fun _ =>
pm_b (g_i [12] 0 a0) fun x2 =>
if x2 ≤ 0 then (
pm_b (pm_on 12 a0 (f_X4_saves g a0)) fun _ =>
pm_b (pm_on 12 a0 (f_X4_joins g a0 (-1) p0 p1)) fun x4 =>
pm_r x4)
else (
pm_r 0)
noncomputable def f_X4_canPass (g : sm_G) (a0 : Nat) (p0 : Int32) : PM Sto Int32 :=
pm_b (g_r [12] 1 a0) fun x1 =>
pm_b (a_i 0 x1 4) fun x2 =>
pm_b (
if (99999 : Int32) < (x2 + p0) then (
pm_r 0)
else (
pm_r 1)) fun (v3 : Int32) =>
pm_b (pm_z v3) fun x5 =>
pm_r x5
noncomputable def f_X4_laysLevels (g : sm_G) (a0 : Nat) : PM Sto Unit :=
pm_b (pm_lp (fun (s1 : Int32) =>
pm_b (g_r [12] 1 a0) fun x4 =>
pm_b (a_i 0 x4 0) fun x5 =>
if x5 ≤ s1 then (
pm_r (Sum.inr ()))
else (
pm_b (g_r [12] 7 a0) fun x6 =>
pm_b (pm_on 12 a0 (f_X4_hasVoltage g a0 s1)) fun x7 =>
pm_b (
if x7 = 0 then (
pm_r 1)
else (
pm_r 0)) fun (v8 : Int32) =>
pm_b (pa_i 0 x6 s1 v8) fun _ =>
pm_r (Sum.inl (s1 + 1)))) 0) fun (v10 : Unit) =>
pm_b (pm_lp (fun (s11 : Int32) =>
if s11 = 0 then (
pm_r (Sum.inr ()))
else (
pm_b (pm_lp (fun (s14 : Int32 × Int32) =>
pm_b (g_r [12] 1 a0) fun x17 =>
pm_b (a_i 0 x17 0) fun x18 =>
if x18 ≤ s14.2 then (
pm_r (Sum.inr s14.1))
else (
pm_b (pm_lp (fun (s19 : Int32 × Int32) =>
if (4 : Int32) ≤ s19.2 then (
pm_r (Sum.inr s19.1))
else (
pm_b (pm_on 12 a0 (f_X4_hasVoltage g a0 s14.2)) fun x22 =>
if x22 = 0 then (
pm_b (pm_on 12 a0 (f_X4_of g a0 s14.2 (5 + s19.2))) fun x23 =>
pm_b (
if x23 = (-1) then (
pm_r s19.1)
else (
pm_b (g_r [12] 7 a0) fun x26 =>
pm_b (a_i 0 x26 x23) fun x27 =>
pm_b (g_r [12] 7 a0) fun x28 =>
pm_b (a_i 0 x28 s14.2) fun x29 =>
if x27 < x29 then (
pm_r s19.1)
else (
pm_b (g_r [12] 7 a0) fun x30 =>
pm_b (g_r [12] 7 a0) fun x31 =>
pm_b (a_i 0 x31 x23) fun x32 =>
pm_b (pa_i 0 x30 s14.2 (x32 + 1)) fun _ =>
pm_r 1))) fun (v24 : Int32) =>
pm_r (Sum.inl (v24, s19.2 + 1)))
else (
pm_r (Sum.inr s19.1)))) (s14.1, 0)) fun (v33 : Int32) =>
pm_r (Sum.inl (v33, s14.2 + 1)))) (0, 0)) fun (v34 : Int32) =>
pm_r (Sum.inl v34))) 1) fun (v35 : Unit) =>
pm_r ()
noncomputable def f_X4_in (g : sm_G) (a0 : Nat) (p0 : Int32) (p1 : Int32) : PM Sto Int32 :=
pm_b (pm_on 12 a0 (f_X4_of g a0 p0 (5 + p1))) fun x1 =>
pm_b (
if x1 = (-1) then (
pm_r 0)
else (
pm_b (g_r [12] 8 a0) fun x4 =>
pm_b (a_i 0 x4 x1) fun x5 =>
pm_r x5)) fun (v2 : Int32) =>
pm_r v2
noncomputable def f_X4_weighted (g : sm_G) (a0 : Nat) (p0 : Int32) : PM Sto Int32 :=
pm_b (pm_lp (fun (s1 : Int32 × Int32) =>
if (4 : Int32) ≤ s1.2 then (
pm_r (Sum.inr s1.1))
else (
pm_b (pm_on 12 a0 (f_X4_of g a0 p0 (9 + s1.2))) fun x4 =>
pm_b (pm_on 12 a0 (f_X4_in g a0 p0 s1.2)) fun x5 =>
pm_b (pm_r (s1.1 + (x4 * x5))) fun x6 =>
pm_r (Sum.inl (x6, s1.2 + 1)))) (0, 0)) fun (v7 : Int32) =>
pm_r v7
noncomputable def f_X4_free (g : sm_G) (a0 : Nat) (p0 : Int32) : PM Sto Int32 :=
pm_b (pm_on 12 a0 (f_X4_kind g a0 p0)) fun x1 =>
pm_b (
if x1 = 0 then (
pm_b (pm_on 12 a0 (f_X4_weighted g a0 p0)) fun x14 =>
pm_r (-x14))
else (
if x1 = 1 then (
pm_b (pm_on 12 a0 (f_X4_of g a0 p0 3)) fun x13 =>
pm_r (x13 / 1000))
else (
if x1 = 2 then (
pm_b (pm_on 12 a0 (f_X4_in g a0 p0 0)) fun x11 =>
pm_b (pm_on 12 a0 (f_X4_of g a0 p0 1)) fun x12 =>
pm_r ((x11 * x12) / 1000))
else (
if x1 = 3 then (
pm_b (pm_on 12 a0 (f_X4_in g a0 p0 0)) fun x9 =>
pm_b (pm_on 12 a0 (f_X4_in g a0 p0 1)) fun x10 =>
pm_r ((x9 * x10) / 10000))
else (
if x1 = 4 then (
pm_b (pm_on 12 a0 (f_X4_in g a0 p0 0)) fun x5 =>
pm_b (pm_on 12 a0 (f_X4_in g a0 p0 1)) fun x6 =>
if x5 < x6 then (
pm_b (pm_on 12 a0 (f_X4_in g a0 p0 3)) fun x7 =>
pm_r x7)
else (
pm_b (pm_on 12 a0 (f_X4_in g a0 p0 2)) fun x8 =>
pm_r x8))
else (
pm_b (pm_on 12 a0 (f_X4_of g a0 p0 1)) fun x4 =>
pm_r x4)))))) fun (v2 : Int32) =>
pm_r v2
noncomputable def f_X4_held (g : sm_G) (p0 : Int32) (p1 : Int32) : PM Sto Int32 :=
pm_b (
if p0 ≤ p1 then (
if (-p1) ≤ p0 then (
pm_r p0)
else (
pm_r (-p1)))
else (
pm_r p1)) fun (v1 : Int32) =>
pm_r v1
noncomputable def f_X4_size (g : sm_G) (p0 : Int32) : PM Sto Int32 :=
pm_b (
if (0 : Int32) ≤ p0 then (
pm_r p0)
else (
pm_r (-p0))) fun (v1 : Int32) =>
pm_r v1
noncomputable def f_X4_laysOuts (g : sm_G) (a0 : Nat) : PM Sto Unit :=
pm_b (pm_on 12 a0 (f_X4_laysLevels g a0)) fun _ =>
pm_b (p_f [12] 9 a0 (.int 0)) fun _ =>
pm_b (pm_lp (fun (s2 : Int32) =>
if (16 : Int32) < s2 then (
pm_r (Sum.inr ()))
else (
pm_b (pm_lp (fun (s5 : Int32) =>
pm_b (g_r [12] 1 a0) fun x8 =>
pm_b (a_i 0 x8 0) fun x9 =>
if x9 ≤ s5 then (
pm_r (Sum.inr ()))
else (
pm_b (g_r [12] 7 a0) fun x10 =>
pm_b (a_i 0 x10 s5) fun x11 =>
pm_b (
if x11 = s2 then (
pm_b (pm_on 12 a0 (f_X4_free g a0 s5)) fun x14 =>
pm_b (g_r [12] 8 a0) fun x15 =>
pm_b (f_X4_held g x14 10000) fun x16 =>
pm_b (pa_i 0 x15 s5 x16) fun _ =>
pm_b (pm_on 12 a0 (f_X4_kind g a0 s5)) fun x17 =>
pm_b (
if x17 = 1 then (
pm_b (pm_on 12 a0 (f_X4_of g a0 s5 3)) fun x22 =>
pm_b (f_X4_size g x22) fun x23 =>
if x23 = 10000000 then (
pm_r 1)
else (
pm_r 0))
else (
pm_b (g_r [12] 8 a0) fun x20 =>
pm_b (a_i 0 x20 s5) fun x21 =>
if x14 = x21 then (
pm_r 0)
else (
pm_r 1))) fun (v18 : Int32) =>
pm_b (g_i [12] 9 a0) fun x24 =>
pm_b (
if v18 = 0 then (
pm_r 0)
else (
pm_r ((1 : Int32) <<< (s5 &&& 31)))) fun (v25 : Int32) =>
pm_b (p_f [12] 9 a0 (.int (x24 ||| v25))) fun _ =>
pm_r ())
else (
pm_r ())) fun (v12 : Unit) =>
pm_r (Sum.inl (s5 + 1)))) 0) fun (v27 : Unit) =>
pm_r (Sum.inl (s2 + 1)))) 0) fun (v28 : Unit) =>
pm_r ()
noncomputable def f_X4_rate (g : sm_G) (a0 : Nat) (p0 : Int32) : PM Sto Int32 :=
pm_b (pm_on 12 a0 (f_X4_weighted g a0 p0)) fun x1 =>
pm_b (pm_on 12 a0 (f_X4_of g a0 p0 2)) fun x2 =>
pm_b (pm_dv ((-x1) * 1000) x2) fun x3 =>
pm_r x3
noncomputable def f_X4_laysRates (g : sm_G) (a0 : Nat) : PM Sto Unit :=
pm_b (pm_lp (fun (s1 : Int32) =>
pm_b (g_r [12] 1 a0) fun x4 =>
pm_b (a_i 0 x4 0) fun x5 =>
if x5 ≤ s1 then (
pm_r (Sum.inr ()))
else (
pm_b (g_r [12] 10 a0) fun x6 =>
pm_b (pm_on 12 a0 (f_X4_kind g a0 s1)) fun x7 =>
pm_b (
if x7 = 1 then (
pm_b (pm_on 12 a0 (f_X4_rate g a0 s1)) fun x10 =>
pm_r x10)
else (
pm_r 0)) fun (v8 : Int32) =>
pm_b (pa_i 0 x6 s1 v8) fun _ =>
pm_r (Sum.inl (s1 + 1)))) 0) fun (v11 : Unit) =>
pm_r ()
noncomputable def f_X4_charges (g : sm_G) (a0 : Nat) (p0 : Int32) : PM Sto Unit :=
pm_b (pm_lp (fun (s1 : Int32) =>
pm_b (g_r [12] 1 a0) fun x4 =>
pm_b (a_i 0 x4 0) fun x5 =>
if x5 ≤ s1 then (
pm_r (Sum.inr ()))
else (
pm_b (pm_on 12 a0 (f_X4_kind g a0 s1)) fun x6 =>
pm_b (
if x6 = 1 then (
pm_b (g_r [12] 11 a0) fun x9 =>
pm_b (a_i 0 x9 s1) fun x10 =>
pm_b (g_r [12] 10 a0) fun x11 =>
pm_b (a_i 0 x11 s1) fun x12 =>
pm_b (pm_dv x12 p0) fun x13 =>
pm_b (f_X4_held g (x10 + x13) 10000000) fun x14 =>
pm_b (pm_on 12 a0 (f_X4_puts g a0 s1 3 x14)) fun _ =>
pm_r ())
else (
pm_r ())) fun (v7 : Unit) =>
pm_r (Sum.inl (s1 + 1)))) 0) fun (v16 : Unit) =>
pm_r ()
noncomputable def f_X4_notesRecord (g : sm_G) (a0 : Nat) : PM Sto Unit :=
pm_b (g_r [12] 1 a0) fun x1 =>
pm_b (a_i 0 x1 5) fun x2 =>
if x2 = (-1) then (
pm_r ())
else (
pm_b (g_r [12] 8 a0) fun x3 =>
pm_b (g_r [12] 1 a0) fun x4 =>
pm_b (a_i 0 x4 5) fun x5 =>
pm_b (a_i 0 x3 x5) fun x6 =>
pm_b (g_r [12] 1 a0) fun x7 =>
pm_b (a_i 0 x7 6) fun x8 =>
pm_b (
if x8 ≤ 0 then (
pm_r 0)
else (
pm_b (g_r [12] 1 a0) fun x11 =>
pm_b (g_r [12] 1 a0) fun x12 =>
pm_b (a_i 0 x12 6) fun x13 =>
pm_b (a_i 0 x11 ((10 + x13) - 1)) fun x14 =>
if (0 : Int32) ≤ x14 then (
pm_r 0)
else (
if x6 < 0 then (
pm_r 0)
else (
pm_r 1)))) fun (v9 : Int32) =>
pm_b (
if v9 = 0 then (
pm_r ())
else (
pm_b (g_r [12] 1 a0) fun x17 =>
pm_b (a_i 0 x17 7) fun x18 =>
pm_b (pa_i 0 x17 7 (x18 + 1)) fun _ =>
pm_b (g_r [12] 1 a0) fun x19 =>
pm_b (g_r [12] 1 a0) fun x20 =>
pm_b (a_i 0 x20 7) fun x21 =>
pm_b (
if x21 ≤ 1 then (
pm_r (-1))
else (
pm_b (g_r [12] 1 a0) fun x24 =>
pm_b (a_i 0 x24 4) fun x25 =>
pm_b (g_r [12] 1 a0) fun x26 =>
pm_b (a_i 0 x26 8) fun x27 =>
pm_r (x25 - x27))) fun (v22 : Int32) =>
pm_b (pa_i 0 x19 9 v22) fun _ =>
pm_b (g_r [12] 1 a0) fun x28 =>
pm_b (g_r [12] 1 a0) fun x29 =>
pm_b (a_i 0 x29 4) fun x30 =>
pm_b (pa_i 0 x28 8 x30) fun _ =>
pm_r ())) fun (v15 : Unit) =>
pm_b (g_r [12] 1 a0) fun x31 =>
pm_b (a_i 0 x31 6) fun x32 =>
pm_b (
if x32 = 24 then (
pm_b (pm_lp (fun (s35 : Int32) =>
if (23 : Int32) ≤ s35 then (
pm_r (Sum.inr ()))
else (
pm_b (g_r [12] 1 a0) fun x38 =>
pm_b (g_r [12] 1 a0) fun x39 =>
pm_b (a_i 0 x39 ((10 + s35) + 1)) fun x40 =>
pm_b (pa_i 0 x38 (10 + s35) x40) fun _ =>
pm_r (Sum.inl (s35 + 1)))) 0) fun (v41 : Unit) =>
pm_b (g_r [12] 1 a0) fun x42 =>
pm_b (a_i 0 x42 6) fun x43 =>
pm_b (pa_i 0 x42 6 (x43 - 1)) fun _ =>
pm_r ())
else (
pm_r ())) fun (v33 : Unit) =>
pm_b (g_r [12] 1 a0) fun x44 =>
pm_b (g_r [12] 1 a0) fun x45 =>
pm_b (a_i 0 x45 6) fun x46 =>
pm_b (pa_i 0 x44 (10 + x46) x6) fun _ =>
pm_b (g_r [12] 1 a0) fun x47 =>
pm_b (a_i 0 x47 6) fun x48 =>
pm_b (pa_i 0 x47 6 (x48 + 1)) fun _ =>
pm_r ())
noncomputable def f_X4_stepsOn (g : sm_G) (a0 : Nat) (p0 : Int32) : PM Sto Unit :=
pm_b (pm_on 12 a0 (f_X4_laysOuts g a0)) fun _ =>
pm_b (pm_on 12 a0 (f_X4_laysRates g a0)) fun _ =>
pm_b (pm_lp (fun (s3 : Int32) =>
pm_b (g_r [12] 1 a0) fun x6 =>
pm_b (a_i 0 x6 0) fun x7 =>
if x7 ≤ s3 then (
pm_r (Sum.inr ()))
else (
pm_b (g_r [12] 11 a0) fun x8 =>
pm_b (pm_on 12 a0 (f_X4_of g a0 s3 3)) fun x9 =>
pm_b (pa_i 0 x8 s3 x9) fun _ =>
pm_r (Sum.inl (s3 + 1)))) 0) fun (v10 : Unit) =>
pm_b (g_r [12] 1 a0) fun x11 =>
pm_b (a_i 0 x11 2) fun x12 =>
pm_b (
if x12 = 1 then (
pm_b (pm_on 12 a0 (f_X4_charges g a0 2)) fun _ =>
pm_b (pm_on 12 a0 (f_X4_laysOuts g a0)) fun _ =>
pm_b (pm_on 12 a0 (f_X4_laysRates g a0)) fun _ =>
pm_r ())
else (
pm_r ())) fun (v13 : Unit) =>
pm_b (pm_on 12 a0 (f_X4_charges g a0 1)) fun _ =>
pm_b (pm_on 12 a0 (f_X4_laysOuts g a0)) fun _ =>
pm_b (g_r [12] 1 a0) fun x20 =>
pm_b (a_i 0 x20 4) fun x21 =>
pm_b (pa_i 0 x20 4 (x21 + 1)) fun _ =>
pm_b (pm_lp (fun (s22 : Int32) =>
pm_b (g_r [12] 1 a0) fun x25 =>
pm_b (a_i 0 x25 0) fun x26 =>
if x26 ≤ s22 then (
pm_r (Sum.inr ()))
else (
pm_b (g_r [12] 8 a0) fun x27 =>
pm_b (a_i 0 x27 s22) fun x28 =>
pm_b (f_X4_size g x28) fun x29 =>
pm_b (pm_on 12 a0 (f_X4_of g a0 s22 4)) fun x30 =>
pm_b (
if x29 ≤ x30 then (
pm_b (pm_on 12 a0 (f_X4_of g a0 s22 4)) fun x33 =>
pm_r x33)
else (
pm_b (g_r [12] 8 a0) fun x34 =>
pm_b (a_i 0 x34 s22) fun x35 =>
pm_b (f_X4_size g x35) fun x36 =>
pm_r x36)) fun (v31 : Int32) =>
pm_b (pm_on 12 a0 (f_X4_puts g a0 s22 4 v31)) fun _ =>
pm_r (Sum.inl (s22 + 1)))) 0) fun (v38 : Unit) =>
pm_b (pm_on 12 a0 (f_X4_notesRecord g a0)) fun _ =>
pm_b (g_r [12] 1 a0) fun x40 =>
pm_b (
if p0 = 0 then (
pm_b (g_r [12] 1 a0) fun x43 =>
pm_b (a_i 0 x43 1) fun x44 =>
pm_r x44)
else (
pm_b (g_i [12] 9 a0) fun x45 =>
if x45 = 0 then (
pm_b (g_r [12] 1 a0) fun x46 =>
pm_b (a_i 0 x46 1) fun x47 =>
pm_r x47)
else (
pm_r 2))) fun (v41 : Int32) =>
pm_b (pa_i 0 x40 1 v41) fun _ =>
pm_r ()
noncomputable def f_X4_passes (g : sm_G) (a0 : Nat) (p0 : Int32) : PM Sto Int32 :=
pm_b (pm_lp (fun (s1 : Int32 × Int32) =>
if p0 ≤ s1.2 then (
pm_r (Sum.inr s1.1))
else (
pm_b (g_r [12] 1 a0) fun x4 =>
pm_b (a_i 0 x4 1) fun x5 =>
if x5 = 1 then (
pm_b (g_r [12] 1 a0) fun x6 =>
pm_b (a_i 0 x6 3) fun x7 =>
pm_b (
if x7 = 1 then (
pm_r 1)
else (
pm_r 0)) fun (v8 : Int32) =>
pm_b (pm_on 12 a0 (f_X4_stepsOn g a0 v8)) fun _ =>
pm_r (Sum.inl (s1.1 + 1, s1.2 + 1)))
else (
pm_r (Sum.inr s1.1)))) (0, 0)) fun (v11 : Int32) =>
pm_r v11
noncomputable def f_X4_pass (g : sm_G) (a0 : Nat) (p0 : Int32) : PM Sto Int32 :=
pm_b (f_X4_within g p0 1 999) fun x1 =>
pm_b (
if x1 = 0 then (
pm_r 1)
else (
pm_b (pm_on 12 a0 (f_X4_canPass g a0 p0)) fun x4 =>
if x4 = 0 then (
pm_r 2)
else (
pm_r 0))) fun (v2 : Int32) =>
pm_b (p_f [12] 0 a0 (.int v2)) fun _ =>
pm_b (g_i [12] 0 a0) fun x5 =>
if x5 ≤ 0 then (
pm_b (pm_on 12 a0 (f_X4_saves g a0)) fun _ =>
pm_b (pm_on 12 a0 (f_X4_passes g a0 p0)) fun x7 =>
pm_r x7)
else (
pm_r 0)
noncomputable def f_X4_resets (g : sm_G) (a0 : Nat) : PM Sto Unit :=
pm_b (pm_lp (fun (s1 : Int32) =>
pm_b (g_r [12] 1 a0) fun x4 =>
pm_b (a_i 0 x4 0) fun x5 =>
if x5 ≤ s1 then (
pm_r (Sum.inr ()))
else (
pm_b (pm_on 12 a0 (f_X4_puts g a0 s1 4 0)) fun _ =>
pm_b (pm_on 12 a0 (f_X4_kind g a0 s1)) fun x7 =>
pm_b (
if x7 = 1 then (
pm_b (pm_on 12 a0 (f_X4_of g a0 s1 1)) fun x10 =>
pm_r (1000 * x10))
else (
pm_r 0)) fun (v8 : Int32) =>
pm_b (pm_on 12 a0 (f_X4_puts g a0 s1 3 v8)) fun _ =>
pm_r (Sum.inl (s1 + 1)))) 0) fun (v12 : Unit) =>
pm_r ()
noncomputable def f_X4_setMode (g : sm_G) (a0 : Nat) (p0 : Int32) : PM Sto Int32 :=
pm_b (f_X4_within g p0 0 2) fun x1 =>
pm_b (
if x1 = 0 then (
pm_r 1)
else (
pm_r 0)) fun (v2 : Int32) =>
pm_b (p_f [12] 0 a0 (.int v2)) fun _ =>
pm_b (g_i [12] 0 a0) fun x4 =>
if x4 ≤ 0 then (
pm_b (pm_on 12 a0 (f_X4_saves g a0)) fun _ =>
pm_b (g_r [12] 1 a0) fun x6 =>
pm_b (a_i 0 x6 1) fun x7 =>
pm_b (g_r [12] 1 a0) fun x8 =>
pm_b (pa_i 0 x8 1 p0) fun _ =>
pm_b (
if p0 = 0 then (
pm_b (pm_on 12 a0 (f_X4_resets g a0)) fun _ =>
pm_r ())
else (
pm_r ())) fun (v9 : Unit) =>
pm_r x7)
else (
pm_r 0)
noncomputable def f_X4_setWay (g : sm_G) (a0 : Nat) (p0 : Int32) : PM Sto Int32 :=
pm_b (f_X4_within g p0 0 1) fun x1 =>
pm_b (
if x1 = 0 then (
pm_r 1)
else (
pm_r 0)) fun (v2 : Int32) =>
pm_b (p_f [12] 0 a0 (.int v2)) fun _ =>
pm_b (g_i [12] 0 a0) fun x4 =>
if x4 ≤ 0 then (
pm_b (pm_on 12 a0 (f_X4_saves g a0)) fun _ =>
pm_b (g_r [12] 1 a0) fun x6 =>
pm_b (a_i 0 x6 2) fun x7 =>
pm_b (g_r [12] 1 a0) fun x8 =>
pm_b (pa_i 0 x8 2 p0) fun _ =>
pm_r x7)
else (
pm_r 0)
noncomputable def f_X4_turnGuard (g : sm_G) (a0 : Nat) : PM Sto Int32 :=
pm_b (p_f [12] 0 a0 (.int 0)) fun _ =>
pm_b (pm_on 12 a0 (f_X4_saves g a0)) fun _ =>
pm_b (g_r [12] 1 a0) fun x2 =>
pm_b (g_r [12] 1 a0) fun x3 =>
pm_b (a_i 0 x3 3) fun x4 =>
pm_b (pa_i 0 x2 3 (1 - x4)) fun _ =>
pm_b (g_r [12] 1 a0) fun x5 =>
pm_b (a_i 0 x5 3) fun x6 =>
pm_b (
if x6 = 1 then (
pm_r 1)
else (
pm_r 0)) fun (v7 : Int32) =>
pm_b (pm_z v7) fun x9 =>
pm_r x9
noncomputable def f_X4_record (g : sm_G) (a0 : Nat) (p0 : Int32) : PM Sto Int32 :=
pm_b (
if p0 = (-1) then (
pm_r 0)
else (
pm_b (pm_on 12 a0 (f_X4_isModule g a0 p0)) fun x3 =>
if x3 = 0 then (
pm_r 1)
else (
pm_r 0))) fun (v1 : Int32) =>
pm_b (p_f [12] 0 a0 (.int v1)) fun _ =>
pm_b (g_i [12] 0 a0) fun x4 =>
if x4 ≤ 0 then (
pm_b (pm_on 12 a0 (f_X4_saves g a0)) fun _ =>
pm_b (g_r [12] 1 a0) fun x6 =>
pm_b (a_i 0 x6 5) fun x7 =>
pm_b (g_r [12] 1 a0) fun x8 =>
pm_b (pa_i 0 x8 5 p0) fun _ =>
pm_b (pm_lp (fun (s9 : Int32) =>
if (24 : Int32) ≤ s9 then (
pm_r (Sum.inr ()))
else (
pm_b (g_r [12] 1 a0) fun x12 =>
pm_b (pa_i 0 x12 (10 + s9) 0) fun _ =>
pm_r (Sum.inl (s9 + 1)))) 0) fun (v13 : Unit) =>
pm_b (g_r [12] 1 a0) fun x14 =>
pm_b (pa_i 0 x14 6 0) fun _ =>
pm_b (g_r [12] 1 a0) fun x15 =>
pm_b (pa_i 0 x15 7 0) fun _ =>
pm_b (g_r [12] 1 a0) fun x16 =>
pm_b (pa_i 0 x16 8 (-1)) fun _ =>
pm_b (g_r [12] 1 a0) fun x17 =>
pm_b (pa_i 0 x17 9 (-1)) fun _ =>
pm_r x7)
else (
pm_r 0)
noncomputable def f_X4_tells (g : sm_G) (a0 : Nat) (p0 : Int32) : PM Sto Int32 :=
pm_b (p_f [12] 0 a0 (.int 0)) fun _ =>
pm_r p0
noncomputable def f_X4_modules (g : sm_G) (a0 : Nat) : PM Sto Int32 :=
pm_b (g_r [12] 1 a0) fun x1 =>
pm_b (a_i 0 x1 0) fun x2 =>
pm_b (pm_on 12 a0 (f_X4_tells g a0 x2)) fun x3 =>
pm_r x3
noncomputable def f_X4_asks (g : sm_G) (a0 : Nat) (p0 : Int32) : PM Sto Int32 :=
pm_b (pm_on 12 a0 (f_X4_isModule g a0 p0)) fun x1 =>
pm_b (
if x1 = 0 then (
pm_r 1)
else (
pm_r 0)) fun (v2 : Int32) =>
pm_b (p_f [12] 0 a0 (.int v2)) fun _ =>
pm_b (g_i [12] 0 a0) fun x4 =>
pm_b (
if x4 = 0 then (
pm_r 1)
else (
pm_r 0)) fun (v5 : Int32) =>
pm_b (pm_z v5) fun x7 =>
pm_r x7
noncomputable def f_X4_kindOf (g : sm_G) (a0 : Nat) (p0 : Int32) : PM Sto Int32 :=
pm_b (pm_on 12 a0 (f_X4_asks g a0 p0)) fun x1 =>
pm_b (
if x1 = 0 then (
pm_r 0)
else (
pm_b (pm_on 12 a0 (f_X4_kind g a0 p0)) fun x4 =>
pm_r x4)) fun (v2 : Int32) =>
pm_r v2
noncomputable def f_X4_inputsOf (g : sm_G) (a0 : Nat) (p0 : Int32) : PM Sto Int32 :=
pm_b (pm_on 12 a0 (f_X4_asks g a0 p0)) fun x1 =>
pm_b (
if x1 = 0 then (
pm_r 0)
else (
pm_b (pm_on 12 a0 (f_X4_kind g a0 p0)) fun x4 =>
pm_b (f_X4_inputsOfKind g x4) fun x5 =>
pm_r x5)) fun (v2 : Int32) =>
pm_r v2
noncomputable def f_X4_asksInput (g : sm_G) (a0 : Nat) (p0 : Int32) (p1 : Int32) : PM Sto Int32 :=
pm_b (pm_on 12 a0 (f_X4_isInput g a0 p0 p1)) fun x1 =>
pm_b (
if x1 = 0 then (
pm_r 1)
else (
pm_r 0)) fun (v2 : Int32) =>
pm_b (p_f [12] 0 a0 (.int v2)) fun _ =>
pm_b (g_i [12] 0 a0) fun x4 =>
pm_b (
if x4 = 0 then (
pm_r 1)
else (
pm_r 0)) fun (v5 : Int32) =>
pm_b (pm_z v5) fun x7 =>
pm_r x7
noncomputable def f_X4_cordIn (g : sm_G) (a0 : Nat) (p0 : Int32) (p1 : Int32) : PM Sto Int32 :=
pm_b (pm_on 12 a0 (f_X4_asksInput g a0 p0 p1)) fun x1 =>
pm_b (
if x1 = 0 then (
pm_r 0)
else (
pm_b (pm_on 12 a0 (f_X4_of g a0 p0 (5 + p1))) fun x4 =>
pm_r x4)) fun (v2 : Int32) =>
pm_r v2
noncomputable def f_X4_weightOf (g : sm_G) (a0 : Nat) (p0 : Int32) (p1 : Int32) : PM Sto Int32 :=
pm_b (pm_on 12 a0 (f_X4_whyNoWeight g a0 p0 p1)) fun x1 =>
pm_b (p_f [12] 0 a0 (.int x1)) fun _ =>
pm_b (g_i [12] 0 a0) fun x2 =>
pm_b (
if x2 ≤ 0 then (
pm_b (pm_on 12 a0 (f_X4_of g a0 p0 (9 + p1))) fun x5 =>
pm_r x5)
else (
pm_r 0)) fun (v3 : Int32) =>
pm_r v3
noncomputable def f_X4_settingOf (g : sm_G) (a0 : Nat) (p0 : Int32) : PM Sto Int32 :=
pm_b (pm_on 12 a0 (f_X4_asks g a0 p0)) fun x1 =>
pm_b (
if x1 = 0 then (
pm_r 0)
else (
pm_b (pm_on 12 a0 (f_X4_of g a0 p0 1)) fun x4 =>
pm_r x4)) fun (v2 : Int32) =>
pm_r v2
noncomputable def f_X4_asksIntegrator (g : sm_G) (a0 : Nat) (p0 : Int32) : PM Sto Int32 :=
pm_b (pm_on 12 a0 (f_X4_isModule g a0 p0)) fun x1 =>
pm_b (
if x1 = 0 then (
pm_r 1)
else (
pm_b (pm_on 12 a0 (f_X4_kind g a0 p0)) fun x4 =>
if x4 = 1 then (
pm_r 0)
else (
pm_r 2))) fun (v2 : Int32) =>
pm_b (p_f [12] 0 a0 (.int v2)) fun _ =>
pm_b (g_i [12] 0 a0) fun x5 =>
pm_b (
if x5 = 0 then (
pm_r 1)
else (
pm_r 0)) fun (v6 : Int32) =>
pm_b (pm_z v6) fun x8 =>
pm_r x8
noncomputable def f_X4_speedOf (g : sm_G) (a0 : Nat) (p0 : Int32) : PM Sto Int32 :=
pm_b (pm_on 12 a0 (f_X4_asksIntegrator g a0 p0)) fun x1 =>
pm_b (
if x1 = 0 then (
pm_r 0)
else (
pm_b (pm_on 12 a0 (f_X4_of g a0 p0 2)) fun x4 =>
pm_r x4)) fun (v2 : Int32) =>
pm_r v2
noncomputable def f_X4_manyCords (g : sm_G) (a0 : Nat) : PM Sto Int32 :=
pm_b (pm_lp (fun (s1 : Int32 × Int32) =>
pm_b (g_r [12] 1 a0) fun x4 =>
pm_b (a_i 0 x4 0) fun x5 =>
if x5 ≤ s1.2 then (
pm_r (Sum.inr s1.1))
else (
pm_b (pm_lp (fun (s6 : Int32 × Int32) =>
if (4 : Int32) ≤ s6.2 then (
pm_r (Sum.inr s6.1))
else (
pm_b (pm_on 12 a0 (f_X4_of g a0 s1.2 (5 + s6.2))) fun x9 =>
pm_b (
if x9 = (-1) then (
pm_r 0)
else (
pm_r 1)) fun (v10 : Int32) =>
pm_b (pm_r (s6.1 + v10)) fun x12 =>
pm_r (Sum.inl (x12, s6.2 + 1)))) (s1.1, 0)) fun (v13 : Int32) =>
pm_r (Sum.inl (v13, s1.2 + 1)))) (0, 0)) fun (v14 : Int32) =>
pm_r v14
noncomputable def f_X4_cords (g : sm_G) (a0 : Nat) : PM Sto Int32 :=
pm_b (pm_on 12 a0 (f_X4_manyCords g a0)) fun x1 =>
pm_b (pm_on 12 a0 (f_X4_tells g a0 x1)) fun x2 =>
pm_r x2
noncomputable def f_X4_mode (g : sm_G) (a0 : Nat) : PM Sto Int32 :=
pm_b (g_r [12] 1 a0) fun x1 =>
pm_b (a_i 0 x1 1) fun x2 =>
pm_b (pm_on 12 a0 (f_X4_tells g a0 x2)) fun x3 =>
pm_r x3
noncomputable def f_X4_way (g : sm_G) (a0 : Nat) : PM Sto Int32 :=
pm_b (g_r [12] 1 a0) fun x1 =>
pm_b (a_i 0 x1 2) fun x2 =>
pm_b (pm_on 12 a0 (f_X4_tells g a0 x2)) fun x3 =>
pm_r x3
noncomputable def f_X4_isGuarded (g : sm_G) (a0 : Nat) : PM Sto Int32 :=
pm_b (p_f [12] 0 a0 (.int 0)) fun _ =>
pm_b (g_r [12] 1 a0) fun x1 =>
pm_b (a_i 0 x1 3) fun x2 =>
pm_b (
if x2 = 1 then (
pm_r 1)
else (
pm_r 0)) fun (v3 : Int32) =>
pm_b (pm_z v3) fun x5 =>
pm_r x5
noncomputable def f_X4_steps (g : sm_G) (a0 : Nat) : PM Sto Int32 :=
pm_b (g_r [12] 1 a0) fun x1 =>
pm_b (a_i 0 x1 4) fun x2 =>
pm_b (pm_on 12 a0 (f_X4_tells g a0 x2)) fun x3 =>
pm_r x3
noncomputable def f_X4_output (g : sm_G) (a0 : Nat) (p0 : Int32) : PM Sto Int32 :=
pm_b (pm_on 12 a0 (f_X4_laysOuts g a0)) fun _ =>
pm_b (g_r [12] 8 a0) fun x2 =>
pm_b (a_i 0 x2 p0) fun x3 =>
pm_r x3
noncomputable def f_X4_outputOf (g : sm_G) (a0 : Nat) (p0 : Int32) : PM Sto Int32 :=
pm_b (pm_on 12 a0 (f_X4_asks g a0 p0)) fun x1 =>
pm_b (
if x1 = 0 then (
pm_r 0)
else (
pm_b (pm_on 12 a0 (f_X4_output g a0 p0)) fun x4 =>
pm_r x4)) fun (v2 : Int32) =>
pm_r v2
noncomputable def f_X4_outputByAsking (g : sm_G) (a0 : Nat) (p0 : Int32) : PM Sto Int32 :=
pm_b (pm_on 12 a0 (f_X4_asks g a0 p0)) fun x1 =>
pm_b (
if x1 = 0 then (
pm_r 0)
else (
pm_b (pm_on 12 a0 (f_X4_output g a0 p0)) fun x4 =>
pm_r x4)) fun (v2 : Int32) =>
pm_r v2
noncomputable def f_X4_inputNow (g : sm_G) (a0 : Nat) (p0 : Int32) (p1 : Int32) : PM Sto Int32 :=
pm_b (pm_on 12 a0 (f_X4_laysOuts g a0)) fun _ =>
pm_b (pm_on 12 a0 (f_X4_in g a0 p0 p1)) fun x2 =>
pm_r x2
noncomputable def f_X4_inputOf (g : sm_G) (a0 : Nat) (p0 : Int32) (p1 : Int32) : PM Sto Int32 :=
pm_b (pm_on 12 a0 (f_X4_asksInput g a0 p0 p1)) fun x1 =>
pm_b (
if x1 = 0 then (
pm_r 0)
else (
pm_b (pm_on 12 a0 (f_X4_inputNow g a0 p0 p1)) fun x4 =>
pm_r x4)) fun (v2 : Int32) =>
pm_r v2
noncomputable def f_X4_chargeOf (g : sm_G) (a0 : Nat) (p0 : Int32) : PM Sto Int32 :=
pm_b (pm_on 12 a0 (f_X4_asksIntegrator g a0 p0)) fun x1 =>
pm_b (
if x1 = 0 then (
pm_r 0)
else (
pm_b (pm_on 12 a0 (f_X4_of g a0 p0 3)) fun x4 =>
pm_r x4)) fun (v2 : Int32) =>
pm_r v2
noncomputable def f_X4_rateNow (g : sm_G) (a0 : Nat) (p0 : Int32) : PM Sto Int32 :=
pm_b (pm_on 12 a0 (f_X4_laysOuts g a0)) fun _ =>
pm_b (pm_on 12 a0 (f_X4_rate g a0 p0)) fun x2 =>
pm_r x2
noncomputable def f_X4_rateOf (g : sm_G) (a0 : Nat) (p0 : Int32) : PM Sto Int32 :=
pm_b (pm_on 12 a0 (f_X4_asksIntegrator g a0 p0)) fun x1 =>
pm_b (
if x1 = 0 then (
pm_r 0)
else (
pm_b (pm_on 12 a0 (f_X4_rateNow g a0 p0)) fun x4 =>
pm_r x4)) fun (v2 : Int32) =>
pm_r v2
noncomputable def f_X4_overNow (g : sm_G) (a0 : Nat) : PM Sto Int32 :=
pm_b (pm_on 12 a0 (f_X4_laysOuts g a0)) fun _ =>
pm_b (g_i [12] 9 a0) fun x2 =>
pm_r x2
noncomputable def f_X4_overloaded (g : sm_G) (a0 : Nat) : PM Sto Int32 :=
pm_b (pm_on 12 a0 (f_X4_overNow g a0)) fun x1 =>
pm_b (pm_on 12 a0 (f_X4_tells g a0 x1)) fun x2 =>
pm_r x2
noncomputable def f_X4_peakOf (g : sm_G) (a0 : Nat) (p0 : Int32) : PM Sto Int32 :=
pm_b (pm_on 12 a0 (f_X4_asks g a0 p0)) fun x1 =>
pm_b (
if x1 = 0 then (
pm_r 0)
else (
pm_b (pm_on 12 a0 (f_X4_of g a0 p0 4)) fun x4 =>
pm_r x4)) fun (v2 : Int32) =>
pm_r v2
noncomputable def f_X4_scale (g : sm_G) (a0 : Nat) (p0 : Int32) : PM Sto Int32 :=
pm_b (pm_on 12 a0 (f_X4_of g a0 p0 4)) fun x1 =>
pm_b (
if x1 = 0 then (
pm_r (-1))
else (
pm_b (pm_on 12 a0 (f_X4_of g a0 p0 4)) fun x4 =>
pm_b (pm_dv 10000000 x4) fun x5 =>
pm_r x5)) fun (v2 : Int32) =>
pm_r v2
noncomputable def f_X4_scaleOf (g : sm_G) (a0 : Nat) (p0 : Int32) : PM Sto Int32 :=
pm_b (pm_on 12 a0 (f_X4_asks g a0 p0)) fun x1 =>
pm_b (
if x1 = 0 then (
pm_r 0)
else (
pm_b (pm_on 12 a0 (f_X4_scale g a0 p0)) fun x4 =>
pm_r x4)) fun (v2 : Int32) =>
pm_r v2
noncomputable def f_X4_level (g : sm_G) (a0 : Nat) (p0 : Int32) : PM Sto Int32 :=
pm_b (pm_on 12 a0 (f_X4_laysLevels g a0)) fun _ =>
pm_b (g_r [12] 7 a0) fun x2 =>
pm_b (a_i 0 x2 p0) fun x3 =>
pm_r x3
noncomputable def f_X4_levelOf (g : sm_G) (a0 : Nat) (p0 : Int32) : PM Sto Int32 :=
pm_b (pm_on 12 a0 (f_X4_asks g a0 p0)) fun x1 =>
pm_b (
if x1 = 0 then (
pm_r 0)
else (
pm_b (pm_on 12 a0 (f_X4_level g a0 p0)) fun x4 =>
pm_r x4)) fun (v2 : Int32) =>
pm_r v2
noncomputable def f_X4_feeders (g : sm_G) (a0 : Nat) (p0 : Int32) : PM Sto Int32 :=
pm_b (pm_on 12 a0 (f_X4_asks g a0 p0)) fun x1 =>
pm_b (
if x1 = 0 then (
pm_r 0)
else (
pm_b (pm_on 12 a0 (f_X4_feedersOf g a0 p0)) fun x4 =>
pm_r x4)) fun (v2 : Int32) =>
pm_r v2
noncomputable def f_X4_dependsOn (g : sm_G) (a0 : Nat) (p0 : Int32) : PM Sto Int32 :=
pm_b (pm_on 12 a0 (f_X4_asks g a0 p0)) fun x1 =>
pm_b (
if x1 = 0 then (
pm_r 0)
else (
pm_b (pm_on 12 a0 (f_X4_depends g a0 p0 1)) fun x4 =>
pm_r x4)) fun (v2 : Int32) =>
pm_r v2
noncomputable def f_X4_dependsByTable (g : sm_G) (a0 : Nat) (p0 : Int32) : PM Sto Int32 :=
pm_b (pm_on 12 a0 (f_X4_asks g a0 p0)) fun x1 =>
pm_b (
if x1 = 0 then (
pm_r 0)
else (
pm_b (pm_on 12 a0 (f_X4_depends g a0 p0 1)) fun x4 =>
pm_r x4)) fun (v2 : Int32) =>
pm_r v2
noncomputable def f_X4_circling (g : sm_G) (a0 : Nat) : PM Sto Int32 :=
pm_b (pm_lp (fun (s1 : Int32 × Int32) =>
pm_b (g_r [12] 1 a0) fun x4 =>
pm_b (a_i 0 x4 0) fun x5 =>
if x5 ≤ s1.2 then (
pm_r (Sum.inr s1.1))
else (
pm_b (pm_on 12 a0 (f_X4_depends g a0 s1.2 1)) fun x6 =>
pm_b (f_X4_has g x6 s1.2) fun x7 =>
pm_b (
if x7 = 0 then (
pm_r 0)
else (
pm_r ((1 : Int32) <<< (s1.2 &&& 31)))) fun (v8 : Int32) =>
pm_b (pm_r (s1.1 ||| v8)) fun x10 =>
pm_r (Sum.inl (x10, s1.2 + 1)))) (0, 0)) fun (v11 : Int32) =>
pm_r v11
noncomputable def f_X4_inCircles (g : sm_G) (a0 : Nat) : PM Sto Int32 :=
pm_b (pm_on 12 a0 (f_X4_circling g a0)) fun x1 =>
pm_b (pm_on 12 a0 (f_X4_tells g a0 x1)) fun x2 =>
pm_r x2
noncomputable def f_X4_endSet (g : sm_G) (a0 : Nat) : PM Sto Int32 :=
pm_b (g_r [12] 1 a0) fun x1 =>
pm_b (a_i 0 x1 0) fun x2 =>
pm_b (pm_r (((1 : Int32) <<< (x2 &&& 31)) - 1)) fun x3 =>
pm_b (pm_lp (fun (s4 : Int32 × Int32) =>
pm_b (g_r [12] 1 a0) fun x7 =>
pm_b (a_i 0 x7 0) fun x8 =>
if x8 ≤ s4.2 then (
pm_r (Sum.inr s4.1))
else (
pm_b (pm_on 12 a0 (f_X4_feedersOf g a0 s4.2)) fun x9 =>
pm_b (pm_r (s4.1 &&& (x9 ^^^ (-1)))) fun x10 =>
pm_r (Sum.inl (x10, s4.2 + 1)))) (x3, 0)) fun (v11 : Int32) =>
pm_r v11
noncomputable def f_X4_ends (g : sm_G) (a0 : Nat) : PM Sto Int32 :=
pm_b (pm_on 12 a0 (f_X4_endSet g a0)) fun x1 =>
pm_b (pm_on 12 a0 (f_X4_tells g a0 x1)) fun x2 =>
pm_r x2
noncomputable def f_X4_recorded (g : sm_G) (a0 : Nat) : PM Sto Int32 :=
pm_b (g_r [12] 1 a0) fun x1 =>
pm_b (a_i 0 x1 5) fun x2 =>
pm_b (pm_on 12 a0 (f_X4_tells g a0 x2)) fun x3 =>
pm_r x3
noncomputable def f_X4_records (g : sm_G) (a0 : Nat) : PM Sto Int32 :=
pm_b (g_r [12] 1 a0) fun x1 =>
pm_b (a_i 0 x1 6) fun x2 =>
pm_b (pm_on 12 a0 (f_X4_tells g a0 x2)) fun x3 =>
pm_r x3
noncomputable def f_X4_recordAt (g : sm_G) (a0 : Nat) (p0 : Int32) : PM Sto Int32 :=
pm_b (g_r [12] 1 a0) fun x1 =>
pm_b (a_i 0 x1 6) fun x2 =>
pm_b (f_X4_within g p0 0 (x2 - 1)) fun x3 =>
pm_b (
if x3 = 0 then (
pm_r 1)
else (
pm_r 0)) fun (v4 : Int32) =>
pm_b (p_f [12] 0 a0 (.int v4)) fun _ =>
pm_b (g_i [12] 0 a0) fun x6 =>
pm_b (
if x6 ≤ 0 then (
pm_b (g_r [12] 1 a0) fun x9 =>
pm_b (g_r [12] 1 a0) fun x10 =>
pm_b (a_i 0 x10 6) fun x11 =>
pm_b (a_i 0 x9 (((10 + x11) - 1) - p0)) fun x12 =>
pm_r x12)
else (
pm_r 0)) fun (v7 : Int32) =>
pm_r v7
noncomputable def f_X4_crossings (g : sm_G) (a0 : Nat) : PM Sto Int32 :=
pm_b (g_r [12] 1 a0) fun x1 =>
pm_b (a_i 0 x1 7) fun x2 =>
pm_b (pm_on 12 a0 (f_X4_tells g a0 x2)) fun x3 =>
pm_r x3
noncomputable def f_X4_beat (g : sm_G) (a0 : Nat) : PM Sto Int32 :=
pm_b (g_r [12] 1 a0) fun x1 =>
pm_b (a_i 0 x1 9) fun x2 =>
pm_b (pm_on 12 a0 (f_X4_tells g a0 x2)) fun x3 =>
pm_r x3
noncomputable def f_X4_mean (g : sm_G) (a0 : Nat) : PM Sto UInt64 :=
pm_b (pm_lp (fun (s1 : Int32 × Int32) =>
pm_b (g_r [12] 1 a0) fun x4 =>
pm_b (a_i 0 x4 6) fun x5 =>
if x5 ≤ s1.2 then (
pm_r (Sum.inr s1.1))
else (
pm_b (g_r [12] 1 a0) fun x6 =>
pm_b (a_i 0 x6 (10 + s1.2)) fun x7 =>
pm_b (pm_r (s1.1 + x7)) fun x8 =>
pm_r (Sum.inl (x8, s1.2 + 1)))) (0, 0)) fun (v9 : Int32) =>
pm_b (g_r [12] 1 a0) fun x10 =>
pm_b (a_i 0 x10 6) fun x11 =>
pm_b (
if x11 = 0 then (
pm_r FP.dconst0)
else (
pm_b (g_r [12] 1 a0) fun x14 =>
pm_b (a_i 0 x14 6) fun x15 =>
pm_b (pm_dd (FP.i2d v9) (FP.i2d x15)) fun x16 =>
pm_r x16)) fun (v12 : UInt64) =>
pm_r v12
noncomputable def f_X4_meanRecord (g : sm_G) (a0 : Nat) : PM Sto UInt64 :=
pm_b (p_f [12] 0 a0 (.int 0)) fun _ =>
pm_b (pm_on 12 a0 (f_X4_mean g a0)) fun x1 =>
pm_r x1
noncomputable def f_X4_wouldCircle (g : sm_G) (a0 : Nat) (p0 : Int32) (p1 : Int32) : PM Sto Int32 :=
pm_b (pm_on 12 a0 (f_X4_isModule g a0 p0)) fun x1 =>
pm_b (
if x1 = 0 then (
pm_r 1)
else (
pm_b (pm_on 12 a0 (f_X4_isModule g a0 p1)) fun x4 =>
if x4 = 0 then (
pm_r 1)
else (
pm_r 0))) fun (v2 : Int32) =>
pm_b (p_f [12] 0 a0 (.int v2)) fun _ =>
pm_b (g_i [12] 0 a0) fun x5 =>
pm_b (
if x5 = 0 then (
pm_b (pm_on 12 a0 (f_X4_circles g a0 p0 p1)) fun x8 =>
if x8 = 0 then (
pm_r 0)
else (
pm_r 1))
else (
pm_r 0)) fun (v6 : Int32) =>
pm_b (pm_z v6) fun x9 =>
pm_r x9
noncomputable def f_X4_keeps (g : sm_G) (a0 : Nat) : PM Sto Unit :=
pm_b (pm_lp (fun (s1 : Int32) =>
if (242 : Int32) ≤ s1 then (
pm_r (Sum.inr ()))
else (
pm_b (g_r [12] 6 a0) fun x4 =>
pm_b (g_r [12] 1 a0) fun x5 =>
pm_b (a_i 0 x5 s1) fun x6 =>
pm_b (pa_i 0 x4 s1 x6) fun _ =>
pm_r (Sum.inl (s1 + 1)))) 0) fun (v7 : Unit) =>
pm_r ()
noncomputable def f_X4_returns (g : sm_G) (a0 : Nat) : PM Sto Unit :=
pm_b (pm_lp (fun (s1 : Int32) =>
if (242 : Int32) ≤ s1 then (
pm_r (Sum.inr ()))
else (
pm_b (g_r [12] 1 a0) fun x4 =>
pm_b (g_r [12] 6 a0) fun x5 =>
pm_b (a_i 0 x5 s1) fun x6 =>
pm_b (pa_i 0 x4 s1 x6) fun _ =>
pm_r (Sum.inl (s1 + 1)))) 0) fun (v7 : Unit) =>
pm_r ()
noncomputable def f_X4_outputThen (g : sm_G) (a0 : Nat) (p0 : Int32) (p1 : Int32) : PM Sto Int32 :=
pm_b (pm_on 12 a0 (f_X4_keeps g a0)) fun _ =>
pm_b (g_r [12] 1 a0) fun x2 =>
pm_b (pa_i 0 x2 1 1) fun _ =>
pm_b (pm_on 12 a0 (f_X4_passes g a0 p1)) fun x3 =>
pm_b (pm_on 12 a0 (f_X4_output g a0 p0)) fun x4 =>
pm_b (pm_on 12 a0 (f_X4_returns g a0)) fun _ =>
pm_r x4
noncomputable def f_X4_outputIn (g : sm_G) (a0 : Nat) (p0 : Int32) (p1 : Int32) : PM Sto Int32 :=
pm_b (pm_on 12 a0 (f_X4_isModule g a0 p0)) fun x1 =>
pm_b (
if x1 = 0 then (
pm_r 1)
else (
pm_b (f_X4_within g p1 1 200) fun x4 =>
if x4 = 0 then (
pm_r 2)
else (
pm_r 0))) fun (v2 : Int32) =>
pm_b (p_f [12] 0 a0 (.int v2)) fun _ =>
pm_b (g_i [12] 0 a0) fun x5 =>
pm_b (
if x5 ≤ 0 then (
pm_b (pm_on 12 a0 (f_X4_outputThen g a0 p0 p1)) fun x8 =>
pm_r x8)
else (
pm_r 0)) fun (v6 : Int32) =>
pm_r v6
noncomputable def f_X4_untilOver (g : sm_G) (a0 : Nat) : PM Sto Int32 :=
pm_b (pm_on 12 a0 (f_X4_keeps g a0)) fun _ =>
pm_b (pm_on 12 a0 (f_X4_laysOuts g a0)) fun _ =>
pm_b (pm_lp (fun (s3 : Int32) =>
pm_b (g_i [12] 9 a0) fun x6 =>
if x6 = 0 then (
if (200 : Int32) ≤ s3 then (
pm_r (Sum.inr s3))
else (
pm_b (pm_on 12 a0 (f_X4_stepsOn g a0 0)) fun _ =>
pm_r (Sum.inl (s3 + 1))))
else (
pm_r (Sum.inr s3))) 0) fun (v8 : Int32) =>
pm_b (g_i [12] 9 a0) fun x9 =>
pm_b (
if x9 = 0 then (
pm_r 0)
else (
pm_r 1)) fun (v10 : Int32) =>
pm_b (pm_on 12 a0 (f_X4_returns g a0)) fun _ =>
pm_b (
if v10 = 0 then (
pm_r (-1))
else (
pm_r v8)) fun (v13 : Int32) =>
pm_r v13
noncomputable def f_X4_stepsUntilOverload (g : sm_G) (a0 : Nat) : PM Sto Int32 :=
pm_b (pm_on 12 a0 (f_X4_untilOver g a0)) fun x1 =>
pm_b (pm_on 12 a0 (f_X4_tells g a0 x1)) fun x2 =>
pm_r x2
noncomputable def f_X4_best (g : sm_G) (a0 : Nat) (p0 : Int32) (p1 : Int32) (p2 : Int32) : PM Sto Int32 :=
pm_b (pm_on 12 a0 (f_X4_of g a0 p0 1)) fun x1 =>
pm_b (pm_lp (fun (s2 : Int32 × Int32 × Int32) =>
if (1000 : Int32) < s2.2.2 then (
pm_r (Sum.inr s2.1))
else (
pm_b (pm_on 12 a0 (f_X4_puts g a0 p0 1 s2.2.2)) fun _ =>
pm_b (pm_on 12 a0 (f_X4_outputThen g a0 p1 20)) fun x6 =>
pm_b (f_X4_size g x6) fun x7 =>
pm_b (f_X4_size g (x7 - p2)) fun x8 =>
pm_b (
if s2.1 = (-1) then (
pm_r s2.2.2)
else (
if s2.2.1 ≤ x8 then (
pm_r s2.1)
else (
pm_r s2.2.2))) fun (v9 : Int32) =>
pm_b (
if v9 = s2.2.2 then (
pm_r x8)
else (
pm_r s2.2.1)) fun (v11 : Int32) =>
pm_r (Sum.inl (v9, v11, s2.2.2 + 50)))) ((-1), 0, 0)) fun (v13 : Int32) =>
pm_b (pm_on 12 a0 (f_X4_puts g a0 p0 1 x1)) fun _ =>
pm_r v13
noncomputable def f_X4_bestFactor (g : sm_G) (a0 : Nat) (p0 : Int32) (p1 : Int32) (p2 : Int32) : PM Sto Int32 :=
pm_b (pm_on 12 a0 (f_X4_isModule g a0 p0)) fun x1 =>
pm_b (
if x1 = 0 then (
pm_r 1)
else (
pm_b (pm_on 12 a0 (f_X4_isModule g a0 p1)) fun x4 =>
if x4 = 0 then (
pm_r 1)
else (
pm_b (pm_on 12 a0 (f_X4_kind g a0 p0)) fun x5 =>
if x5 = 2 then (
pm_b (f_X4_within g p2 0 10000) fun x6 =>
if x6 = 0 then (
pm_r 2)
else (
pm_r 0))
else (
pm_r 2)))) fun (v2 : Int32) =>
pm_b (p_f [12] 0 a0 (.int v2)) fun _ =>
pm_b (g_i [12] 0 a0) fun x7 =>
pm_b (
if x7 ≤ 0 then (
pm_b (pm_on 12 a0 (f_X4_best g a0 p0 p1 p2)) fun x10 =>
pm_r x10)
else (
pm_r 0)) fun (v8 : Int32) =>
pm_r v8
noncomputable def f_X4_keep (g : sm_G) (a0 : Nat) : PM Sto Int32 :=
pm_b (p_f [12] 0 a0 (.int 0)) fun _ =>
pm_b (p_f [12] 5 a0 (.int 1)) fun _ =>
pm_b (pm_lp (fun (s1 : Int32) =>
if (242 : Int32) ≤ s1 then (
pm_r (Sum.inr ()))
else (
pm_b (g_r [12] 4 a0) fun x4 =>
pm_b (g_r [12] 1 a0) fun x5 =>
pm_b (a_i 0 x5 s1) fun x6 =>
pm_b (pa_i 0 x4 s1 x6) fun _ =>
pm_r (Sum.inl (s1 + 1)))) 0) fun (v7 : Unit) =>
pm_b (g_r [12] 1 a0) fun x8 =>
pm_b (a_i 0 x8 0) fun x9 =>
pm_r x9
noncomputable def f_X4_goBack (g : sm_G) (a0 : Nat) : PM Sto Int32 :=
pm_b (g_i [12] 5 a0) fun x1 =>
pm_b (
if x1 = 0 then (
pm_r 1)
else (
pm_r 0)) fun (v2 : Int32) =>
pm_b (p_f [12] 0 a0 (.int v2)) fun _ =>
pm_b (g_i [12] 0 a0) fun x4 =>
if x4 ≤ 0 then (
pm_b (pm_on 12 a0 (f_X4_saves g a0)) fun _ =>
pm_b (pm_lp (fun (s6 : Int32) =>
if (242 : Int32) ≤ s6 then (
pm_r (Sum.inr ()))
else (
pm_b (g_r [12] 1 a0) fun x9 =>
pm_b (g_r [12] 4 a0) fun x10 =>
pm_b (a_i 0 x10 s6) fun x11 =>
pm_b (pa_i 0 x9 s6 x11) fun _ =>
pm_r (Sum.inl (s6 + 1)))) 0) fun (v12 : Unit) =>
pm_b (g_r [12] 1 a0) fun x13 =>
pm_b (a_i 0 x13 0) fun x14 =>
pm_r x14)
else (
pm_r 0)
noncomputable def f_X4_append (g : sm_G) (a0 : Nat) (p0 : Int32) : PM Sto Int32 :=
pm_b (f_X4_within g p0 33 126) fun x1 =>
pm_b (
if x1 = 0 then (
pm_r 1)
else (
pm_b (g_i [12] 13 a0) fun x4 =>
if x4 = 60 then (
pm_r 2)
else (
pm_r 0))) fun (v2 : Int32) =>
pm_b (p_f [12] 0 a0 (.int v2)) fun _ =>
pm_b (g_i [12] 0 a0) fun x5 =>
if x5 ≤ 0 then (
pm_b (g_r [12] 12 a0) fun x6 =>
pm_b (g_i [12] 13 a0) fun x7 =>
pm_b (pa_i 0 x6 x7 p0) fun _ =>
pm_b (g_i [12] 13 a0) fun x8 =>
pm_b (p_f [12] 13 a0 (.int (x8 + 1))) fun _ =>
pm_b (g_i [12] 13 a0) fun x9 =>
pm_r x9)
else (
pm_r 0)
noncomputable def f_X4_clearText (g : sm_G) (a0 : Nat) : PM Sto Int32 :=
pm_b (p_f [12] 0 a0 (.int 0)) fun _ =>
pm_b (g_i [12] 13 a0) fun x1 =>
pm_b (p_f [12] 13 a0 (.int 0)) fun _ =>
pm_r x1
noncomputable def f_X4_accepts (g : sm_G) (a0 : Nat) (p0 : Int32) (p1 : Int32) : PM Sto Int32 :=
pm_b (g_i [12] 14 a0) fun x1 =>
pm_b (g_i [12] 13 a0) fun x2 =>
pm_b (
if x2 ≤ x1 then (
pm_r 0)
else (
pm_b (g_r [12] 12 a0) fun x5 =>
pm_b (g_i [12] 14 a0) fun x6 =>
pm_b (a_i 0 x5 x6) fun x7 =>
pm_b (f_X4_within g x7 p0 p1) fun x8 =>
if x8 = 0 then (
pm_r 0)
else (
pm_r 1))) fun (v3 : Int32) =>
pm_b (g_i [12] 14 a0) fun x9 =>
pm_b (
if v3 = 0 then (
pm_r 0)
else (
pm_r 1)) fun (v10 : Int32) =>
pm_b (p_f [12] 14 a0 (.int (x9 + v10))) fun _ =>
pm_b (pm_z v3) fun x12 =>
pm_r x12
noncomputable def f_X4_readsNumber (g : sm_G) (a0 : Nat) (p0 : Int32) (p1 : Int32) : PM Sto Int32 :=
pm_b (
if (9 : Int32) ≤ p1 then (
pm_r 57)
else (
pm_r (48 + p1))) fun (v1 : Int32) =>
pm_b (pm_on 12 a0 (f_X4_accepts g a0 (48 + p0) v1)) fun x3 =>
if x3 = 0 then (
pm_r 0)
else (
pm_b (g_r [12] 12 a0) fun x4 =>
pm_b (g_i [12] 14 a0) fun x5 =>
pm_b (a_i 0 x4 (x5 - 1)) fun x6 =>
pm_b (p_f [12] 15 a0 (.int (x6 - 48))) fun _ =>
pm_b (pm_lp (fun (s7 : Unit) =>
pm_b (g_i [12] 15 a0) fun x10 =>
if x10 ≤ 0 then (
pm_r (Sum.inr ()))
else (
pm_b (g_i [12] 14 a0) fun x11 =>
pm_b (g_i [12] 13 a0) fun x12 =>
if x12 ≤ x11 then (
pm_r (Sum.inr ()))
else (
pm_b (g_r [12] 12 a0) fun x13 =>
pm_b (g_i [12] 14 a0) fun x14 =>
pm_b (a_i 0 x13 x14) fun x15 =>
pm_b (f_X4_within g x15 48 57) fun x16 =>
if x16 = 0 then (
pm_r (Sum.inr ()))
else (
pm_b (g_i [12] 15 a0) fun x17 =>
pm_b (g_r [12] 12 a0) fun x18 =>
pm_b (g_i [12] 14 a0) fun x19 =>
pm_b (a_i 0 x18 x19) fun x20 =>
if p1 < (((10 * x17) + x20) - 48) then (
pm_r (Sum.inr ()))
else (
pm_b (g_i [12] 15 a0) fun x21 =>
pm_b (g_r [12] 12 a0) fun x22 =>
pm_b (g_i [12] 14 a0) fun x23 =>
pm_b (a_i 0 x22 x23) fun x24 =>
pm_b (p_f [12] 15 a0 (.int (((10 * x21) + x24) - 48))) fun _ =>
pm_b (g_i [12] 14 a0) fun x25 =>
pm_b (p_f [12] 14 a0 (.int (x25 + 1))) fun _ =>
pm_r (Sum.inl ())))))) ()) fun (v26 : Unit) =>
pm_r 1)
noncomputable def f_X4_readsModule (g : sm_G) (a0 : Nat) : PM Sto Int32 :=
pm_b (pm_on 12 a0 (f_X4_readsNumber g a0 0 15)) fun x1 =>
pm_b (g_i [12] 15 a0) fun x2 =>
pm_b (p_f [12] 17 a0 (.int x2)) fun _ =>
pm_b (pm_z x1) fun x3 =>
pm_r x3
noncomputable def f_X4_readsInput (g : sm_G) (a0 : Nat) : PM Sto Int32 :=
pm_b (pm_on 12 a0 (f_X4_accepts g a0 46 46)) fun x1 =>
pm_b (
if x1 = 0 then (
pm_r 0)
else (
pm_b (pm_on 12 a0 (f_X4_readsNumber g a0 0 3)) fun x4 =>
if x4 = 0 then (
pm_r 0)
else (
pm_r 1))) fun (v2 : Int32) =>
pm_b (g_i [12] 15 a0) fun x5 =>
pm_b (p_f [12] 19 a0 (.int x5)) fun _ =>
pm_b (pm_z v2) fun x6 =>
pm_r x6
noncomputable def f_X4_readsJoin (g : sm_G) (a0 : Nat) : PM Sto Int32 :=
pm_b (pm_on 12 a0 (f_X4_readsModule g a0)) fun x1 =>
if x1 = 0 then (
pm_r 0)
else (
pm_b (pm_on 12 a0 (f_X4_accepts g a0 62 62)) fun x2 =>
if x2 = 0 then (
pm_r 0)
else (
pm_b (pm_on 12 a0 (f_X4_readsNumber g a0 0 15)) fun x3 =>
if x3 = 0 then (
pm_r 0)
else (
pm_b (g_i [12] 15 a0) fun x4 =>
pm_b (p_f [12] 18 a0 (.int x4)) fun _ =>
pm_b (pm_on 12 a0 (f_X4_readsInput g a0)) fun x5 =>
pm_b (pm_z x5) fun x6 =>
pm_r x6)))
noncomputable def f_X4_readsVoltage (g : sm_G) (a0 : Nat) : PM Sto Int32 :=
pm_b (pm_on 12 a0 (f_X4_accepts g a0 45 45)) fun x1 =>
pm_b (pm_on 12 a0 (f_X4_readsNumber g a0 0 10000)) fun x2 =>
pm_b (
if x1 = 0 then (
pm_b (g_i [12] 15 a0) fun x5 =>
pm_r x5)
else (
pm_b (g_i [12] 15 a0) fun x6 =>
pm_r (-x6))) fun (v3 : Int32) =>
pm_b (p_f [12] 15 a0 (.int v3)) fun _ =>
pm_b (pm_z x2) fun x7 =>
pm_r x7
noncomputable def f_X4_readsItem (g : sm_G) (a0 : Nat) : PM Sto Int32 :=
pm_b (g_i [12] 14 a0) fun x1 =>
pm_b (g_i [12] 13 a0) fun x2 =>
pm_b (
if x2 ≤ x1 then (
pm_r (-1))
else (
pm_b (g_r [12] 12 a0) fun x5 =>
pm_b (g_i [12] 14 a0) fun x6 =>
pm_b (a_i 0 x5 x6) fun x7 =>
pm_r x7)) fun (v3 : Int32) =>
pm_b (p_f [12] 16 a0 (.int v3)) fun _ =>
pm_b (g_i [12] 16 a0) fun x8 =>
pm_b (
if x8 = 110 then (
pm_b (g_i [12] 14 a0) fun x11 =>
pm_b (p_f [12] 14 a0 (.int (x11 + 1))) fun _ =>
pm_r ())
else (
pm_b (g_i [12] 16 a0) fun x12 =>
if x12 = 120 then (
pm_b (g_i [12] 14 a0) fun x13 =>
pm_b (p_f [12] 14 a0 (.int (x13 + 1))) fun _ =>
pm_r ())
else (
pm_b (g_i [12] 16 a0) fun x14 =>
if x14 = 118 then (
pm_b (g_i [12] 14 a0) fun x15 =>
pm_b (p_f [12] 14 a0 (.int (x15 + 1))) fun _ =>
pm_r ())
else (
pm_b (g_i [12] 16 a0) fun x16 =>
if x16 = 102 then (
pm_b (g_i [12] 14 a0) fun x17 =>
pm_b (p_f [12] 14 a0 (.int (x17 + 1))) fun _ =>
pm_r ())
else (
pm_b (g_i [12] 16 a0) fun x18 =>
if x18 = 43 then (
pm_b (g_i [12] 14 a0) fun x19 =>
pm_b (p_f [12] 14 a0 (.int (x19 + 1))) fun _ =>
pm_r ())
else (
pm_b (p_f [12] 16 a0 (.int 62)) fun _ =>
pm_r ())))))) fun (v9 : Unit) =>
pm_b (g_i [12] 16 a0) fun x20 =>
pm_b (
if x20 = 110 then (
pm_b (pm_on 12 a0 (f_X4_readsNumber g a0 0 5)) fun x37 =>
pm_r x37)
else (
pm_b (g_i [12] 16 a0) fun x23 =>
if x23 = 43 then (
pm_b (pm_on 12 a0 (f_X4_readsNumber g a0 1 999)) fun x36 =>
pm_r x36)
else (
pm_b (g_i [12] 16 a0) fun x24 =>
if x24 = 120 then (
pm_b (pm_on 12 a0 (f_X4_readsModule g a0)) fun x34 =>
if x34 = 0 then (
pm_r 0)
else (
pm_b (pm_on 12 a0 (f_X4_readsInput g a0)) fun x35 =>
if x35 = 0 then (
pm_r 0)
else (
pm_r 1)))
else (
pm_b (g_i [12] 16 a0) fun x25 =>
if x25 = 118 then (
pm_b (pm_on 12 a0 (f_X4_readsModule g a0)) fun x31 =>
if x31 = 0 then (
pm_r 0)
else (
pm_b (pm_on 12 a0 (f_X4_accepts g a0 58 58)) fun x32 =>
if x32 = 0 then (
pm_r 0)
else (
pm_b (pm_on 12 a0 (f_X4_readsVoltage g a0)) fun x33 =>
if x33 = 0 then (
pm_r 0)
else (
pm_r 1))))
else (
pm_b (g_i [12] 16 a0) fun x26 =>
if x26 = 102 then (
pm_b (pm_on 12 a0 (f_X4_readsModule g a0)) fun x28 =>
if x28 = 0 then (
pm_r 0)
else (
pm_b (pm_on 12 a0 (f_X4_accepts g a0 58 58)) fun x29 =>
if x29 = 0 then (
pm_r 0)
else (
pm_b (pm_on 12 a0 (f_X4_readsNumber g a0 0 1000)) fun x30 =>
if x30 = 0 then (
pm_r 0)
else (
pm_r 1))))
else (
pm_b (pm_on 12 a0 (f_X4_readsJoin g a0)) fun x27 =>
pm_r x27)))))) fun (v21 : Int32) =>
pm_b (pm_z v21) fun x38 =>
pm_r x38
noncomputable def f_X4_findError (g : sm_G) (a0 : Nat) : PM Sto Int32 :=
pm_b (p_f [12] 14 a0 (.int 0)) fun _ =>
pm_b (pm_lp (fun (s1 : Unit) =>
pm_b (pm_on 12 a0 (f_X4_readsItem g a0)) fun x4 =>
if x4 = 0 then (
pm_r (Sum.inr (Sum.inl ())))
else (
pm_b (g_i [12] 14 a0) fun x5 =>
pm_b (g_i [12] 13 a0) fun x6 =>
if x5 = x6 then (
pm_r (Sum.inr (Sum.inr (Sum.inl ()))))
else (
pm_b (g_r [12] 12 a0) fun x7 =>
pm_b (g_i [12] 14 a0) fun x8 =>
pm_b (a_i 0 x7 x8) fun x9 =>
if x9 = 59 then (
pm_b (g_i [12] 14 a0) fun x10 =>
pm_b (p_f [12] 14 a0 (.int (x10 + 1))) fun _ =>
pm_r (Sum.inl ()))
else (
pm_r (Sum.inr (Sum.inr (Sum.inr ()))))))) ()) (Sum.elim (fun (v11 : Unit) =>
pm_b (g_i [12] 14 a0) fun x12 =>
pm_r x12) (Sum.elim (fun (v13 : Unit) =>
pm_r (-1)) (fun (v14 : Unit) =>
pm_b (g_i [12] 14 a0) fun x15 =>
pm_r x15)))
noncomputable def f_X4_firstError (g : sm_G) (a0 : Nat) : PM Sto Int32 :=
pm_b (p_f [12] 0 a0 (.int 0)) fun _ =>
pm_b (pm_on 12 a0 (f_X4_findError g a0)) fun x1 =>
pm_r x1
noncomputable def f_X4_canDo (g : sm_G) (a0 : Nat) : PM Sto Int32 :=
pm_b (g_i [12] 16 a0) fun x1 =>
pm_b (
if x1 = 110 then (
pm_b (pm_on 12 a0 (f_X4_canPut g a0)) fun x23 =>
pm_r x23)
else (
pm_b (g_i [12] 16 a0) fun x4 =>
if x4 = 43 then (
pm_b (g_i [12] 15 a0) fun x21 =>
pm_b (pm_on 12 a0 (f_X4_canPass g a0 x21)) fun x22 =>
pm_r x22)
else (
pm_b (g_i [12] 16 a0) fun x5 =>
if x5 = 120 then (
pm_b (g_i [12] 17 a0) fun x18 =>
pm_b (g_i [12] 19 a0) fun x19 =>
pm_b (pm_on 12 a0 (f_X4_whyNoCord g a0 x18 x19)) fun x20 =>
if x20 = 0 then (
pm_r 1)
else (
pm_r 0))
else (
pm_b (g_i [12] 16 a0) fun x6 =>
if x6 = 118 then (
pm_b (g_i [12] 17 a0) fun x15 =>
pm_b (g_i [12] 15 a0) fun x16 =>
pm_b (pm_on 12 a0 (f_X4_whyNoVoltage g a0 x15 x16)) fun x17 =>
if x17 = 0 then (
pm_r 1)
else (
pm_r 0))
else (
pm_b (g_i [12] 16 a0) fun x7 =>
if x7 = 102 then (
pm_b (g_i [12] 17 a0) fun x12 =>
pm_b (g_i [12] 15 a0) fun x13 =>
pm_b (pm_on 12 a0 (f_X4_whyNoFactor g a0 x12 x13)) fun x14 =>
if x14 = 0 then (
pm_r 1)
else (
pm_r 0))
else (
pm_b (g_i [12] 17 a0) fun x8 =>
pm_b (g_i [12] 18 a0) fun x9 =>
pm_b (g_i [12] 19 a0) fun x10 =>
pm_b (pm_on 12 a0 (f_X4_whyNoJoin g a0 x8 x9 x10)) fun x11 =>
if x11 = 0 then (
pm_r 1)
else (
pm_r 0))))))) fun (v2 : Int32) =>
pm_b (pm_z v2) fun x24 =>
pm_r x24
noncomputable def f_X4_does (g : sm_G) (a0 : Nat) : PM Sto Unit :=
pm_b (g_i [12] 16 a0) fun x1 =>
pm_b (
if x1 = 110 then (
pm_b (g_i [12] 15 a0) fun x23 =>
pm_b (pm_on 12 a0 (f_X4_putsUp g a0 x23)) fun x24 =>
pm_r ())
else (
pm_b (g_i [12] 16 a0) fun x4 =>
if x4 = 43 then (
pm_b (g_i [12] 15 a0) fun x21 =>
pm_b (pm_on 12 a0 (f_X4_passes g a0 x21)) fun x22 =>
pm_r ())
else (
pm_b (g_i [12] 16 a0) fun x5 =>
if x5 = 120 then (
pm_b (g_i [12] 17 a0) fun x18 =>
pm_b (g_i [12] 19 a0) fun x19 =>
pm_b (pm_on 12 a0 (f_X4_joins g a0 (-1) x18 x19)) fun x20 =>
pm_r ())
else (
pm_b (g_i [12] 16 a0) fun x6 =>
if x6 = 118 then (
pm_b (g_i [12] 17 a0) fun x15 =>
pm_b (g_i [12] 15 a0) fun x16 =>
pm_b (pm_on 12 a0 (f_X4_setsVoltage g a0 x15 x16)) fun x17 =>
pm_r ())
else (
pm_b (g_i [12] 16 a0) fun x7 =>
if x7 = 102 then (
pm_b (g_i [12] 17 a0) fun x12 =>
pm_b (g_i [12] 15 a0) fun x13 =>
pm_b (pm_on 12 a0 (f_X4_setsFactor g a0 x12 x13)) fun x14 =>
pm_r ())
else (
pm_b (g_i [12] 17 a0) fun x8 =>
pm_b (g_i [12] 18 a0) fun x9 =>
pm_b (g_i [12] 19 a0) fun x10 =>
pm_b (pm_on 12 a0 (f_X4_joins g a0 x8 x9 x10)) fun x11 =>
pm_r ())))))) fun (v2 : Unit) =>
pm_r ()
noncomputable def f_X4_patch (g : sm_G) (a0 : Nat) : PM Sto Int32 :=
pm_b (pm_on 12 a0 (f_X4_findError g a0)) fun x1 =>
pm_b (
if x1 = (-1) then (
pm_r 0)
else (
pm_r 1)) fun (v2 : Int32) =>
pm_b (p_f [12] 0 a0 (.int v2)) fun _ =>
pm_b (g_i [12] 0 a0) fun x4 =>
if x4 ≤ 0 then (
pm_b (pm_on 12 a0 (f_X4_saves g a0)) fun _ =>
pm_b (p_f [12] 14 a0 (.int 0)) fun _ =>
pm_b (pm_lp (fun (s6 : Int32 × Int32) =>
if s6.2 = 0 then (
pm_r (Sum.inr s6.1))
else (
pm_b (g_i [12] 14 a0) fun x9 =>
pm_b (g_i [12] 13 a0) fun x10 =>
if x10 ≤ x9 then (
pm_r (Sum.inr s6.1))
else (
pm_b (pm_on 12 a0 (f_X4_readsItem g a0)) fun x11 =>
pm_b (g_i [12] 14 a0) fun x12 =>
pm_b (p_f [12] 14 a0 (.int (x12 + 1))) fun _ =>
pm_b (pm_on 12 a0 (f_X4_canDo g a0)) fun x13 =>
if x13 = 0 then (
pm_r (Sum.inl (s6.1, x13)))
else (
pm_b (pm_on 12 a0 (f_X4_does g a0)) fun _ =>
pm_r (Sum.inl (s6.1 + 1, x13)))))) (0, 1)) fun (v15 : Int32) =>
pm_b (p_f [12] 13 a0 (.int 0)) fun _ =>
pm_r v15)
else (
pm_r 0)
noncomputable def f_X4_undo (g : sm_G) (a0 : Nat) : PM Sto Int32 :=
pm_b (g_i [12] 3 a0) fun x1 =>
pm_b (
if x1 = 0 then (
pm_r 1)
else (
pm_r 0)) fun (v2 : Int32) =>
pm_b (p_f [12] 0 a0 (.int v2)) fun _ =>
pm_b (g_i [12] 0 a0) fun x4 =>
if x4 ≤ 0 then (
pm_b (g_i [12] 3 a0) fun x5 =>
pm_b (p_f [12] 3 a0 (.int (x5 - 1))) fun _ =>
pm_b (pm_lp (fun (s6 : Int32) =>
if (242 : Int32) ≤ s6 then (
pm_r (Sum.inr ()))
else (
pm_b (g_r [12] 1 a0) fun x9 =>
pm_b (g_r [12] 2 a0) fun x10 =>
pm_b (g_i [12] 3 a0) fun x11 =>
pm_b (a_i 0 x10 ((x11 * 242) + s6)) fun x12 =>
pm_b (pa_i 0 x9 s6 x12) fun _ =>
pm_r (Sum.inl (s6 + 1)))) 0) fun (v13 : Unit) =>
pm_b (g_i [12] 3 a0) fun x14 =>
pm_r x14)
else (
pm_r 0)
noncomputable def f_X4_withModule (g : sm_G) (a0 : Nat) (p0 : Int64) (p1 : Int32) : PM Sto Int64 :=
pm_b (pm_on 12 a0 (f_X4_kind g a0 p1)) fun x1 =>
pm_b (pm_r ((31 * p0) + x1.toInt64)) fun x2 =>
pm_b (pm_on 12 a0 (f_X4_of g a0 p1 1)) fun x3 =>
pm_b (pm_r ((31 * x2) + x3.toInt64)) fun x4 =>
pm_b (pm_on 12 a0 (f_X4_output g a0 p1)) fun x5 =>
pm_b (pm_r ((31 * x4) + x5.toInt64)) fun x6 =>
pm_b (pm_on 12 a0 (f_X4_of g a0 p1 4)) fun x7 =>
pm_b (pm_r ((31 * x6) + x7.toInt64)) fun x8 =>
pm_b (pm_on 12 a0 (f_X4_scale g a0 p1)) fun x9 =>
pm_b (pm_r ((31 * x8) + x9.toInt64)) fun x10 =>
pm_b (g_r [12] 7 a0) fun x11 =>
pm_b (a_i 0 x11 p1) fun x12 =>
pm_b (pm_r ((31 * x10) + x12.toInt64)) fun x13 =>
pm_b (pm_on 12 a0 (f_X4_depends g a0 p1 1)) fun x14 =>
pm_b (pm_r ((31 * x13) + x14.toInt64)) fun x15 =>
pm_b (pm_on 12 a0 (f_X4_outputThen g a0 p1 10)) fun x16 =>
pm_b (pm_r ((31 * x15) + x16.toInt64)) fun x17 =>
pm_b (pm_on 12 a0 (f_X4_laysOuts g a0)) fun _ =>
pm_b (pm_lp (fun (s19 : Int64 × Int32) =>
pm_b (pm_on 12 a0 (f_X4_kind g a0 p1)) fun x22 =>
pm_b (f_X4_inputsOfKind g x22) fun x23 =>
if x23 ≤ s19.2 then (
pm_r (Sum.inr s19.1))
else (
pm_b (pm_on 12 a0 (f_X4_of g a0 p1 (5 + s19.2))) fun x24 =>
pm_b (pm_r ((31 * s19.1) + x24.toInt64)) fun x25 =>
pm_b (pm_on 12 a0 (f_X4_in g a0 p1 s19.2)) fun x26 =>
pm_b (pm_r ((31 * x25) + x26.toInt64)) fun x27 =>
pm_r (Sum.inl (x27, s19.2 + 1)))) (x17, 0)) fun (v28 : Int64) =>
pm_r v28
noncomputable def f_X4_digest (g : sm_G) (a0 : Nat) : PM Sto Int64 :=
pm_b (p_f [12] 0 a0 (.int 0)) fun _ =>
pm_b (g_r [12] 1 a0) fun x1 =>
pm_b (a_i 0 x1 0) fun x2 =>
pm_b (pm_r ((31 * 610) + x2.toInt64)) fun x3 =>
pm_b (pm_on 12 a0 (f_X4_manyCords g a0)) fun x4 =>
pm_b (pm_r ((31 * x3) + x4.toInt64)) fun x5 =>
pm_b (g_r [12] 1 a0) fun x6 =>
pm_b (a_i 0 x6 1) fun x7 =>
pm_b (pm_r ((31 * x5) + x7.toInt64)) fun x8 =>
pm_b (g_r [12] 1 a0) fun x9 =>
pm_b (a_i 0 x9 2) fun x10 =>
pm_b (pm_r ((31 * x8) + x10.toInt64)) fun x11 =>
pm_b (g_r [12] 1 a0) fun x12 =>
pm_b (a_i 0 x12 3) fun x13 =>
pm_b (pm_r ((31 * x11) + x13.toInt64)) fun x14 =>
pm_b (g_r [12] 1 a0) fun x15 =>
pm_b (a_i 0 x15 4) fun x16 =>
pm_b (pm_r ((31 * x14) + x16.toInt64)) fun x17 =>
pm_b (pm_on 12 a0 (f_X4_overNow g a0)) fun x18 =>
pm_b (pm_r ((31 * x17) + x18.toInt64)) fun x19 =>
pm_b (pm_on 12 a0 (f_X4_circling g a0)) fun x20 =>
pm_b (pm_r ((31 * x19) + x20.toInt64)) fun x21 =>
pm_b (pm_on 12 a0 (f_X4_endSet g a0)) fun x22 =>
pm_b (pm_r ((31 * x21) + x22.toInt64)) fun x23 =>
pm_b (g_r [12] 1 a0) fun x24 =>
pm_b (a_i 0 x24 5) fun x25 =>
pm_b (pm_r ((31 * x23) + x25.toInt64)) fun x26 =>
pm_b (g_r [12] 1 a0) fun x27 =>
pm_b (a_i 0 x27 6) fun x28 =>
pm_b (pm_r ((31 * x26) + x28.toInt64)) fun x29 =>
pm_b (g_r [12] 1 a0) fun x30 =>
pm_b (a_i 0 x30 7) fun x31 =>
pm_b (pm_r ((31 * x29) + x31.toInt64)) fun x32 =>
pm_b (g_r [12] 1 a0) fun x33 =>
pm_b (a_i 0 x33 9) fun x34 =>
pm_b (pm_r ((31 * x32) + x34.toInt64)) fun x35 =>
pm_b (pm_on 12 a0 (f_X4_untilOver g a0)) fun x36 =>
pm_b (pm_r ((31 * x35) + x36.toInt64)) fun x37 =>
pm_b (pm_lp (fun (s38 : Int64 × Int32) =>
pm_b (g_r [12] 1 a0) fun x41 =>
pm_b (a_i 0 x41 0) fun x42 =>
if x42 ≤ s38.2 then (
pm_r (Sum.inr s38.1))
else (
pm_b (pm_on 12 a0 (f_X4_withModule g a0 s38.1 s38.2)) fun x43 =>
pm_r (Sum.inl (x43, s38.2 + 1)))) (x37, 0)) fun (v44 : Int64) =>
pm_b (pm_lp (fun (s45 : Int64 × Int32) =>
pm_b (g_r [12] 1 a0) fun x48 =>
pm_b (a_i 0 x48 0) fun x49 =>
if x49 ≤ s45.2 then (
pm_r (Sum.inr s45.1))
else (
pm_b (pm_lp (fun (s50 : Int64 × Int32) =>
if (4 : Int32) ≤ s50.2 then (
pm_r (Sum.inr s50.1))
else (
pm_b (pm_on 12 a0 (f_X4_isWeighted g a0 s45.2)) fun x53 =>
if x53 = 0 then (
pm_r (Sum.inr s50.1))
else (
pm_b (pm_on 12 a0 (f_X4_of g a0 s45.2 (9 + s50.2))) fun x54 =>
pm_b (pm_r ((31 * s50.1) + x54.toInt64)) fun x55 =>
pm_r (Sum.inl (x55, s50.2 + 1))))) (s45.1, 0)) fun (v56 : Int64) =>
pm_r (Sum.inl (v56, s45.2 + 1)))) (v44, 0)) fun (v57 : Int64) =>
pm_b (pm_lp (fun (s58 : Int64 × Int32) =>
pm_b (g_r [12] 1 a0) fun x61 =>
pm_b (a_i 0 x61 0) fun x62 =>
if x62 ≤ s58.2 then (
pm_r (Sum.inr s58.1))
else (
pm_b (pm_on 12 a0 (f_X4_kind g a0 s58.2)) fun x63 =>
pm_b (
if x63 = 1 then (
pm_b (pm_on 12 a0 (f_X4_of g a0 s58.2 2)) fun x66 =>
pm_b (pm_r ((31 * s58.1) + x66.toInt64)) fun x67 =>
pm_b (pm_on 12 a0 (f_X4_of g a0 s58.2 3)) fun x68 =>
pm_b (pm_r ((31 * x67) + x68.toInt64)) fun x69 =>
pm_b (pm_on 12 a0 (f_X4_rateNow g a0 s58.2)) fun x70 =>
pm_b (pm_r ((31 * x69) + x70.toInt64)) fun x71 =>
pm_r x71)
else (
pm_r s58.1)) fun (v64 : Int64) =>
pm_r (Sum.inl (v64, s58.2 + 1)))) (v57, 0)) fun (v72 : Int64) =>
pm_b (g_r [12] 1 a0) fun x73 =>
pm_b (a_i 0 x73 6) fun x74 =>
pm_b (pm_r (x74 - 1)) fun x75 =>
pm_b (pm_lp (fun (s76 : Int64 × Int32) =>
if s76.2 < 0 then (
pm_r (Sum.inr s76.1))
else (
pm_b (g_r [12] 1 a0) fun x79 =>
pm_b (a_i 0 x79 (10 + s76.2)) fun x80 =>
pm_b (pm_r ((31 * s76.1) + x80.toInt64)) fun x81 =>
pm_r (Sum.inl (x81, s76.2 + (-1))))) (v72, x75)) fun (v82 : Int64) =>
pm_b (pm_on 12 a0 (f_X4_mean g a0)) fun x83 =>
pm_b (f_J23_doubleToLongBits g x83) fun x84 =>
pm_r ((31 * v82) + x84)
