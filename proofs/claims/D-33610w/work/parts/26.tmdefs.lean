/-! THE REFERENCE's PROGRAMS OVER ITS OWN STATE -/
noncomputable def t_X4_thrown : PM TM Int32 :=
pm_b (t_i 0) fun x1 =>
pm_r x1
noncomputable def t_X4_within (p0 : Int32) (p1 : Int32) (p2 : Int32) : PM TM Int32 :=
pm_b (
if p0 < p1 then (
pm_r 0)
else (
if p2 < p0 then (
pm_r 0)
else (
pm_r 1))) fun (v1 : Int32) =>
pm_b (pm_z v1) fun x3 =>
pm_r x3
noncomputable def t_X4_canPut : PM TM Int32 :=
pm_b (t_a 1 0) fun x2 =>
pm_b (
if (16 : Int32) ≤ x2 then (
pm_r 0)
else (
pm_r 1)) fun (v3 : Int32) =>
pm_b (pm_z v3) fun x5 =>
pm_r x5
noncomputable def t_X4_saves : PM TM Unit :=
pm_b (t_i 3) fun x1 =>
pm_b (
if x1 = 6 then (
pm_b (pm_lp (fun (s4 : Int32) =>
if (1210 : Int32) ≤ s4 then (
pm_r (Sum.inr ()))
else (
pm_b (t_a 2 (s4 + 242)) fun x9 =>
pm_b (t_pa 2 s4 x9) fun _ =>
pm_r (Sum.inl (s4 + 1)))) 0) fun (v10 : Unit) =>
pm_b (t_i 3) fun x11 =>
pm_b (t_p 3 (x11 - 1)) fun _ =>
pm_r ())
else (
pm_r ())) fun (v2 : Unit) =>
pm_b (pm_lp (fun (s12 : Int32) =>
if (242 : Int32) ≤ s12 then (
pm_r (Sum.inr ()))
else (
pm_b (t_i 3) fun x16 =>
pm_b (t_a 1 s12) fun x18 =>
pm_b (t_pa 2 ((x16 * 242) + s12) x18) fun _ =>
pm_r (Sum.inl (s12 + 1)))) 0) fun (v19 : Unit) =>
pm_b (t_i 3) fun x20 =>
pm_b (t_p 3 (x20 + 1)) fun _ =>
pm_r ()
noncomputable def t_X4_puts (p0 : Int32) (p1 : Int32) (p2 : Int32) : PM TM Unit :=
pm_b (t_pa 1 ((34 + (13 * p0)) + p1) p2) fun _ =>
pm_r ()
noncomputable def t_X4_putsUp (p0 : Int32) : PM TM Int32 :=
pm_b (t_a 1 0) fun x2 =>
pm_b (t_a 1 0) fun x4 =>
pm_b (t_pa 1 0 (x4 + 1)) fun _ =>
pm_b (t_X4_puts x2 0 p0) fun _ =>
pm_b (
if p0 = 5 then (
pm_r 10000)
else (
if p0 = 2 then (
pm_r 500)
else (
pm_r 0))) fun (v6 : Int32) =>
pm_b (t_X4_puts x2 1 v6) fun _ =>
pm_b (t_X4_puts x2 2 100) fun _ =>
pm_b (t_X4_puts x2 3 0) fun _ =>
pm_b (t_X4_puts x2 4 0) fun _ =>
pm_b (pm_lp (fun (s12 : Int32) =>
if (4 : Int32) ≤ s12 then (
pm_r (Sum.inr ()))
else (
pm_b (t_X4_puts x2 (5 + s12) (-1)) fun _ =>
pm_b (t_X4_puts x2 (9 + s12) 1) fun _ =>
pm_r (Sum.inl (s12 + 1)))) 0) fun (v17 : Unit) =>
pm_r x2
noncomputable def t_X4_put (p0 : Int32) : PM TM Int32 :=
pm_b (t_X4_within p0 0 5) fun x1 =>
pm_b (
if x1 = 0 then (
pm_r 1)
else (
pm_b (t_X4_canPut) fun x4 =>
if x4 = 0 then (
pm_r 2)
else (
pm_r 0))) fun (v2 : Int32) =>
pm_b (t_p 0 v2) fun _ =>
pm_b (t_i 0) fun x5 =>
if x5 ≤ 0 then (
pm_b (t_X4_saves) fun _ =>
pm_b (t_X4_putsUp p0) fun x7 =>
pm_r x7)
else (
pm_r 0)
noncomputable def t_X4_isModule (p0 : Int32) : PM TM Int32 :=
pm_b (t_a 1 0) fun x2 =>
pm_b (t_X4_within p0 0 (x2 - 1)) fun x3 =>
pm_b (pm_z x3) fun x4 =>
pm_r x4
noncomputable def t_X4_of (p0 : Int32) (p1 : Int32) : PM TM Int32 :=
pm_b (t_a 1 ((34 + (13 * p0)) + p1)) fun x2 =>
pm_r x2
noncomputable def t_X4_kind (p0 : Int32) : PM TM Int32 :=
pm_b (t_X4_of p0 0) fun x1 =>
pm_r x1
noncomputable def t_X4_isWeighted (p0 : Int32) : PM TM Int32 :=
pm_b (t_X4_kind p0) fun x1 =>
pm_b (
if x1 = 0 then (
pm_r 1)
else (
pm_b (t_X4_kind p0) fun x4 =>
if x4 = 1 then (
pm_r 1)
else (
pm_r 0))) fun (v2 : Int32) =>
pm_b (pm_z v2) fun x5 =>
pm_r x5
noncomputable def t_X4_inputsOfKind (p0 : Int32) : PM TM Int32 :=
pm_b (
if p0 = 5 then (
pm_r 0)
else (
if p0 = 2 then (
pm_r 1)
else (
if p0 = 3 then (
pm_r 2)
else (
pm_r 4)))) fun (v1 : Int32) =>
pm_r v1
noncomputable def t_X4_isInput (p0 : Int32) (p1 : Int32) : PM TM Int32 :=
pm_b (t_X4_isModule p0) fun x1 =>
pm_b (
if x1 = 0 then (
pm_r 0)
else (
pm_b (t_X4_kind p0) fun x4 =>
pm_b (t_X4_inputsOfKind x4) fun x5 =>
pm_b (t_X4_within p1 0 (x5 - 1)) fun x6 =>
if x6 = 0 then (
pm_r 0)
else (
pm_r 1))) fun (v2 : Int32) =>
pm_b (pm_z v2) fun x7 =>
pm_r x7
noncomputable def t_X4_whyNoWeight (p0 : Int32) (p1 : Int32) : PM TM Int32 :=
pm_b (t_X4_isModule p0) fun x1 =>
pm_b (
if x1 = 0 then (
pm_r 1)
else (
pm_b (t_X4_within p1 0 3) fun x4 =>
if x4 = 0 then (
pm_r 1)
else (
pm_b (t_X4_isWeighted p0) fun x5 =>
if x5 = 0 then (
pm_b (t_X4_isInput p0 p1) fun x6 =>
if x6 = 0 then (
pm_r 1)
else (
pm_r 2))
else (
pm_r 0)))) fun (v2 : Int32) =>
pm_r v2
noncomputable def t_X4_turnWeight (p0 : Int32) (p1 : Int32) : PM TM Int32 :=
pm_b (t_X4_whyNoWeight p0 p1) fun x1 =>
pm_b (t_p 0 x1) fun _ =>
pm_b (t_i 0) fun x2 =>
if x2 ≤ 0 then (
pm_b (t_X4_saves) fun _ =>
pm_b (t_X4_of p0 (9 + p1)) fun x4 =>
pm_b (t_X4_puts p0 (9 + p1) (11 - x4)) fun _ =>
pm_b (t_X4_of p0 (9 + p1)) fun x6 =>
pm_r x6)
else (
pm_r 0)
noncomputable def t_X4_hasVoltage (p0 : Int32) : PM TM Int32 :=
pm_b (t_X4_kind p0) fun x1 =>
pm_b (
if x1 = 5 then (
pm_r 1)
else (
pm_b (t_X4_kind p0) fun x4 =>
if x4 = 1 then (
pm_r 1)
else (
pm_r 0))) fun (v2 : Int32) =>
pm_b (pm_z v2) fun x5 =>
pm_r x5
noncomputable def t_X4_whyNoVoltage (p0 : Int32) (p1 : Int32) : PM TM Int32 :=
pm_b (t_X4_isModule p0) fun x1 =>
pm_b (
if x1 = 0 then (
pm_r 1)
else (
pm_b (t_X4_hasVoltage p0) fun x4 =>
if x4 = 0 then (
pm_r 2)
else (
pm_b (t_X4_within p1 (-10000) 10000) fun x5 =>
if x5 = 0 then (
pm_r 2)
else (
pm_r 0)))) fun (v2 : Int32) =>
pm_r v2
noncomputable def t_X4_setsVoltage (p0 : Int32) (p1 : Int32) : PM TM Int32 :=
pm_b (t_X4_of p0 1) fun x1 =>
pm_b (t_X4_puts p0 1 p1) fun _ =>
pm_b (t_X4_kind p0) fun x3 =>
pm_b (
if x3 = 1 then (
pm_b (t_a 1 1) fun x7 =>
if x7 = 0 then (
pm_b (t_X4_puts p0 3 (1000 * p1)) fun _ =>
pm_r ())
else (
pm_r ()))
else (
pm_r ())) fun (v4 : Unit) =>
pm_r x1
noncomputable def t_X4_setVoltage (p0 : Int32) (p1 : Int32) : PM TM Int32 :=
pm_b (t_X4_whyNoVoltage p0 p1) fun x1 =>
pm_b (t_p 0 x1) fun _ =>
pm_b (t_i 0) fun x2 =>
if x2 ≤ 0 then (
pm_b (t_X4_saves) fun _ =>
pm_b (t_X4_setsVoltage p0 p1) fun x4 =>
pm_r x4)
else (
pm_r 0)
noncomputable def t_X4_whyNoFactor (p0 : Int32) (p1 : Int32) : PM TM Int32 :=
pm_b (t_X4_isModule p0) fun x1 =>
pm_b (
if x1 = 0 then (
pm_r 1)
else (
pm_b (t_X4_kind p0) fun x4 =>
if x4 = 2 then (
pm_b (t_X4_within p1 0 1000) fun x5 =>
if x5 = 0 then (
pm_r 2)
else (
pm_r 0))
else (
pm_r 2))) fun (v2 : Int32) =>
pm_r v2
noncomputable def t_X4_setsFactor (p0 : Int32) (p1 : Int32) : PM TM Int32 :=
pm_b (t_X4_of p0 1) fun x1 =>
pm_b (t_X4_puts p0 1 p1) fun _ =>
pm_r x1
noncomputable def t_X4_setFactor (p0 : Int32) (p1 : Int32) : PM TM Int32 :=
pm_b (t_X4_whyNoFactor p0 p1) fun x1 =>
pm_b (t_p 0 x1) fun _ =>
pm_b (t_i 0) fun x2 =>
if x2 ≤ 0 then (
pm_b (t_X4_saves) fun _ =>
pm_b (t_X4_setsFactor p0 p1) fun x4 =>
pm_r x4)
else (
pm_r 0)
noncomputable def t_X4_setSpeed (p0 : Int32) (p1 : Int32) : PM TM Int32 :=
pm_b (t_X4_isModule p0) fun x1 =>
pm_b (
if x1 = 0 then (
pm_r 1)
else (
pm_b (t_X4_kind p0) fun x4 =>
if x4 = 1 then (
pm_b (t_X4_within p1 1 1000) fun x5 =>
if x5 = 0 then (
pm_r 2)
else (
pm_r 0))
else (
pm_r 2))) fun (v2 : Int32) =>
pm_b (t_p 0 v2) fun _ =>
pm_b (t_i 0) fun x6 =>
if x6 ≤ 0 then (
pm_b (t_X4_saves) fun _ =>
pm_b (t_X4_of p0 2) fun x8 =>
pm_b (t_X4_puts p0 2 p1) fun _ =>
pm_r x8)
else (
pm_r 0)
noncomputable def t_X4_feedersOf (p0 : Int32) : PM TM Int32 :=
pm_b (pm_lp (fun (s1 : Int32 × Int32) =>
if (4 : Int32) ≤ s1.2 then (
pm_r (Sum.inr s1.1))
else (
pm_b (t_X4_of p0 (5 + s1.2)) fun x4 =>
pm_b (
if x4 = (-1) then (
pm_r 0)
else (
pm_b (t_X4_of p0 (5 + s1.2)) fun x7 =>
pm_r ((1 : Int32) <<< (x7 &&& 31)))) fun (v5 : Int32) =>
pm_b (pm_r (s1.1 ||| v5)) fun x8 =>
pm_r (Sum.inl (x8, s1.2 + 1)))) (0, 0)) fun (v9 : Int32) =>
pm_r v9
noncomputable def t_X4_has (p0 : Int32) (p1 : Int32) : PM TM Int32 :=
pm_b (
if ((p0 >>> (p1 &&& 31)) &&& 1) = 1 then (
pm_r 1)
else (
pm_r 0)) fun (v1 : Int32) =>
pm_b (pm_z v1) fun x3 =>
pm_r x3
noncomputable def t_X4_depends (p0 : Int32) (p1 : Int32) : PM TM Int32 :=
pm_b (
if p1 = 0 then (
pm_b (t_X4_kind p0) fun x4 =>
if x4 = 1 then (
pm_r 0)
else (
pm_b (t_X4_feedersOf p0) fun x5 =>
pm_r x5))
else (
pm_b (t_X4_feedersOf p0) fun x3 =>
pm_r x3)) fun (v1 : Int32) =>
pm_b (pm_lp (fun (s6 : Int32 × Int32) =>
if s6.2 = s6.1 then (
pm_r (Sum.inr s6.1))
else (
pm_b (pm_lp (fun (s9 : Int32 × Int32) =>
pm_b (t_a 1 0) fun x13 =>
if x13 ≤ s9.2 then (
pm_r (Sum.inr s9.1))
else (
pm_b (t_X4_has s6.2 s9.2) fun x14 =>
pm_b (
if x14 = 0 then (
pm_r 0)
else (
if p1 = 0 then (
pm_b (t_X4_kind s9.2) fun x18 =>
if x18 = 1 then (
pm_r 0)
else (
pm_b (t_X4_feedersOf s9.2) fun x19 =>
pm_r x19))
else (
pm_b (t_X4_feedersOf s9.2) fun x17 =>
pm_r x17))) fun (v15 : Int32) =>
pm_b (pm_r (s9.1 ||| v15)) fun x20 =>
pm_r (Sum.inl (x20, s9.2 + 1)))) (s6.2, 0)) fun (v21 : Int32) =>
pm_r (Sum.inl (s6.2, v21)))) (0, v1)) fun (v22 : Int32) =>
pm_r v22
noncomputable def t_X4_circles (p0 : Int32) (p1 : Int32) : PM TM Int32 :=
pm_b (t_X4_kind p0) fun x1 =>
if x1 = 1 then (
pm_r 0)
else (
pm_b (t_X4_kind p1) fun x2 =>
if x2 = 1 then (
pm_r 0)
else (
pm_b (
if p0 = p1 then (
pm_r 1)
else (
pm_b (t_X4_depends p0 0) fun x5 =>
pm_b (t_X4_has x5 p1) fun x6 =>
if x6 = 0 then (
pm_r 0)
else (
pm_r 1))) fun (v3 : Int32) =>
pm_b (pm_z v3) fun x7 =>
pm_r x7))
noncomputable def t_X4_whyNoJoin (p0 : Int32) (p1 : Int32) (p2 : Int32) : PM TM Int32 :=
pm_b (t_X4_isModule p0) fun x1 =>
pm_b (
if x1 = 0 then (
pm_r 1)
else (
pm_b (t_X4_isInput p1 p2) fun x4 =>
if x4 = 0 then (
pm_r 1)
else (
pm_b (t_X4_circles p0 p1) fun x5 =>
if x5 = 0 then (
pm_r 0)
else (
pm_r 2)))) fun (v2 : Int32) =>
pm_r v2
noncomputable def t_X4_joins (p0 : Int32) (p1 : Int32) (p2 : Int32) : PM TM Int32 :=
pm_b (t_X4_of p1 (5 + p2)) fun x1 =>
pm_b (t_X4_puts p1 (5 + p2) p0) fun _ =>
pm_r x1
noncomputable def t_X4_join (p0 : Int32) (p1 : Int32) (p2 : Int32) : PM TM Int32 :=
pm_b (t_X4_whyNoJoin p0 p1 p2) fun x1 =>
pm_b (t_p 0 x1) fun _ =>
pm_b (t_i 0) fun x2 =>
if x2 ≤ 0 then (
pm_b (t_X4_saves) fun _ =>
pm_b (t_X4_joins p0 p1 p2) fun x4 =>
pm_r x4)
else (
pm_r 0)
noncomputable def t_X4_whyNoCord (p0 : Int32) (p1 : Int32) : PM TM Int32 :=
pm_b (t_X4_isInput p0 p1) fun x1 =>
pm_b (
if x1 = 0 then (
pm_r 1)
else (
pm_b (t_X4_of p0 (5 + p1)) fun x4 =>
if x4 = (-1) then (
pm_r 2)
else (
pm_r 0))) fun (v2 : Int32) =>
pm_r v2
noncomputable def t_X4_takeOut (p0 : Int32) (p1 : Int32) : PM TM Int32 :=
pm_b (t_X4_whyNoCord p0 p1) fun x1 =>
pm_b (t_p 0 x1) fun _ =>
pm_b (t_i 0) fun x2 =>
if x2 ≤ 0 then (
pm_b (t_X4_saves) fun _ =>
pm_b (t_X4_joins (-1) p0 p1) fun x4 =>
pm_r x4)
else (
pm_r 0)
noncomputable def t_X4_canPass (p0 : Int32) : PM TM Int32 :=
pm_b (t_a 1 4) fun x2 =>
pm_b (
if (99999 : Int32) < (x2 + p0) then (
pm_r 0)
else (
pm_r 1)) fun (v3 : Int32) =>
pm_b (pm_z v3) fun x5 =>
pm_r x5
noncomputable def t_X4_laysLevels : PM TM Unit :=
pm_b (pm_lp (fun (s1 : Int32) =>
pm_b (t_a 1 0) fun x5 =>
if x5 ≤ s1 then (
pm_r (Sum.inr ()))
else (
pm_b (t_X4_hasVoltage s1) fun x7 =>
pm_b (
if x7 = 0 then (
pm_r 1)
else (
pm_r 0)) fun (v8 : Int32) =>
pm_b (t_pa 7 s1 v8) fun _ =>
pm_r (Sum.inl (s1 + 1)))) 0) fun (v10 : Unit) =>
pm_b (pm_lp (fun (s11 : Int32) =>
if s11 = 0 then (
pm_r (Sum.inr ()))
else (
pm_b (pm_lp (fun (s14 : Int32 × Int32) =>
pm_b (t_a 1 0) fun x18 =>
if x18 ≤ s14.2 then (
pm_r (Sum.inr s14.1))
else (
pm_b (pm_lp (fun (s19 : Int32 × Int32) =>
if (4 : Int32) ≤ s19.2 then (
pm_r (Sum.inr s19.1))
else (
pm_b (t_X4_hasVoltage s14.2) fun x22 =>
if x22 = 0 then (
pm_b (t_X4_of s14.2 (5 + s19.2)) fun x23 =>
pm_b (
if x23 = (-1) then (
pm_r s19.1)
else (
pm_b (t_a 7 x23) fun x27 =>
pm_b (t_a 7 s14.2) fun x29 =>
if x27 < x29 then (
pm_r s19.1)
else (
pm_b (t_a 7 x23) fun x32 =>
pm_b (t_pa 7 s14.2 (x32 + 1)) fun _ =>
pm_r 1))) fun (v24 : Int32) =>
pm_r (Sum.inl (v24, s19.2 + 1)))
else (
pm_r (Sum.inr s19.1)))) (s14.1, 0)) fun (v33 : Int32) =>
pm_r (Sum.inl (v33, s14.2 + 1)))) (0, 0)) fun (v34 : Int32) =>
pm_r (Sum.inl v34))) 1) fun (v35 : Unit) =>
pm_r ()
noncomputable def t_X4_in (p0 : Int32) (p1 : Int32) : PM TM Int32 :=
pm_b (t_X4_of p0 (5 + p1)) fun x1 =>
pm_b (
if x1 = (-1) then (
pm_r 0)
else (
pm_b (t_a 8 x1) fun x5 =>
pm_r x5)) fun (v2 : Int32) =>
pm_r v2
noncomputable def t_X4_weighted (p0 : Int32) : PM TM Int32 :=
pm_b (pm_lp (fun (s1 : Int32 × Int32) =>
if (4 : Int32) ≤ s1.2 then (
pm_r (Sum.inr s1.1))
else (
pm_b (t_X4_of p0 (9 + s1.2)) fun x4 =>
pm_b (t_X4_in p0 s1.2) fun x5 =>
pm_b (pm_r (s1.1 + (x4 * x5))) fun x6 =>
pm_r (Sum.inl (x6, s1.2 + 1)))) (0, 0)) fun (v7 : Int32) =>
pm_r v7
noncomputable def t_X4_free (p0 : Int32) : PM TM Int32 :=
pm_b (t_X4_kind p0) fun x1 =>
pm_b (
if x1 = 0 then (
pm_b (t_X4_weighted p0) fun x14 =>
pm_r (-x14))
else (
if x1 = 1 then (
pm_b (t_X4_of p0 3) fun x13 =>
pm_r (x13 / 1000))
else (
if x1 = 2 then (
pm_b (t_X4_in p0 0) fun x11 =>
pm_b (t_X4_of p0 1) fun x12 =>
pm_r ((x11 * x12) / 1000))
else (
if x1 = 3 then (
pm_b (t_X4_in p0 0) fun x9 =>
pm_b (t_X4_in p0 1) fun x10 =>
pm_r ((x9 * x10) / 10000))
else (
if x1 = 4 then (
pm_b (t_X4_in p0 0) fun x5 =>
pm_b (t_X4_in p0 1) fun x6 =>
if x5 < x6 then (
pm_b (t_X4_in p0 3) fun x7 =>
pm_r x7)
else (
pm_b (t_X4_in p0 2) fun x8 =>
pm_r x8))
else (
pm_b (t_X4_of p0 1) fun x4 =>
pm_r x4)))))) fun (v2 : Int32) =>
pm_r v2
noncomputable def t_X4_held (p0 : Int32) (p1 : Int32) : PM TM Int32 :=
pm_b (
if p0 ≤ p1 then (
if (-p1) ≤ p0 then (
pm_r p0)
else (
pm_r (-p1)))
else (
pm_r p1)) fun (v1 : Int32) =>
pm_r v1
noncomputable def t_X4_size (p0 : Int32) : PM TM Int32 :=
pm_b (
if (0 : Int32) ≤ p0 then (
pm_r p0)
else (
pm_r (-p0))) fun (v1 : Int32) =>
pm_r v1
noncomputable def t_X4_laysOuts : PM TM Unit :=
pm_b (t_X4_laysLevels) fun _ =>
pm_b (t_p 9 0) fun _ =>
pm_b (pm_lp (fun (s2 : Int32) =>
if (16 : Int32) < s2 then (
pm_r (Sum.inr ()))
else (
pm_b (pm_lp (fun (s5 : Int32) =>
pm_b (t_a 1 0) fun x9 =>
if x9 ≤ s5 then (
pm_r (Sum.inr ()))
else (
pm_b (t_a 7 s5) fun x11 =>
pm_b (
if x11 = s2 then (
pm_b (t_X4_free s5) fun x14 =>
pm_b (t_X4_held x14 10000) fun x16 =>
pm_b (t_pa 8 s5 x16) fun _ =>
pm_b (t_X4_kind s5) fun x17 =>
pm_b (
if x17 = 1 then (
pm_b (t_X4_of s5 3) fun x22 =>
pm_b (t_X4_size x22) fun x23 =>
if x23 = 10000000 then (
pm_r 1)
else (
pm_r 0))
else (
pm_b (t_a 8 s5) fun x21 =>
if x14 = x21 then (
pm_r 0)
else (
pm_r 1))) fun (v18 : Int32) =>
pm_b (t_i 9) fun x24 =>
pm_b (
if v18 = 0 then (
pm_r 0)
else (
pm_r ((1 : Int32) <<< (s5 &&& 31)))) fun (v25 : Int32) =>
pm_b (t_p 9 (x24 ||| v25)) fun _ =>
pm_r ())
else (
pm_r ())) fun (v12 : Unit) =>
pm_r (Sum.inl (s5 + 1)))) 0) fun (v27 : Unit) =>
pm_r (Sum.inl (s2 + 1)))) 0) fun (v28 : Unit) =>
pm_r ()
noncomputable def t_X4_rate (p0 : Int32) : PM TM Int32 :=
pm_b (t_X4_weighted p0) fun x1 =>
pm_b (t_X4_of p0 2) fun x2 =>
pm_b (pm_dv ((-x1) * 1000) x2) fun x3 =>
pm_r x3
noncomputable def t_X4_laysRates : PM TM Unit :=
pm_b (pm_lp (fun (s1 : Int32) =>
pm_b (t_a 1 0) fun x5 =>
if x5 ≤ s1 then (
pm_r (Sum.inr ()))
else (
pm_b (t_X4_kind s1) fun x7 =>
pm_b (
if x7 = 1 then (
pm_b (t_X4_rate s1) fun x10 =>
pm_r x10)
else (
pm_r 0)) fun (v8 : Int32) =>
pm_b (t_pa 10 s1 v8) fun _ =>
pm_r (Sum.inl (s1 + 1)))) 0) fun (v11 : Unit) =>
pm_r ()
noncomputable def t_X4_charges (p0 : Int32) : PM TM Unit :=
pm_b (pm_lp (fun (s1 : Int32) =>
pm_b (t_a 1 0) fun x5 =>
if x5 ≤ s1 then (
pm_r (Sum.inr ()))
else (
pm_b (t_X4_kind s1) fun x6 =>
pm_b (
if x6 = 1 then (
pm_b (t_a 11 s1) fun x10 =>
pm_b (t_a 10 s1) fun x12 =>
pm_b (pm_dv x12 p0) fun x13 =>
pm_b (t_X4_held (x10 + x13) 10000000) fun x14 =>
pm_b (t_X4_puts s1 3 x14) fun _ =>
pm_r ())
else (
pm_r ())) fun (v7 : Unit) =>
pm_r (Sum.inl (s1 + 1)))) 0) fun (v16 : Unit) =>
pm_r ()
noncomputable def t_X4_notesRecord : PM TM Unit :=
pm_b (t_a 1 5) fun x2 =>
if x2 = (-1) then (
pm_r ())
else (
pm_b (t_a 1 5) fun x5 =>
pm_b (t_a 8 x5) fun x6 =>
pm_b (t_a 1 6) fun x8 =>
pm_b (
if x8 ≤ 0 then (
pm_r 0)
else (
pm_b (t_a 1 6) fun x13 =>
pm_b (t_a 1 ((10 + x13) - 1)) fun x14 =>
if (0 : Int32) ≤ x14 then (
pm_r 0)
else (
if x6 < 0 then (
pm_r 0)
else (
pm_r 1)))) fun (v9 : Int32) =>
pm_b (
if v9 = 0 then (
pm_r ())
else (
pm_b (t_a 1 7) fun x18 =>
pm_b (t_pa 1 7 (x18 + 1)) fun _ =>
pm_b (t_a 1 7) fun x21 =>
pm_b (
if x21 ≤ 1 then (
pm_r (-1))
else (
pm_b (t_a 1 4) fun x25 =>
pm_b (t_a 1 8) fun x27 =>
pm_r (x25 - x27))) fun (v22 : Int32) =>
pm_b (t_pa 1 9 v22) fun _ =>
pm_b (t_a 1 4) fun x30 =>
pm_b (t_pa 1 8 x30) fun _ =>
pm_r ())) fun (v15 : Unit) =>
pm_b (t_a 1 6) fun x32 =>
pm_b (
if x32 = 24 then (
pm_b (pm_lp (fun (s35 : Int32) =>
if (23 : Int32) ≤ s35 then (
pm_r (Sum.inr ()))
else (
pm_b (t_a 1 ((10 + s35) + 1)) fun x40 =>
pm_b (t_pa 1 (10 + s35) x40) fun _ =>
pm_r (Sum.inl (s35 + 1)))) 0) fun (v41 : Unit) =>
pm_b (t_a 1 6) fun x43 =>
pm_b (t_pa 1 6 (x43 - 1)) fun _ =>
pm_r ())
else (
pm_r ())) fun (v33 : Unit) =>
pm_b (t_a 1 6) fun x46 =>
pm_b (t_pa 1 (10 + x46) x6) fun _ =>
pm_b (t_a 1 6) fun x48 =>
pm_b (t_pa 1 6 (x48 + 1)) fun _ =>
pm_r ())
noncomputable def t_X4_stepsOn (p0 : Int32) : PM TM Unit :=
pm_b (t_X4_laysOuts) fun _ =>
pm_b (t_X4_laysRates) fun _ =>
pm_b (pm_lp (fun (s3 : Int32) =>
pm_b (t_a 1 0) fun x7 =>
if x7 ≤ s3 then (
pm_r (Sum.inr ()))
else (
pm_b (t_X4_of s3 3) fun x9 =>
pm_b (t_pa 11 s3 x9) fun _ =>
pm_r (Sum.inl (s3 + 1)))) 0) fun (v10 : Unit) =>
pm_b (t_a 1 2) fun x12 =>
pm_b (
if x12 = 1 then (
pm_b (t_X4_charges 2) fun _ =>
pm_b (t_X4_laysOuts) fun _ =>
pm_b (t_X4_laysRates) fun _ =>
pm_r ())
else (
pm_r ())) fun (v13 : Unit) =>
pm_b (t_X4_charges 1) fun _ =>
pm_b (t_X4_laysOuts) fun _ =>
pm_b (t_a 1 4) fun x21 =>
pm_b (t_pa 1 4 (x21 + 1)) fun _ =>
pm_b (pm_lp (fun (s22 : Int32) =>
pm_b (t_a 1 0) fun x26 =>
if x26 ≤ s22 then (
pm_r (Sum.inr ()))
else (
pm_b (t_a 8 s22) fun x28 =>
pm_b (t_X4_size x28) fun x29 =>
pm_b (t_X4_of s22 4) fun x30 =>
pm_b (
if x29 ≤ x30 then (
pm_b (t_X4_of s22 4) fun x33 =>
pm_r x33)
else (
pm_b (t_a 8 s22) fun x35 =>
pm_b (t_X4_size x35) fun x36 =>
pm_r x36)) fun (v31 : Int32) =>
pm_b (t_X4_puts s22 4 v31) fun _ =>
pm_r (Sum.inl (s22 + 1)))) 0) fun (v38 : Unit) =>
pm_b (t_X4_notesRecord) fun _ =>
pm_b (
if p0 = 0 then (
pm_b (t_a 1 1) fun x44 =>
pm_r x44)
else (
pm_b (t_i 9) fun x45 =>
if x45 = 0 then (
pm_b (t_a 1 1) fun x47 =>
pm_r x47)
else (
pm_r 2))) fun (v41 : Int32) =>
pm_b (t_pa 1 1 v41) fun _ =>
pm_r ()
noncomputable def t_X4_passes (p0 : Int32) : PM TM Int32 :=
pm_b (pm_lp (fun (s1 : Int32 × Int32) =>
if p0 ≤ s1.2 then (
pm_r (Sum.inr s1.1))
else (
pm_b (t_a 1 1) fun x5 =>
if x5 = 1 then (
pm_b (t_a 1 3) fun x7 =>
pm_b (
if x7 = 1 then (
pm_r 1)
else (
pm_r 0)) fun (v8 : Int32) =>
pm_b (t_X4_stepsOn v8) fun _ =>
pm_r (Sum.inl (s1.1 + 1, s1.2 + 1)))
else (
pm_r (Sum.inr s1.1)))) (0, 0)) fun (v11 : Int32) =>
pm_r v11
noncomputable def t_X4_pass (p0 : Int32) : PM TM Int32 :=
pm_b (t_X4_within p0 1 999) fun x1 =>
pm_b (
if x1 = 0 then (
pm_r 1)
else (
pm_b (t_X4_canPass p0) fun x4 =>
if x4 = 0 then (
pm_r 2)
else (
pm_r 0))) fun (v2 : Int32) =>
pm_b (t_p 0 v2) fun _ =>
pm_b (t_i 0) fun x5 =>
if x5 ≤ 0 then (
pm_b (t_X4_saves) fun _ =>
pm_b (t_X4_passes p0) fun x7 =>
pm_r x7)
else (
pm_r 0)
noncomputable def t_X4_resets : PM TM Unit :=
pm_b (pm_lp (fun (s1 : Int32) =>
pm_b (t_a 1 0) fun x5 =>
if x5 ≤ s1 then (
pm_r (Sum.inr ()))
else (
pm_b (t_X4_puts s1 4 0) fun _ =>
pm_b (t_X4_kind s1) fun x7 =>
pm_b (
if x7 = 1 then (
pm_b (t_X4_of s1 1) fun x10 =>
pm_r (1000 * x10))
else (
pm_r 0)) fun (v8 : Int32) =>
pm_b (t_X4_puts s1 3 v8) fun _ =>
pm_r (Sum.inl (s1 + 1)))) 0) fun (v12 : Unit) =>
pm_r ()
noncomputable def t_X4_setMode (p0 : Int32) : PM TM Int32 :=
pm_b (t_X4_within p0 0 2) fun x1 =>
pm_b (
if x1 = 0 then (
pm_r 1)
else (
pm_r 0)) fun (v2 : Int32) =>
pm_b (t_p 0 v2) fun _ =>
pm_b (t_i 0) fun x4 =>
if x4 ≤ 0 then (
pm_b (t_X4_saves) fun _ =>
pm_b (t_a 1 1) fun x7 =>
pm_b (t_pa 1 1 p0) fun _ =>
pm_b (
if p0 = 0 then (
pm_b (t_X4_resets) fun _ =>
pm_r ())
else (
pm_r ())) fun (v9 : Unit) =>
pm_r x7)
else (
pm_r 0)
noncomputable def t_X4_setWay (p0 : Int32) : PM TM Int32 :=
pm_b (t_X4_within p0 0 1) fun x1 =>
pm_b (
if x1 = 0 then (
pm_r 1)
else (
pm_r 0)) fun (v2 : Int32) =>
pm_b (t_p 0 v2) fun _ =>
pm_b (t_i 0) fun x4 =>
if x4 ≤ 0 then (
pm_b (t_X4_saves) fun _ =>
pm_b (t_a 1 2) fun x7 =>
pm_b (t_pa 1 2 p0) fun _ =>
pm_r x7)
else (
pm_r 0)
noncomputable def t_X4_turnGuard : PM TM Int32 :=
pm_b (t_p 0 0) fun _ =>
pm_b (t_X4_saves) fun _ =>
pm_b (t_a 1 3) fun x4 =>
pm_b (t_pa 1 3 (1 - x4)) fun _ =>
pm_b (t_a 1 3) fun x6 =>
pm_b (
if x6 = 1 then (
pm_r 1)
else (
pm_r 0)) fun (v7 : Int32) =>
pm_b (pm_z v7) fun x9 =>
pm_r x9
noncomputable def t_X4_record (p0 : Int32) : PM TM Int32 :=
pm_b (
if p0 = (-1) then (
pm_r 0)
else (
pm_b (t_X4_isModule p0) fun x3 =>
if x3 = 0 then (
pm_r 1)
else (
pm_r 0))) fun (v1 : Int32) =>
pm_b (t_p 0 v1) fun _ =>
pm_b (t_i 0) fun x4 =>
if x4 ≤ 0 then (
pm_b (t_X4_saves) fun _ =>
pm_b (t_a 1 5) fun x7 =>
pm_b (t_pa 1 5 p0) fun _ =>
pm_b (pm_lp (fun (s9 : Int32) =>
if (24 : Int32) ≤ s9 then (
pm_r (Sum.inr ()))
else (
pm_b (t_pa 1 (10 + s9) 0) fun _ =>
pm_r (Sum.inl (s9 + 1)))) 0) fun (v13 : Unit) =>
pm_b (t_pa 1 6 0) fun _ =>
pm_b (t_pa 1 7 0) fun _ =>
pm_b (t_pa 1 8 (-1)) fun _ =>
pm_b (t_pa 1 9 (-1)) fun _ =>
pm_r x7)
else (
pm_r 0)
noncomputable def t_X4_tells (p0 : Int32) : PM TM Int32 :=
pm_b (t_p 0 0) fun _ =>
pm_r p0
noncomputable def t_X4_modules : PM TM Int32 :=
pm_b (t_a 1 0) fun x2 =>
pm_b (t_X4_tells x2) fun x3 =>
pm_r x3
noncomputable def t_X4_asks (p0 : Int32) : PM TM Int32 :=
pm_b (t_X4_isModule p0) fun x1 =>
pm_b (
if x1 = 0 then (
pm_r 1)
else (
pm_r 0)) fun (v2 : Int32) =>
pm_b (t_p 0 v2) fun _ =>
pm_b (t_i 0) fun x4 =>
pm_b (
if x4 = 0 then (
pm_r 1)
else (
pm_r 0)) fun (v5 : Int32) =>
pm_b (pm_z v5) fun x7 =>
pm_r x7
noncomputable def t_X4_kindOf (p0 : Int32) : PM TM Int32 :=
pm_b (t_X4_asks p0) fun x1 =>
pm_b (
if x1 = 0 then (
pm_r 0)
else (
pm_b (t_X4_kind p0) fun x4 =>
pm_r x4)) fun (v2 : Int32) =>
pm_r v2
noncomputable def t_X4_inputsOf (p0 : Int32) : PM TM Int32 :=
pm_b (t_X4_asks p0) fun x1 =>
pm_b (
if x1 = 0 then (
pm_r 0)
else (
pm_b (t_X4_kind p0) fun x4 =>
pm_b (t_X4_inputsOfKind x4) fun x5 =>
pm_r x5)) fun (v2 : Int32) =>
pm_r v2
noncomputable def t_X4_asksInput (p0 : Int32) (p1 : Int32) : PM TM Int32 :=
pm_b (t_X4_isInput p0 p1) fun x1 =>
pm_b (
if x1 = 0 then (
pm_r 1)
else (
pm_r 0)) fun (v2 : Int32) =>
pm_b (t_p 0 v2) fun _ =>
pm_b (t_i 0) fun x4 =>
pm_b (
if x4 = 0 then (
pm_r 1)
else (
pm_r 0)) fun (v5 : Int32) =>
pm_b (pm_z v5) fun x7 =>
pm_r x7
noncomputable def t_X4_cordIn (p0 : Int32) (p1 : Int32) : PM TM Int32 :=
pm_b (t_X4_asksInput p0 p1) fun x1 =>
pm_b (
if x1 = 0 then (
pm_r 0)
else (
pm_b (t_X4_of p0 (5 + p1)) fun x4 =>
pm_r x4)) fun (v2 : Int32) =>
pm_r v2
noncomputable def t_X4_weightOf (p0 : Int32) (p1 : Int32) : PM TM Int32 :=
pm_b (t_X4_whyNoWeight p0 p1) fun x1 =>
pm_b (t_p 0 x1) fun _ =>
pm_b (t_i 0) fun x2 =>
pm_b (
if x2 ≤ 0 then (
pm_b (t_X4_of p0 (9 + p1)) fun x5 =>
pm_r x5)
else (
pm_r 0)) fun (v3 : Int32) =>
pm_r v3
noncomputable def t_X4_settingOf (p0 : Int32) : PM TM Int32 :=
pm_b (t_X4_asks p0) fun x1 =>
pm_b (
if x1 = 0 then (
pm_r 0)
else (
pm_b (t_X4_of p0 1) fun x4 =>
pm_r x4)) fun (v2 : Int32) =>
pm_r v2
noncomputable def t_X4_asksIntegrator (p0 : Int32) : PM TM Int32 :=
pm_b (t_X4_isModule p0) fun x1 =>
pm_b (
if x1 = 0 then (
pm_r 1)
else (
pm_b (t_X4_kind p0) fun x4 =>
if x4 = 1 then (
pm_r 0)
else (
pm_r 2))) fun (v2 : Int32) =>
pm_b (t_p 0 v2) fun _ =>
pm_b (t_i 0) fun x5 =>
pm_b (
if x5 = 0 then (
pm_r 1)
else (
pm_r 0)) fun (v6 : Int32) =>
pm_b (pm_z v6) fun x8 =>
pm_r x8
noncomputable def t_X4_speedOf (p0 : Int32) : PM TM Int32 :=
pm_b (t_X4_asksIntegrator p0) fun x1 =>
pm_b (
if x1 = 0 then (
pm_r 0)
else (
pm_b (t_X4_of p0 2) fun x4 =>
pm_r x4)) fun (v2 : Int32) =>
pm_r v2
noncomputable def t_X4_manyCords : PM TM Int32 :=
pm_b (pm_lp (fun (s1 : Int32 × Int32) =>
pm_b (t_a 1 0) fun x5 =>
if x5 ≤ s1.2 then (
pm_r (Sum.inr s1.1))
else (
pm_b (pm_lp (fun (s6 : Int32 × Int32) =>
if (4 : Int32) ≤ s6.2 then (
pm_r (Sum.inr s6.1))
else (
pm_b (t_X4_of s1.2 (5 + s6.2)) fun x9 =>
pm_b (
if x9 = (-1) then (
pm_r 0)
else (
pm_r 1)) fun (v10 : Int32) =>
pm_b (pm_r (s6.1 + v10)) fun x12 =>
pm_r (Sum.inl (x12, s6.2 + 1)))) (s1.1, 0)) fun (v13 : Int32) =>
pm_r (Sum.inl (v13, s1.2 + 1)))) (0, 0)) fun (v14 : Int32) =>
pm_r v14
noncomputable def t_X4_cords : PM TM Int32 :=
pm_b (t_X4_manyCords) fun x1 =>
pm_b (t_X4_tells x1) fun x2 =>
pm_r x2
noncomputable def t_X4_mode : PM TM Int32 :=
pm_b (t_a 1 1) fun x2 =>
pm_b (t_X4_tells x2) fun x3 =>
pm_r x3
noncomputable def t_X4_way : PM TM Int32 :=
pm_b (t_a 1 2) fun x2 =>
pm_b (t_X4_tells x2) fun x3 =>
pm_r x3
noncomputable def t_X4_isGuarded : PM TM Int32 :=
pm_b (t_p 0 0) fun _ =>
pm_b (t_a 1 3) fun x2 =>
pm_b (
if x2 = 1 then (
pm_r 1)
else (
pm_r 0)) fun (v3 : Int32) =>
pm_b (pm_z v3) fun x5 =>
pm_r x5
noncomputable def t_X4_steps : PM TM Int32 :=
pm_b (t_a 1 4) fun x2 =>
pm_b (t_X4_tells x2) fun x3 =>
pm_r x3
noncomputable def t_X4_output (p0 : Int32) : PM TM Int32 :=
pm_b (t_X4_laysOuts) fun _ =>
pm_b (t_a 8 p0) fun x3 =>
pm_r x3
noncomputable def t_X4_outputOf (p0 : Int32) : PM TM Int32 :=
pm_b (t_X4_asks p0) fun x1 =>
pm_b (
if x1 = 0 then (
pm_r 0)
else (
pm_b (t_X4_output p0) fun x4 =>
pm_r x4)) fun (v2 : Int32) =>
pm_r v2
noncomputable def t_X4_outputByAsking (p0 : Int32) : PM TM Int32 :=
pm_b (t_X4_asks p0) fun x1 =>
pm_b (
if x1 = 0 then (
pm_r 0)
else (
pm_b (t_X4_output p0) fun x4 =>
pm_r x4)) fun (v2 : Int32) =>
pm_r v2
noncomputable def t_X4_inputNow (p0 : Int32) (p1 : Int32) : PM TM Int32 :=
pm_b (t_X4_laysOuts) fun _ =>
pm_b (t_X4_in p0 p1) fun x2 =>
pm_r x2
noncomputable def t_X4_inputOf (p0 : Int32) (p1 : Int32) : PM TM Int32 :=
pm_b (t_X4_asksInput p0 p1) fun x1 =>
pm_b (
if x1 = 0 then (
pm_r 0)
else (
pm_b (t_X4_inputNow p0 p1) fun x4 =>
pm_r x4)) fun (v2 : Int32) =>
pm_r v2
noncomputable def t_X4_chargeOf (p0 : Int32) : PM TM Int32 :=
pm_b (t_X4_asksIntegrator p0) fun x1 =>
pm_b (
if x1 = 0 then (
pm_r 0)
else (
pm_b (t_X4_of p0 3) fun x4 =>
pm_r x4)) fun (v2 : Int32) =>
pm_r v2
noncomputable def t_X4_rateNow (p0 : Int32) : PM TM Int32 :=
pm_b (t_X4_laysOuts) fun _ =>
pm_b (t_X4_rate p0) fun x2 =>
pm_r x2
noncomputable def t_X4_rateOf (p0 : Int32) : PM TM Int32 :=
pm_b (t_X4_asksIntegrator p0) fun x1 =>
pm_b (
if x1 = 0 then (
pm_r 0)
else (
pm_b (t_X4_rateNow p0) fun x4 =>
pm_r x4)) fun (v2 : Int32) =>
pm_r v2
noncomputable def t_X4_overNow : PM TM Int32 :=
pm_b (t_X4_laysOuts) fun _ =>
pm_b (t_i 9) fun x2 =>
pm_r x2
noncomputable def t_X4_overloaded : PM TM Int32 :=
pm_b (t_X4_overNow) fun x1 =>
pm_b (t_X4_tells x1) fun x2 =>
pm_r x2
noncomputable def t_X4_peakOf (p0 : Int32) : PM TM Int32 :=
pm_b (t_X4_asks p0) fun x1 =>
pm_b (
if x1 = 0 then (
pm_r 0)
else (
pm_b (t_X4_of p0 4) fun x4 =>
pm_r x4)) fun (v2 : Int32) =>
pm_r v2
noncomputable def t_X4_scale (p0 : Int32) : PM TM Int32 :=
pm_b (t_X4_of p0 4) fun x1 =>
pm_b (
if x1 = 0 then (
pm_r (-1))
else (
pm_b (t_X4_of p0 4) fun x4 =>
pm_b (pm_dv 10000000 x4) fun x5 =>
pm_r x5)) fun (v2 : Int32) =>
pm_r v2
noncomputable def t_X4_scaleOf (p0 : Int32) : PM TM Int32 :=
pm_b (t_X4_asks p0) fun x1 =>
pm_b (
if x1 = 0 then (
pm_r 0)
else (
pm_b (t_X4_scale p0) fun x4 =>
pm_r x4)) fun (v2 : Int32) =>
pm_r v2
noncomputable def t_X4_level (p0 : Int32) : PM TM Int32 :=
pm_b (t_X4_laysLevels) fun _ =>
pm_b (t_a 7 p0) fun x3 =>
pm_r x3
noncomputable def t_X4_levelOf (p0 : Int32) : PM TM Int32 :=
pm_b (t_X4_asks p0) fun x1 =>
pm_b (
if x1 = 0 then (
pm_r 0)
else (
pm_b (t_X4_level p0) fun x4 =>
pm_r x4)) fun (v2 : Int32) =>
pm_r v2
noncomputable def t_X4_feeders (p0 : Int32) : PM TM Int32 :=
pm_b (t_X4_asks p0) fun x1 =>
pm_b (
if x1 = 0 then (
pm_r 0)
else (
pm_b (t_X4_feedersOf p0) fun x4 =>
pm_r x4)) fun (v2 : Int32) =>
pm_r v2
noncomputable def t_X4_dependsOn (p0 : Int32) : PM TM Int32 :=
pm_b (t_X4_asks p0) fun x1 =>
pm_b (
if x1 = 0 then (
pm_r 0)
else (
pm_b (t_X4_depends p0 1) fun x4 =>
pm_r x4)) fun (v2 : Int32) =>
pm_r v2
noncomputable def t_X4_dependsByTable (p0 : Int32) : PM TM Int32 :=
pm_b (t_X4_asks p0) fun x1 =>
pm_b (
if x1 = 0 then (
pm_r 0)
else (
pm_b (t_X4_depends p0 1) fun x4 =>
pm_r x4)) fun (v2 : Int32) =>
pm_r v2
noncomputable def t_X4_circling : PM TM Int32 :=
pm_b (pm_lp (fun (s1 : Int32 × Int32) =>
pm_b (t_a 1 0) fun x5 =>
if x5 ≤ s1.2 then (
pm_r (Sum.inr s1.1))
else (
pm_b (t_X4_depends s1.2 1) fun x6 =>
pm_b (t_X4_has x6 s1.2) fun x7 =>
pm_b (
if x7 = 0 then (
pm_r 0)
else (
pm_r ((1 : Int32) <<< (s1.2 &&& 31)))) fun (v8 : Int32) =>
pm_b (pm_r (s1.1 ||| v8)) fun x10 =>
pm_r (Sum.inl (x10, s1.2 + 1)))) (0, 0)) fun (v11 : Int32) =>
pm_r v11
noncomputable def t_X4_inCircles : PM TM Int32 :=
pm_b (t_X4_circling) fun x1 =>
pm_b (t_X4_tells x1) fun x2 =>
pm_r x2
noncomputable def t_X4_endSet : PM TM Int32 :=
pm_b (t_a 1 0) fun x2 =>
pm_b (pm_r (((1 : Int32) <<< (x2 &&& 31)) - 1)) fun x3 =>
pm_b (pm_lp (fun (s4 : Int32 × Int32) =>
pm_b (t_a 1 0) fun x8 =>
if x8 ≤ s4.2 then (
pm_r (Sum.inr s4.1))
else (
pm_b (t_X4_feedersOf s4.2) fun x9 =>
pm_b (pm_r (s4.1 &&& (x9 ^^^ (-1)))) fun x10 =>
pm_r (Sum.inl (x10, s4.2 + 1)))) (x3, 0)) fun (v11 : Int32) =>
pm_r v11
noncomputable def t_X4_ends : PM TM Int32 :=
pm_b (t_X4_endSet) fun x1 =>
pm_b (t_X4_tells x1) fun x2 =>
pm_r x2
noncomputable def t_X4_recorded : PM TM Int32 :=
pm_b (t_a 1 5) fun x2 =>
pm_b (t_X4_tells x2) fun x3 =>
pm_r x3
noncomputable def t_X4_records : PM TM Int32 :=
pm_b (t_a 1 6) fun x2 =>
pm_b (t_X4_tells x2) fun x3 =>
pm_r x3
noncomputable def t_X4_recordAt (p0 : Int32) : PM TM Int32 :=
pm_b (t_a 1 6) fun x2 =>
pm_b (t_X4_within p0 0 (x2 - 1)) fun x3 =>
pm_b (
if x3 = 0 then (
pm_r 1)
else (
pm_r 0)) fun (v4 : Int32) =>
pm_b (t_p 0 v4) fun _ =>
pm_b (t_i 0) fun x6 =>
pm_b (
if x6 ≤ 0 then (
pm_b (t_a 1 6) fun x11 =>
pm_b (t_a 1 (((10 + x11) - 1) - p0)) fun x12 =>
pm_r x12)
else (
pm_r 0)) fun (v7 : Int32) =>
pm_r v7
noncomputable def t_X4_crossings : PM TM Int32 :=
pm_b (t_a 1 7) fun x2 =>
pm_b (t_X4_tells x2) fun x3 =>
pm_r x3
noncomputable def t_X4_beat : PM TM Int32 :=
pm_b (t_a 1 9) fun x2 =>
pm_b (t_X4_tells x2) fun x3 =>
pm_r x3
noncomputable def t_X4_mean : PM TM UInt64 :=
pm_b (pm_lp (fun (s1 : Int32 × Int32) =>
pm_b (t_a 1 6) fun x5 =>
if x5 ≤ s1.2 then (
pm_r (Sum.inr s1.1))
else (
pm_b (t_a 1 (10 + s1.2)) fun x7 =>
pm_b (pm_r (s1.1 + x7)) fun x8 =>
pm_r (Sum.inl (x8, s1.2 + 1)))) (0, 0)) fun (v9 : Int32) =>
pm_b (t_a 1 6) fun x11 =>
pm_b (
if x11 = 0 then (
pm_r FP.dconst0)
else (
pm_b (t_a 1 6) fun x15 =>
pm_b (pm_dd (FP.i2d v9) (FP.i2d x15)) fun x16 =>
pm_r x16)) fun (v12 : UInt64) =>
pm_r v12
noncomputable def t_X4_meanRecord : PM TM UInt64 :=
pm_b (t_p 0 0) fun _ =>
pm_b (t_X4_mean) fun x1 =>
pm_r x1
noncomputable def t_X4_wouldCircle (p0 : Int32) (p1 : Int32) : PM TM Int32 :=
pm_b (t_X4_isModule p0) fun x1 =>
pm_b (
if x1 = 0 then (
pm_r 1)
else (
pm_b (t_X4_isModule p1) fun x4 =>
if x4 = 0 then (
pm_r 1)
else (
pm_r 0))) fun (v2 : Int32) =>
pm_b (t_p 0 v2) fun _ =>
pm_b (t_i 0) fun x5 =>
pm_b (
if x5 = 0 then (
pm_b (t_X4_circles p0 p1) fun x8 =>
if x8 = 0 then (
pm_r 0)
else (
pm_r 1))
else (
pm_r 0)) fun (v6 : Int32) =>
pm_b (pm_z v6) fun x9 =>
pm_r x9
noncomputable def t_X4_keeps : PM TM Unit :=
pm_b (pm_lp (fun (s1 : Int32) =>
if (242 : Int32) ≤ s1 then (
pm_r (Sum.inr ()))
else (
pm_b (t_a 1 s1) fun x6 =>
pm_b (t_pa 6 s1 x6) fun _ =>
pm_r (Sum.inl (s1 + 1)))) 0) fun (v7 : Unit) =>
pm_r ()
noncomputable def t_X4_returns : PM TM Unit :=
pm_b (pm_lp (fun (s1 : Int32) =>
if (242 : Int32) ≤ s1 then (
pm_r (Sum.inr ()))
else (
pm_b (t_a 6 s1) fun x6 =>
pm_b (t_pa 1 s1 x6) fun _ =>
pm_r (Sum.inl (s1 + 1)))) 0) fun (v7 : Unit) =>
pm_r ()
noncomputable def t_X4_outputThen (p0 : Int32) (p1 : Int32) : PM TM Int32 :=
pm_b (t_X4_keeps) fun _ =>
pm_b (t_pa 1 1 1) fun _ =>
pm_b (t_X4_passes p1) fun x3 =>
pm_b (t_X4_output p0) fun x4 =>
pm_b (t_X4_returns) fun _ =>
pm_r x4
noncomputable def t_X4_outputIn (p0 : Int32) (p1 : Int32) : PM TM Int32 :=
pm_b (t_X4_isModule p0) fun x1 =>
pm_b (
if x1 = 0 then (
pm_r 1)
else (
pm_b (t_X4_within p1 1 200) fun x4 =>
if x4 = 0 then (
pm_r 2)
else (
pm_r 0))) fun (v2 : Int32) =>
pm_b (t_p 0 v2) fun _ =>
pm_b (t_i 0) fun x5 =>
pm_b (
if x5 ≤ 0 then (
pm_b (t_X4_outputThen p0 p1) fun x8 =>
pm_r x8)
else (
pm_r 0)) fun (v6 : Int32) =>
pm_r v6
noncomputable def t_X4_untilOver : PM TM Int32 :=
pm_b (t_X4_keeps) fun _ =>
pm_b (t_X4_laysOuts) fun _ =>
pm_b (pm_lp (fun (s3 : Int32) =>
pm_b (t_i 9) fun x6 =>
if x6 = 0 then (
if (200 : Int32) ≤ s3 then (
pm_r (Sum.inr s3))
else (
pm_b (t_X4_stepsOn 0) fun _ =>
pm_r (Sum.inl (s3 + 1))))
else (
pm_r (Sum.inr s3))) 0) fun (v8 : Int32) =>
pm_b (t_i 9) fun x9 =>
pm_b (
if x9 = 0 then (
pm_r 0)
else (
pm_r 1)) fun (v10 : Int32) =>
pm_b (t_X4_returns) fun _ =>
pm_b (
if v10 = 0 then (
pm_r (-1))
else (
pm_r v8)) fun (v13 : Int32) =>
pm_r v13
noncomputable def t_X4_stepsUntilOverload : PM TM Int32 :=
pm_b (t_X4_untilOver) fun x1 =>
pm_b (t_X4_tells x1) fun x2 =>
pm_r x2
noncomputable def t_X4_best (p0 : Int32) (p1 : Int32) (p2 : Int32) : PM TM Int32 :=
pm_b (t_X4_of p0 1) fun x1 =>
pm_b (pm_lp (fun (s2 : Int32 × Int32 × Int32) =>
if (1000 : Int32) < s2.2.2 then (
pm_r (Sum.inr s2.1))
else (
pm_b (t_X4_puts p0 1 s2.2.2) fun _ =>
pm_b (t_X4_outputThen p1 20) fun x6 =>
pm_b (t_X4_size x6) fun x7 =>
pm_b (t_X4_size (x7 - p2)) fun x8 =>
pm_b (
if s2.1 = (-1) then (
pm_r s2.2.2)
else (
if s2.2.1 ≤ x8 then (
pm_r s2.1)
else (
pm_r s2.2.2))) fun (v9 : Int32) =>
pm_b (
if v9 = s2.2.2 then (
pm_r x8)
else (
pm_r s2.2.1)) fun (v11 : Int32) =>
pm_r (Sum.inl (v9, v11, s2.2.2 + 50)))) ((-1), 0, 0)) fun (v13 : Int32) =>
pm_b (t_X4_puts p0 1 x1) fun _ =>
pm_r v13
noncomputable def t_X4_bestFactor (p0 : Int32) (p1 : Int32) (p2 : Int32) : PM TM Int32 :=
pm_b (t_X4_isModule p0) fun x1 =>
pm_b (
if x1 = 0 then (
pm_r 1)
else (
pm_b (t_X4_isModule p1) fun x4 =>
if x4 = 0 then (
pm_r 1)
else (
pm_b (t_X4_kind p0) fun x5 =>
if x5 = 2 then (
pm_b (t_X4_within p2 0 10000) fun x6 =>
if x6 = 0 then (
pm_r 2)
else (
pm_r 0))
else (
pm_r 2)))) fun (v2 : Int32) =>
pm_b (t_p 0 v2) fun _ =>
pm_b (t_i 0) fun x7 =>
pm_b (
if x7 ≤ 0 then (
pm_b (t_X4_best p0 p1 p2) fun x10 =>
pm_r x10)
else (
pm_r 0)) fun (v8 : Int32) =>
pm_r v8
noncomputable def t_X4_keep : PM TM Int32 :=
pm_b (t_p 0 0) fun _ =>
pm_b (t_p 5 1) fun _ =>
pm_b (pm_lp (fun (s1 : Int32) =>
if (242 : Int32) ≤ s1 then (
pm_r (Sum.inr ()))
else (
pm_b (t_a 1 s1) fun x6 =>
pm_b (t_pa 4 s1 x6) fun _ =>
pm_r (Sum.inl (s1 + 1)))) 0) fun (v7 : Unit) =>
pm_b (t_a 1 0) fun x9 =>
pm_r x9
noncomputable def t_X4_goBack : PM TM Int32 :=
pm_b (t_i 5) fun x1 =>
pm_b (
if x1 = 0 then (
pm_r 1)
else (
pm_r 0)) fun (v2 : Int32) =>
pm_b (t_p 0 v2) fun _ =>
pm_b (t_i 0) fun x4 =>
if x4 ≤ 0 then (
pm_b (t_X4_saves) fun _ =>
pm_b (pm_lp (fun (s6 : Int32) =>
if (242 : Int32) ≤ s6 then (
pm_r (Sum.inr ()))
else (
pm_b (t_a 4 s6) fun x11 =>
pm_b (t_pa 1 s6 x11) fun _ =>
pm_r (Sum.inl (s6 + 1)))) 0) fun (v12 : Unit) =>
pm_b (t_a 1 0) fun x14 =>
pm_r x14)
else (
pm_r 0)
noncomputable def t_X4_append (p0 : Int32) : PM TM Int32 :=
pm_b (t_X4_within p0 33 126) fun x1 =>
pm_b (
if x1 = 0 then (
pm_r 1)
else (
pm_b (t_i 13) fun x4 =>
if x4 = 60 then (
pm_r 2)
else (
pm_r 0))) fun (v2 : Int32) =>
pm_b (t_p 0 v2) fun _ =>
pm_b (t_i 0) fun x5 =>
if x5 ≤ 0 then (
pm_b (t_i 13) fun x7 =>
pm_b (t_pa 12 x7 p0) fun _ =>
pm_b (t_i 13) fun x8 =>
pm_b (t_p 13 (x8 + 1)) fun _ =>
pm_b (t_i 13) fun x9 =>
pm_r x9)
else (
pm_r 0)
noncomputable def t_X4_clearText : PM TM Int32 :=
pm_b (t_p 0 0) fun _ =>
pm_b (t_i 13) fun x1 =>
pm_b (t_p 13 0) fun _ =>
pm_r x1
noncomputable def t_X4_accepts (p0 : Int32) (p1 : Int32) : PM TM Int32 :=
pm_b (t_i 14) fun x1 =>
pm_b (t_i 13) fun x2 =>
pm_b (
if x2 ≤ x1 then (
pm_r 0)
else (
pm_b (t_i 14) fun x6 =>
pm_b (t_a 12 x6) fun x7 =>
pm_b (t_X4_within x7 p0 p1) fun x8 =>
if x8 = 0 then (
pm_r 0)
else (
pm_r 1))) fun (v3 : Int32) =>
pm_b (t_i 14) fun x9 =>
pm_b (
if v3 = 0 then (
pm_r 0)
else (
pm_r 1)) fun (v10 : Int32) =>
pm_b (t_p 14 (x9 + v10)) fun _ =>
pm_b (pm_z v3) fun x12 =>
pm_r x12
noncomputable def t_X4_readsNumber (p0 : Int32) (p1 : Int32) : PM TM Int32 :=
pm_b (
if (9 : Int32) ≤ p1 then (
pm_r 57)
else (
pm_r (48 + p1))) fun (v1 : Int32) =>
pm_b (t_X4_accepts (48 + p0) v1) fun x3 =>
if x3 = 0 then (
pm_r 0)
else (
pm_b (t_i 14) fun x5 =>
pm_b (t_a 12 (x5 - 1)) fun x6 =>
pm_b (t_p 15 (x6 - 48)) fun _ =>
pm_b (pm_lp (fun (s7 : Unit) =>
pm_b (t_i 15) fun x10 =>
if x10 ≤ 0 then (
pm_r (Sum.inr ()))
else (
pm_b (t_i 14) fun x11 =>
pm_b (t_i 13) fun x12 =>
if x12 ≤ x11 then (
pm_r (Sum.inr ()))
else (
pm_b (t_i 14) fun x14 =>
pm_b (t_a 12 x14) fun x15 =>
pm_b (t_X4_within x15 48 57) fun x16 =>
if x16 = 0 then (
pm_r (Sum.inr ()))
else (
pm_b (t_i 15) fun x17 =>
pm_b (t_i 14) fun x19 =>
pm_b (t_a 12 x19) fun x20 =>
if p1 < (((10 * x17) + x20) - 48) then (
pm_r (Sum.inr ()))
else (
pm_b (t_i 15) fun x21 =>
pm_b (t_i 14) fun x23 =>
pm_b (t_a 12 x23) fun x24 =>
pm_b (t_p 15 (((10 * x21) + x24) - 48)) fun _ =>
pm_b (t_i 14) fun x25 =>
pm_b (t_p 14 (x25 + 1)) fun _ =>
pm_r (Sum.inl ())))))) ()) fun (v26 : Unit) =>
pm_r 1)
noncomputable def t_X4_readsModule : PM TM Int32 :=
pm_b (t_X4_readsNumber 0 15) fun x1 =>
pm_b (t_i 15) fun x2 =>
pm_b (t_p 17 x2) fun _ =>
pm_b (pm_z x1) fun x3 =>
pm_r x3
noncomputable def t_X4_readsInput : PM TM Int32 :=
pm_b (t_X4_accepts 46 46) fun x1 =>
pm_b (
if x1 = 0 then (
pm_r 0)
else (
pm_b (t_X4_readsNumber 0 3) fun x4 =>
if x4 = 0 then (
pm_r 0)
else (
pm_r 1))) fun (v2 : Int32) =>
pm_b (t_i 15) fun x5 =>
pm_b (t_p 19 x5) fun _ =>
pm_b (pm_z v2) fun x6 =>
pm_r x6
noncomputable def t_X4_readsJoin : PM TM Int32 :=
pm_b (t_X4_readsModule) fun x1 =>
if x1 = 0 then (
pm_r 0)
else (
pm_b (t_X4_accepts 62 62) fun x2 =>
if x2 = 0 then (
pm_r 0)
else (
pm_b (t_X4_readsNumber 0 15) fun x3 =>
if x3 = 0 then (
pm_r 0)
else (
pm_b (t_i 15) fun x4 =>
pm_b (t_p 18 x4) fun _ =>
pm_b (t_X4_readsInput) fun x5 =>
pm_b (pm_z x5) fun x6 =>
pm_r x6)))
noncomputable def t_X4_readsVoltage : PM TM Int32 :=
pm_b (t_X4_accepts 45 45) fun x1 =>
pm_b (t_X4_readsNumber 0 10000) fun x2 =>
pm_b (
if x1 = 0 then (
pm_b (t_i 15) fun x5 =>
pm_r x5)
else (
pm_b (t_i 15) fun x6 =>
pm_r (-x6))) fun (v3 : Int32) =>
pm_b (t_p 15 v3) fun _ =>
pm_b (pm_z x2) fun x7 =>
pm_r x7
noncomputable def t_X4_readsItem : PM TM Int32 :=
pm_b (t_i 14) fun x1 =>
pm_b (t_i 13) fun x2 =>
pm_b (
if x2 ≤ x1 then (
pm_r (-1))
else (
pm_b (t_i 14) fun x6 =>
pm_b (t_a 12 x6) fun x7 =>
pm_r x7)) fun (v3 : Int32) =>
pm_b (t_p 16 v3) fun _ =>
pm_b (t_i 16) fun x8 =>
pm_b (
if x8 = 110 then (
pm_b (t_i 14) fun x11 =>
pm_b (t_p 14 (x11 + 1)) fun _ =>
pm_r ())
else (
pm_b (t_i 16) fun x12 =>
if x12 = 120 then (
pm_b (t_i 14) fun x13 =>
pm_b (t_p 14 (x13 + 1)) fun _ =>
pm_r ())
else (
pm_b (t_i 16) fun x14 =>
if x14 = 118 then (
pm_b (t_i 14) fun x15 =>
pm_b (t_p 14 (x15 + 1)) fun _ =>
pm_r ())
else (
pm_b (t_i 16) fun x16 =>
if x16 = 102 then (
pm_b (t_i 14) fun x17 =>
pm_b (t_p 14 (x17 + 1)) fun _ =>
pm_r ())
else (
pm_b (t_i 16) fun x18 =>
if x18 = 43 then (
pm_b (t_i 14) fun x19 =>
pm_b (t_p 14 (x19 + 1)) fun _ =>
pm_r ())
else (
pm_b (t_p 16 62) fun _ =>
pm_r ())))))) fun (v9 : Unit) =>
pm_b (t_i 16) fun x20 =>
pm_b (
if x20 = 110 then (
pm_b (t_X4_readsNumber 0 5) fun x37 =>
pm_r x37)
else (
pm_b (t_i 16) fun x23 =>
if x23 = 43 then (
pm_b (t_X4_readsNumber 1 999) fun x36 =>
pm_r x36)
else (
pm_b (t_i 16) fun x24 =>
if x24 = 120 then (
pm_b (t_X4_readsModule) fun x34 =>
if x34 = 0 then (
pm_r 0)
else (
pm_b (t_X4_readsInput) fun x35 =>
if x35 = 0 then (
pm_r 0)
else (
pm_r 1)))
else (
pm_b (t_i 16) fun x25 =>
if x25 = 118 then (
pm_b (t_X4_readsModule) fun x31 =>
if x31 = 0 then (
pm_r 0)
else (
pm_b (t_X4_accepts 58 58) fun x32 =>
if x32 = 0 then (
pm_r 0)
else (
pm_b (t_X4_readsVoltage) fun x33 =>
if x33 = 0 then (
pm_r 0)
else (
pm_r 1))))
else (
pm_b (t_i 16) fun x26 =>
if x26 = 102 then (
pm_b (t_X4_readsModule) fun x28 =>
if x28 = 0 then (
pm_r 0)
else (
pm_b (t_X4_accepts 58 58) fun x29 =>
if x29 = 0 then (
pm_r 0)
else (
pm_b (t_X4_readsNumber 0 1000) fun x30 =>
if x30 = 0 then (
pm_r 0)
else (
pm_r 1))))
else (
pm_b (t_X4_readsJoin) fun x27 =>
pm_r x27)))))) fun (v21 : Int32) =>
pm_b (pm_z v21) fun x38 =>
pm_r x38
noncomputable def t_X4_findError : PM TM Int32 :=
pm_b (t_p 14 0) fun _ =>
pm_b (pm_lp (fun (s1 : Unit) =>
pm_b (t_X4_readsItem) fun x4 =>
if x4 = 0 then (
pm_r (Sum.inr (Sum.inl ())))
else (
pm_b (t_i 14) fun x5 =>
pm_b (t_i 13) fun x6 =>
if x5 = x6 then (
pm_r (Sum.inr (Sum.inr (Sum.inl ()))))
else (
pm_b (t_i 14) fun x8 =>
pm_b (t_a 12 x8) fun x9 =>
if x9 = 59 then (
pm_b (t_i 14) fun x10 =>
pm_b (t_p 14 (x10 + 1)) fun _ =>
pm_r (Sum.inl ()))
else (
pm_r (Sum.inr (Sum.inr (Sum.inr ()))))))) ()) (Sum.elim (fun (v11 : Unit) =>
pm_b (t_i 14) fun x12 =>
pm_r x12) (Sum.elim (fun (v13 : Unit) =>
pm_r (-1)) (fun (v14 : Unit) =>
pm_b (t_i 14) fun x15 =>
pm_r x15)))
noncomputable def t_X4_firstError : PM TM Int32 :=
pm_b (t_p 0 0) fun _ =>
pm_b (t_X4_findError) fun x1 =>
pm_r x1
noncomputable def t_X4_canDo : PM TM Int32 :=
pm_b (t_i 16) fun x1 =>
pm_b (
if x1 = 110 then (
pm_b (t_X4_canPut) fun x23 =>
pm_r x23)
else (
pm_b (t_i 16) fun x4 =>
if x4 = 43 then (
pm_b (t_i 15) fun x21 =>
pm_b (t_X4_canPass x21) fun x22 =>
pm_r x22)
else (
pm_b (t_i 16) fun x5 =>
if x5 = 120 then (
pm_b (t_i 17) fun x18 =>
pm_b (t_i 19) fun x19 =>
pm_b (t_X4_whyNoCord x18 x19) fun x20 =>
if x20 = 0 then (
pm_r 1)
else (
pm_r 0))
else (
pm_b (t_i 16) fun x6 =>
if x6 = 118 then (
pm_b (t_i 17) fun x15 =>
pm_b (t_i 15) fun x16 =>
pm_b (t_X4_whyNoVoltage x15 x16) fun x17 =>
if x17 = 0 then (
pm_r 1)
else (
pm_r 0))
else (
pm_b (t_i 16) fun x7 =>
if x7 = 102 then (
pm_b (t_i 17) fun x12 =>
pm_b (t_i 15) fun x13 =>
pm_b (t_X4_whyNoFactor x12 x13) fun x14 =>
if x14 = 0 then (
pm_r 1)
else (
pm_r 0))
else (
pm_b (t_i 17) fun x8 =>
pm_b (t_i 18) fun x9 =>
pm_b (t_i 19) fun x10 =>
pm_b (t_X4_whyNoJoin x8 x9 x10) fun x11 =>
if x11 = 0 then (
pm_r 1)
else (
pm_r 0))))))) fun (v2 : Int32) =>
pm_b (pm_z v2) fun x24 =>
pm_r x24
noncomputable def t_X4_does : PM TM Unit :=
pm_b (t_i 16) fun x1 =>
pm_b (
if x1 = 110 then (
pm_b (t_i 15) fun x23 =>
pm_b (t_X4_putsUp x23) fun x24 =>
pm_r ())
else (
pm_b (t_i 16) fun x4 =>
if x4 = 43 then (
pm_b (t_i 15) fun x21 =>
pm_b (t_X4_passes x21) fun x22 =>
pm_r ())
else (
pm_b (t_i 16) fun x5 =>
if x5 = 120 then (
pm_b (t_i 17) fun x18 =>
pm_b (t_i 19) fun x19 =>
pm_b (t_X4_joins (-1) x18 x19) fun x20 =>
pm_r ())
else (
pm_b (t_i 16) fun x6 =>
if x6 = 118 then (
pm_b (t_i 17) fun x15 =>
pm_b (t_i 15) fun x16 =>
pm_b (t_X4_setsVoltage x15 x16) fun x17 =>
pm_r ())
else (
pm_b (t_i 16) fun x7 =>
if x7 = 102 then (
pm_b (t_i 17) fun x12 =>
pm_b (t_i 15) fun x13 =>
pm_b (t_X4_setsFactor x12 x13) fun x14 =>
pm_r ())
else (
pm_b (t_i 17) fun x8 =>
pm_b (t_i 18) fun x9 =>
pm_b (t_i 19) fun x10 =>
pm_b (t_X4_joins x8 x9 x10) fun x11 =>
pm_r ())))))) fun (v2 : Unit) =>
pm_r ()
noncomputable def t_X4_patch : PM TM Int32 :=
pm_b (t_X4_findError) fun x1 =>
pm_b (
if x1 = (-1) then (
pm_r 0)
else (
pm_r 1)) fun (v2 : Int32) =>
pm_b (t_p 0 v2) fun _ =>
pm_b (t_i 0) fun x4 =>
if x4 ≤ 0 then (
pm_b (t_X4_saves) fun _ =>
pm_b (t_p 14 0) fun _ =>
pm_b (pm_lp (fun (s6 : Int32 × Int32) =>
if s6.2 = 0 then (
pm_r (Sum.inr s6.1))
else (
pm_b (t_i 14) fun x9 =>
pm_b (t_i 13) fun x10 =>
if x10 ≤ x9 then (
pm_r (Sum.inr s6.1))
else (
pm_b (t_X4_readsItem) fun x11 =>
pm_b (t_i 14) fun x12 =>
pm_b (t_p 14 (x12 + 1)) fun _ =>
pm_b (t_X4_canDo) fun x13 =>
if x13 = 0 then (
pm_r (Sum.inl (s6.1, x13)))
else (
pm_b (t_X4_does) fun _ =>
pm_r (Sum.inl (s6.1 + 1, x13)))))) (0, 1)) fun (v15 : Int32) =>
pm_b (t_p 13 0) fun _ =>
pm_r v15)
else (
pm_r 0)
noncomputable def t_X4_undo : PM TM Int32 :=
pm_b (t_i 3) fun x1 =>
pm_b (
if x1 = 0 then (
pm_r 1)
else (
pm_r 0)) fun (v2 : Int32) =>
pm_b (t_p 0 v2) fun _ =>
pm_b (t_i 0) fun x4 =>
if x4 ≤ 0 then (
pm_b (t_i 3) fun x5 =>
pm_b (t_p 3 (x5 - 1)) fun _ =>
pm_b (pm_lp (fun (s6 : Int32) =>
if (242 : Int32) ≤ s6 then (
pm_r (Sum.inr ()))
else (
pm_b (t_i 3) fun x11 =>
pm_b (t_a 2 ((x11 * 242) + s6)) fun x12 =>
pm_b (t_pa 1 s6 x12) fun _ =>
pm_r (Sum.inl (s6 + 1)))) 0) fun (v13 : Unit) =>
pm_b (t_i 3) fun x14 =>
pm_r x14)
else (
pm_r 0)
noncomputable def t_X4_withModule (p0 : Int64) (p1 : Int32) : PM TM Int64 :=
pm_b (t_X4_kind p1) fun x1 =>
pm_b (pm_r ((31 * p0) + x1.toInt64)) fun x2 =>
pm_b (t_X4_of p1 1) fun x3 =>
pm_b (pm_r ((31 * x2) + x3.toInt64)) fun x4 =>
pm_b (t_X4_output p1) fun x5 =>
pm_b (pm_r ((31 * x4) + x5.toInt64)) fun x6 =>
pm_b (t_X4_of p1 4) fun x7 =>
pm_b (pm_r ((31 * x6) + x7.toInt64)) fun x8 =>
pm_b (t_X4_scale p1) fun x9 =>
pm_b (pm_r ((31 * x8) + x9.toInt64)) fun x10 =>
pm_b (t_a 7 p1) fun x12 =>
pm_b (pm_r ((31 * x10) + x12.toInt64)) fun x13 =>
pm_b (t_X4_depends p1 1) fun x14 =>
pm_b (pm_r ((31 * x13) + x14.toInt64)) fun x15 =>
pm_b (t_X4_outputThen p1 10) fun x16 =>
pm_b (pm_r ((31 * x15) + x16.toInt64)) fun x17 =>
pm_b (t_X4_laysOuts) fun _ =>
pm_b (pm_lp (fun (s19 : Int64 × Int32) =>
pm_b (t_X4_kind p1) fun x22 =>
pm_b (t_X4_inputsOfKind x22) fun x23 =>
if x23 ≤ s19.2 then (
pm_r (Sum.inr s19.1))
else (
pm_b (t_X4_of p1 (5 + s19.2)) fun x24 =>
pm_b (pm_r ((31 * s19.1) + x24.toInt64)) fun x25 =>
pm_b (t_X4_in p1 s19.2) fun x26 =>
pm_b (pm_r ((31 * x25) + x26.toInt64)) fun x27 =>
pm_r (Sum.inl (x27, s19.2 + 1)))) (x17, 0)) fun (v28 : Int64) =>
pm_r v28
noncomputable def t_J23_isNaN (p0 : UInt64) : PM TM Int32 :=
pm_b (
if (Op.cmpValue (FP.dcmp p0 p0) .l) = 0 then (
pm_r 0)
else (
pm_r 1)) fun (v1 : Int32) =>
pm_b (pm_z v1) fun x3 =>
pm_r x3
noncomputable def t_J23_doubleToLongBits (p0 : UInt64) : PM TM Int64 :=
pm_b (t_J23_isNaN p0) fun x1 =>
if x1 = 0 then (
pm_r p0.toInt64)
else (
pm_r 9221120237041090560)
noncomputable def t_X4_digest : PM TM Int64 :=
pm_b (t_p 0 0) fun _ =>
pm_b (t_a 1 0) fun x2 =>
pm_b (pm_r ((31 * 610) + x2.toInt64)) fun x3 =>
pm_b (t_X4_manyCords) fun x4 =>
pm_b (pm_r ((31 * x3) + x4.toInt64)) fun x5 =>
pm_b (t_a 1 1) fun x7 =>
pm_b (pm_r ((31 * x5) + x7.toInt64)) fun x8 =>
pm_b (t_a 1 2) fun x10 =>
pm_b (pm_r ((31 * x8) + x10.toInt64)) fun x11 =>
pm_b (t_a 1 3) fun x13 =>
pm_b (pm_r ((31 * x11) + x13.toInt64)) fun x14 =>
pm_b (t_a 1 4) fun x16 =>
pm_b (pm_r ((31 * x14) + x16.toInt64)) fun x17 =>
pm_b (t_X4_overNow) fun x18 =>
pm_b (pm_r ((31 * x17) + x18.toInt64)) fun x19 =>
pm_b (t_X4_circling) fun x20 =>
pm_b (pm_r ((31 * x19) + x20.toInt64)) fun x21 =>
pm_b (t_X4_endSet) fun x22 =>
pm_b (pm_r ((31 * x21) + x22.toInt64)) fun x23 =>
pm_b (t_a 1 5) fun x25 =>
pm_b (pm_r ((31 * x23) + x25.toInt64)) fun x26 =>
pm_b (t_a 1 6) fun x28 =>
pm_b (pm_r ((31 * x26) + x28.toInt64)) fun x29 =>
pm_b (t_a 1 7) fun x31 =>
pm_b (pm_r ((31 * x29) + x31.toInt64)) fun x32 =>
pm_b (t_a 1 9) fun x34 =>
pm_b (pm_r ((31 * x32) + x34.toInt64)) fun x35 =>
pm_b (t_X4_untilOver) fun x36 =>
pm_b (pm_r ((31 * x35) + x36.toInt64)) fun x37 =>
pm_b (pm_lp (fun (s38 : Int64 × Int32) =>
pm_b (t_a 1 0) fun x42 =>
if x42 ≤ s38.2 then (
pm_r (Sum.inr s38.1))
else (
pm_b (t_X4_withModule s38.1 s38.2) fun x43 =>
pm_r (Sum.inl (x43, s38.2 + 1)))) (x37, 0)) fun (v44 : Int64) =>
pm_b (pm_lp (fun (s45 : Int64 × Int32) =>
pm_b (t_a 1 0) fun x49 =>
if x49 ≤ s45.2 then (
pm_r (Sum.inr s45.1))
else (
pm_b (pm_lp (fun (s50 : Int64 × Int32) =>
if (4 : Int32) ≤ s50.2 then (
pm_r (Sum.inr s50.1))
else (
pm_b (t_X4_isWeighted s45.2) fun x53 =>
if x53 = 0 then (
pm_r (Sum.inr s50.1))
else (
pm_b (t_X4_of s45.2 (9 + s50.2)) fun x54 =>
pm_b (pm_r ((31 * s50.1) + x54.toInt64)) fun x55 =>
pm_r (Sum.inl (x55, s50.2 + 1))))) (s45.1, 0)) fun (v56 : Int64) =>
pm_r (Sum.inl (v56, s45.2 + 1)))) (v44, 0)) fun (v57 : Int64) =>
pm_b (pm_lp (fun (s58 : Int64 × Int32) =>
pm_b (t_a 1 0) fun x62 =>
if x62 ≤ s58.2 then (
pm_r (Sum.inr s58.1))
else (
pm_b (t_X4_kind s58.2) fun x63 =>
pm_b (
if x63 = 1 then (
pm_b (t_X4_of s58.2 2) fun x66 =>
pm_b (pm_r ((31 * s58.1) + x66.toInt64)) fun x67 =>
pm_b (t_X4_of s58.2 3) fun x68 =>
pm_b (pm_r ((31 * x67) + x68.toInt64)) fun x69 =>
pm_b (t_X4_rateNow s58.2) fun x70 =>
pm_b (pm_r ((31 * x69) + x70.toInt64)) fun x71 =>
pm_r x71)
else (
pm_r s58.1)) fun (v64 : Int64) =>
pm_r (Sum.inl (v64, s58.2 + 1)))) (v57, 0)) fun (v72 : Int64) =>
pm_b (t_a 1 6) fun x74 =>
pm_b (pm_r (x74 - 1)) fun x75 =>
pm_b (pm_lp (fun (s76 : Int64 × Int32) =>
if s76.2 < 0 then (
pm_r (Sum.inr s76.1))
else (
pm_b (t_a 1 (10 + s76.2)) fun x80 =>
pm_b (pm_r ((31 * s76.1) + x80.toInt64)) fun x81 =>
pm_r (Sum.inl (x81, s76.2 + (-1))))) (v72, x75)) fun (v82 : Int64) =>
pm_b (t_X4_mean) fun x83 =>
pm_b (t_J23_doubleToLongBits x83) fun x84 =>
pm_r ((31 * v82) + x84)
