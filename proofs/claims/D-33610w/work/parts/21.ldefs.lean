/-! THE LAW AS PROGRAMS -/
noncomputable def f_X0_put (g : sm_G) (p0 : Nat) (p1 : Int32) (p2 : Nat) : PM Sto Int32 :=
pm_b (pm_on 0 p0 (f_X1_put g p0 p1)) (Sum.elim (fun x1 =>
pm_b (pa_l p2 0 x1.toInt64) fun _ =>
pm_r 0) (fun (E : String) =>
if E = "java/lang/IllegalArgumentException" then (
pm_r 1)
else if E = "java/lang/IllegalStateException" then (
pm_r 2)
else pm_n))
noncomputable def f_X0_turnWeight (g : sm_G) (p0 : Nat) (p1 : Int32) (p2 : Int32) (p3 : Nat) : PM Sto Int32 :=
pm_b (pm_on 0 p0 (f_X1_turnWeight g p0 p1 p2)) (Sum.elim (fun x1 =>
pm_b (pa_l p3 0 x1.toInt64) fun _ =>
pm_r 0) (fun (E : String) =>
if E = "java/lang/IndexOutOfBoundsException" then (
pm_r 1)
else if E = "java/lang/IllegalArgumentException" then (
pm_r 2)
else pm_n))
noncomputable def f_X0_setVoltage (g : sm_G) (p0 : Nat) (p1 : Int32) (p2 : Int32) (p3 : Nat) : PM Sto Int32 :=
pm_b (pm_on 0 p0 (f_X1_setVoltage g p0 p1 p2)) (Sum.elim (fun x1 =>
pm_b (pa_l p3 0 x1.toInt64) fun _ =>
pm_r 0) (fun (E : String) =>
if E = "java/lang/IndexOutOfBoundsException" then (
pm_r 1)
else if E = "java/lang/IllegalArgumentException" then (
pm_r 2)
else pm_n))
noncomputable def f_X0_setFactor (g : sm_G) (p0 : Nat) (p1 : Int32) (p2 : Int32) (p3 : Nat) : PM Sto Int32 :=
pm_b (pm_on 0 p0 (f_X1_setFactor g p0 p1 p2)) (Sum.elim (fun x1 =>
pm_b (pa_l p3 0 x1.toInt64) fun _ =>
pm_r 0) (fun (E : String) =>
if E = "java/lang/IndexOutOfBoundsException" then (
pm_r 1)
else if E = "java/lang/IllegalArgumentException" then (
pm_r 2)
else pm_n))
noncomputable def f_X0_setSpeed (g : sm_G) (p0 : Nat) (p1 : Int32) (p2 : Int32) (p3 : Nat) : PM Sto Int32 :=
pm_b (pm_on 0 p0 (f_X1_setSpeed g p0 p1 p2)) (Sum.elim (fun x1 =>
pm_b (pa_l p3 0 x1.toInt64) fun _ =>
pm_r 0) (fun (E : String) =>
if E = "java/lang/IndexOutOfBoundsException" then (
pm_r 1)
else if E = "java/lang/IllegalArgumentException" then (
pm_r 2)
else pm_n))
noncomputable def f_X0_join (g : sm_G) (p0 : Nat) (p1 : Int32) (p2 : Int32) (p3 : Int32) (p4 : Nat) : PM Sto Int32 :=
pm_b (pm_on 0 p0 (f_X1_join g p0 p1 p2 p3)) (Sum.elim (fun x1 =>
pm_b (pa_l p4 0 x1.toInt64) fun _ =>
pm_r 0) (fun (E : String) =>
if E = "java/lang/IndexOutOfBoundsException" then (
pm_r 1)
else if E = "java/lang/IllegalStateException" then (
pm_r 2)
else pm_n))
noncomputable def f_X0_takeOut (g : sm_G) (p0 : Nat) (p1 : Int32) (p2 : Int32) (p3 : Nat) : PM Sto Int32 :=
pm_b (pm_on 0 p0 (f_X1_takeOut g p0 p1 p2)) (Sum.elim (fun x1 =>
pm_b (pa_l p3 0 x1.toInt64) fun _ =>
pm_r 0) (fun (E : String) =>
if E = "java/lang/IndexOutOfBoundsException" then (
pm_r 1)
else if E = "java/lang/IllegalStateException" then (
pm_r 2)
else pm_n))
noncomputable def f_X0_setMode (g : sm_G) (p0 : Nat) (p1 : Int32) (p2 : Nat) : PM Sto Int32 :=
pm_b (pm_on 0 p0 (f_X1_setMode g p0 p1)) (Sum.elim (fun x1 =>
pm_b (pa_l p2 0 x1.toInt64) fun _ =>
pm_r 0) (fun (E : String) =>
if E = "java/lang/IllegalArgumentException" then (
pm_r 1)
else pm_n))
noncomputable def f_X0_setWay (g : sm_G) (p0 : Nat) (p1 : Int32) (p2 : Nat) : PM Sto Int32 :=
pm_b (pm_on 0 p0 (f_X1_setWay g p0 p1)) (Sum.elim (fun x1 =>
pm_b (pa_l p2 0 x1.toInt64) fun _ =>
pm_r 0) (fun (E : String) =>
if E = "java/lang/IllegalArgumentException" then (
pm_r 1)
else pm_n))
noncomputable def f_X0_record (g : sm_G) (p0 : Nat) (p1 : Int32) (p2 : Nat) : PM Sto Int32 :=
pm_b (pm_on 0 p0 (f_X1_record g p0 p1)) (Sum.elim (fun x1 =>
pm_b (pa_l p2 0 x1.toInt64) fun _ =>
pm_r 0) (fun (E : String) =>
if E = "java/lang/IndexOutOfBoundsException" then (
pm_r 1)
else pm_n))
noncomputable def f_X0_pass (g : sm_G) (p0 : Nat) (p1 : Int32) (p2 : Nat) : PM Sto Int32 :=
pm_b (pm_on 0 p0 (f_X1_pass g p0 p1)) (Sum.elim (fun x1 =>
pm_b (pa_l p2 0 x1.toInt64) fun _ =>
pm_r 0) (fun (E : String) =>
if E = "java/lang/IllegalArgumentException" then (
pm_r 1)
else if E = "java/lang/IllegalStateException" then (
pm_r 2)
else pm_n))
noncomputable def f_X0_kindOf (g : sm_G) (p0 : Nat) (p1 : Int32) (p2 : Nat) : PM Sto Int32 :=
pm_b (pm_on 0 p0 (f_X1_kindOf g p0 p1)) (Sum.elim (fun x1 =>
pm_b (pa_l p2 0 x1.toInt64) fun _ =>
pm_r 0) (fun (E : String) =>
if E = "java/lang/IndexOutOfBoundsException" then (
pm_r 1)
else pm_n))
noncomputable def f_X0_inputsOf (g : sm_G) (p0 : Nat) (p1 : Int32) (p2 : Nat) : PM Sto Int32 :=
pm_b (pm_on 0 p0 (f_X1_inputsOf g p0 p1)) (Sum.elim (fun x1 =>
pm_b (pa_l p2 0 x1.toInt64) fun _ =>
pm_r 0) (fun (E : String) =>
if E = "java/lang/IndexOutOfBoundsException" then (
pm_r 1)
else pm_n))
noncomputable def f_X0_cordIn (g : sm_G) (p0 : Nat) (p1 : Int32) (p2 : Int32) (p3 : Nat) : PM Sto Int32 :=
pm_b (pm_on 0 p0 (f_X1_cordIn g p0 p1 p2)) (Sum.elim (fun x1 =>
pm_b (pa_l p3 0 x1.toInt64) fun _ =>
pm_r 0) (fun (E : String) =>
if E = "java/lang/IndexOutOfBoundsException" then (
pm_r 1)
else pm_n))
noncomputable def f_X0_weightOf (g : sm_G) (p0 : Nat) (p1 : Int32) (p2 : Int32) (p3 : Nat) : PM Sto Int32 :=
pm_b (pm_on 0 p0 (f_X1_weightOf g p0 p1 p2)) (Sum.elim (fun x1 =>
pm_b (pa_l p3 0 x1.toInt64) fun _ =>
pm_r 0) (fun (E : String) =>
if E = "java/lang/IndexOutOfBoundsException" then (
pm_r 1)
else if E = "java/lang/IllegalArgumentException" then (
pm_r 2)
else pm_n))
noncomputable def f_X0_settingOf (g : sm_G) (p0 : Nat) (p1 : Int32) (p2 : Nat) : PM Sto Int32 :=
pm_b (pm_on 0 p0 (f_X1_settingOf g p0 p1)) (Sum.elim (fun x1 =>
pm_b (pa_l p2 0 x1.toInt64) fun _ =>
pm_r 0) (fun (E : String) =>
if E = "java/lang/IndexOutOfBoundsException" then (
pm_r 1)
else pm_n))
noncomputable def f_X0_speedOf (g : sm_G) (p0 : Nat) (p1 : Int32) (p2 : Nat) : PM Sto Int32 :=
pm_b (pm_on 0 p0 (f_X1_speedOf g p0 p1)) (Sum.elim (fun x1 =>
pm_b (pa_l p2 0 x1.toInt64) fun _ =>
pm_r 0) (fun (E : String) =>
if E = "java/lang/IndexOutOfBoundsException" then (
pm_r 1)
else if E = "java/lang/IllegalArgumentException" then (
pm_r 2)
else pm_n))
noncomputable def f_X0_outputOf (g : sm_G) (p0 : Nat) (p1 : Int32) (p2 : Nat) : PM Sto Int32 :=
pm_b (pm_on 0 p0 (f_X1_outputOf g p0 p1)) (Sum.elim (fun x1 =>
pm_b (pa_l p2 0 x1.toInt64) fun _ =>
pm_r 0) (fun (E : String) =>
if E = "java/lang/IndexOutOfBoundsException" then (
pm_r 1)
else pm_n))
noncomputable def f_X0_outputByAsking (g : sm_G) (p0 : Nat) (p1 : Int32) (p2 : Nat) : PM Sto Int32 :=
pm_b (pm_on 0 p0 (f_X1_outputByAsking g p0 p1)) (Sum.elim (fun x1 =>
pm_b (pa_l p2 0 x1.toInt64) fun _ =>
pm_r 0) (fun (E : String) =>
if E = "java/lang/IndexOutOfBoundsException" then (
pm_r 1)
else pm_n))
noncomputable def f_X0_inputOf (g : sm_G) (p0 : Nat) (p1 : Int32) (p2 : Int32) (p3 : Nat) : PM Sto Int32 :=
pm_b (pm_on 0 p0 (f_X1_inputOf g p0 p1 p2)) (Sum.elim (fun x1 =>
pm_b (pa_l p3 0 x1.toInt64) fun _ =>
pm_r 0) (fun (E : String) =>
if E = "java/lang/IndexOutOfBoundsException" then (
pm_r 1)
else pm_n))
noncomputable def f_X0_chargeOf (g : sm_G) (p0 : Nat) (p1 : Int32) (p2 : Nat) : PM Sto Int32 :=
pm_b (pm_on 0 p0 (f_X1_chargeOf g p0 p1)) (Sum.elim (fun x1 =>
pm_b (pa_l p2 0 x1.toInt64) fun _ =>
pm_r 0) (fun (E : String) =>
if E = "java/lang/IndexOutOfBoundsException" then (
pm_r 1)
else if E = "java/lang/IllegalArgumentException" then (
pm_r 2)
else pm_n))
noncomputable def f_X0_rateOf (g : sm_G) (p0 : Nat) (p1 : Int32) (p2 : Nat) : PM Sto Int32 :=
pm_b (pm_on 0 p0 (f_X1_rateOf g p0 p1)) (Sum.elim (fun x1 =>
pm_b (pa_l p2 0 x1.toInt64) fun _ =>
pm_r 0) (fun (E : String) =>
if E = "java/lang/IndexOutOfBoundsException" then (
pm_r 1)
else if E = "java/lang/IllegalArgumentException" then (
pm_r 2)
else pm_n))
noncomputable def f_X0_peakOf (g : sm_G) (p0 : Nat) (p1 : Int32) (p2 : Nat) : PM Sto Int32 :=
pm_b (pm_on 0 p0 (f_X1_peakOf g p0 p1)) (Sum.elim (fun x1 =>
pm_b (pa_l p2 0 x1.toInt64) fun _ =>
pm_r 0) (fun (E : String) =>
if E = "java/lang/IndexOutOfBoundsException" then (
pm_r 1)
else pm_n))
noncomputable def f_X0_scaleOf (g : sm_G) (p0 : Nat) (p1 : Int32) (p2 : Nat) : PM Sto Int32 :=
pm_b (pm_on 0 p0 (f_X1_scaleOf g p0 p1)) (Sum.elim (fun x1 =>
pm_b (pa_l p2 0 x1.toInt64) fun _ =>
pm_r 0) (fun (E : String) =>
if E = "java/lang/IndexOutOfBoundsException" then (
pm_r 1)
else pm_n))
noncomputable def f_X0_levelOf (g : sm_G) (p0 : Nat) (p1 : Int32) (p2 : Nat) : PM Sto Int32 :=
pm_b (pm_on 0 p0 (f_X1_levelOf g p0 p1)) (Sum.elim (fun x1 =>
pm_b (pa_l p2 0 x1.toInt64) fun _ =>
pm_r 0) (fun (E : String) =>
if E = "java/lang/IndexOutOfBoundsException" then (
pm_r 1)
else pm_n))
noncomputable def f_X0_feeders (g : sm_G) (p0 : Nat) (p1 : Int32) (p2 : Nat) : PM Sto Int32 :=
pm_b (pm_on 0 p0 (f_X1_feeders g p0 p1)) (Sum.elim (fun x1 =>
pm_b (pa_l p2 0 x1.toInt64) fun _ =>
pm_r 0) (fun (E : String) =>
if E = "java/lang/IndexOutOfBoundsException" then (
pm_r 1)
else pm_n))
noncomputable def f_X0_dependsOn (g : sm_G) (p0 : Nat) (p1 : Int32) (p2 : Nat) : PM Sto Int32 :=
pm_b (pm_on 0 p0 (f_X1_dependsOn g p0 p1)) (Sum.elim (fun x1 =>
pm_b (pa_l p2 0 x1.toInt64) fun _ =>
pm_r 0) (fun (E : String) =>
if E = "java/lang/IndexOutOfBoundsException" then (
pm_r 1)
else pm_n))
noncomputable def f_X0_dependsByTable (g : sm_G) (p0 : Nat) (p1 : Int32) (p2 : Nat) : PM Sto Int32 :=
pm_b (pm_on 0 p0 (f_X1_dependsByTable g p0 p1)) (Sum.elim (fun x1 =>
pm_b (pa_l p2 0 x1.toInt64) fun _ =>
pm_r 0) (fun (E : String) =>
if E = "java/lang/IndexOutOfBoundsException" then (
pm_r 1)
else pm_n))
noncomputable def f_X0_recordAt (g : sm_G) (p0 : Nat) (p1 : Int32) (p2 : Nat) : PM Sto Int32 :=
pm_b (pm_on 0 p0 (f_X1_recordAt g p0 p1)) (Sum.elim (fun x1 =>
pm_b (pa_l p2 0 x1.toInt64) fun _ =>
pm_r 0) (fun (E : String) =>
if E = "java/lang/IndexOutOfBoundsException" then (
pm_r 1)
else pm_n))
noncomputable def f_X0_wouldCircle (g : sm_G) (p0 : Nat) (p1 : Int32) (p2 : Int32) (p3 : Nat) : PM Sto Int32 :=
pm_b (pm_on 0 p0 (f_X1_wouldCircle g p0 p1 p2)) (Sum.elim (fun x1 =>
pm_b (
if x1 = 0 then (
pm_r 0)
else (
pm_r 1)) fun (v2 : Int64) =>
pm_b (pa_l p3 0 v2) fun _ =>
pm_r 0) (fun (E : String) =>
if E = "java/lang/IndexOutOfBoundsException" then (
pm_r 1)
else pm_n))
noncomputable def f_X0_outputIn (g : sm_G) (p0 : Nat) (p1 : Int32) (p2 : Int32) (p3 : Nat) : PM Sto Int32 :=
pm_b (pm_on 0 p0 (f_X1_outputIn g p0 p1 p2)) (Sum.elim (fun x1 =>
pm_b (pa_l p3 0 x1.toInt64) fun _ =>
pm_r 0) (fun (E : String) =>
if E = "java/lang/IndexOutOfBoundsException" then (
pm_r 1)
else if E = "java/lang/IllegalArgumentException" then (
pm_r 2)
else pm_n))
noncomputable def f_X0_bestFactor (g : sm_G) (p0 : Nat) (p1 : Int32) (p2 : Int32) (p3 : Int32) (p4 : Nat) : PM Sto Int32 :=
pm_b (pm_on 0 p0 (f_X1_bestFactor g p0 p1 p2 p3)) (Sum.elim (fun x1 =>
pm_b (pa_l p4 0 x1.toInt64) fun _ =>
pm_r 0) (fun (E : String) =>
if E = "java/lang/IndexOutOfBoundsException" then (
pm_r 1)
else if E = "java/lang/IllegalArgumentException" then (
pm_r 2)
else pm_n))
noncomputable def f_X0_goBack (g : sm_G) (p0 : Nat) (p1 : Nat) : PM Sto Int32 :=
pm_b (pm_on 0 p0 (f_X1_goBack g p0)) (Sum.elim (fun x1 =>
pm_b (pa_l p1 0 x1.toInt64) fun _ =>
pm_r 0) (fun (E : String) =>
if E = "java/lang/IllegalStateException" then (
pm_r 1)
else pm_n))
noncomputable def f_X0_append (g : sm_G) (p0 : Nat) (p1 : Int32) (p2 : Nat) : PM Sto Int32 :=
pm_b (pm_on 0 p0 (f_X1_append g p0 p1)) (Sum.elim (fun x1 =>
pm_b (pa_l p2 0 x1.toInt64) fun _ =>
pm_r 0) (fun (E : String) =>
if E = "java/lang/IllegalArgumentException" then (
pm_r 1)
else if E = "java/lang/IllegalStateException" then (
pm_r 2)
else pm_n))
noncomputable def f_X0_patch (g : sm_G) (p0 : Nat) (p1 : Nat) : PM Sto Int32 :=
pm_b (pm_on 0 p0 (f_X1_patch g p0)) (Sum.elim (fun x1 =>
pm_b (pa_l p1 0 x1.toInt64) fun _ =>
pm_r 0) (fun (E : String) =>
if E = "java/lang/IllegalStateException" then (
pm_r 1)
else pm_n))
noncomputable def f_X0_undo (g : sm_G) (p0 : Nat) (p1 : Nat) : PM Sto Int32 :=
pm_b (pm_on 0 p0 (f_X1_undo g p0)) (Sum.elim (fun x1 =>
pm_b (pa_l p1 0 x1.toInt64) fun _ =>
pm_r 0) (fun (E : String) =>
if E = "java/lang/IllegalStateException" then (
pm_r 1)
else pm_n))
noncomputable def f_L_law (g : sm_G) (n : Nat) (xs : Nat → Int32) : PM Sto Int32 :=
pm_b (n_o 0) fun x1 =>
pm_b (f_X1_init g x1) fun _ =>
pm_b (n_o 12) fun x3 =>
pm_b (f_X4_init g x3) fun _ =>
pm_b (n_a 3 1) fun x5 =>
pm_b (pm_lp (fun (s6 : Int32) =>
if (n.toInt32 - 4) < s6 then (
pm_r (Sum.inr 1))
else (
pm_b (sc_a n xs s6) fun x9 =>
if (x9 &&& 63) = 0 then (
pm_b (sc_a n xs (s6 + 1)) fun x10 =>
pm_b (f_X0_put g x1 x10 x5) fun x11 =>
pm_b (sc_a n xs (s6 + 1)) fun x12 =>
pm_b (pm_on 12 x3 (f_X4_put g x3 x12)) fun x13 =>
pm_b (pm_on 12 x3 (f_X4_thrown g x3)) fun x14 =>
if x14 = x11 then (
if x11 = 0 then (
pm_b (a_l x5 0) fun x15 =>
if (lg_cmp x15 x13.toInt64) = 0 then (
pm_r (Sum.inl (s6 + 4)))
else (
pm_r (Sum.inr 0)))
else (
pm_r (Sum.inl (s6 + 4))))
else (
pm_r (Sum.inr 0)))
else if (x9 &&& 63) = 1 then (
pm_b (sc_a n xs (s6 + 1)) fun x16 =>
pm_b (sc_a n xs (s6 + 2)) fun x17 =>
pm_b (f_X0_turnWeight g x1 x16 x17 x5) fun x18 =>
pm_b (sc_a n xs (s6 + 1)) fun x19 =>
pm_b (sc_a n xs (s6 + 2)) fun x20 =>
pm_b (pm_on 12 x3 (f_X4_turnWeight g x3 x19 x20)) fun x21 =>
pm_b (pm_on 12 x3 (f_X4_thrown g x3)) fun x22 =>
if x22 = x18 then (
if x18 = 0 then (
pm_b (a_l x5 0) fun x23 =>
if (lg_cmp x23 x21.toInt64) = 0 then (
pm_r (Sum.inl (s6 + 4)))
else (
pm_r (Sum.inr 0)))
else (
pm_r (Sum.inl (s6 + 4))))
else (
pm_r (Sum.inr 0)))
else if (x9 &&& 63) = 2 then (
pm_b (sc_a n xs (s6 + 1)) fun x24 =>
pm_b (sc_a n xs (s6 + 2)) fun x25 =>
pm_b (f_X0_setVoltage g x1 x24 x25 x5) fun x26 =>
pm_b (sc_a n xs (s6 + 1)) fun x27 =>
pm_b (sc_a n xs (s6 + 2)) fun x28 =>
pm_b (pm_on 12 x3 (f_X4_setVoltage g x3 x27 x28)) fun x29 =>
pm_b (pm_on 12 x3 (f_X4_thrown g x3)) fun x30 =>
if x30 = x26 then (
if x26 = 0 then (
pm_b (a_l x5 0) fun x31 =>
if (lg_cmp x31 x29.toInt64) = 0 then (
pm_r (Sum.inl (s6 + 4)))
else (
pm_r (Sum.inr 0)))
else (
pm_r (Sum.inl (s6 + 4))))
else (
pm_r (Sum.inr 0)))
else if (x9 &&& 63) = 3 then (
pm_b (sc_a n xs (s6 + 1)) fun x32 =>
pm_b (sc_a n xs (s6 + 2)) fun x33 =>
pm_b (f_X0_setFactor g x1 x32 x33 x5) fun x34 =>
pm_b (sc_a n xs (s6 + 1)) fun x35 =>
pm_b (sc_a n xs (s6 + 2)) fun x36 =>
pm_b (pm_on 12 x3 (f_X4_setFactor g x3 x35 x36)) fun x37 =>
pm_b (pm_on 12 x3 (f_X4_thrown g x3)) fun x38 =>
if x38 = x34 then (
if x34 = 0 then (
pm_b (a_l x5 0) fun x39 =>
if (lg_cmp x39 x37.toInt64) = 0 then (
pm_r (Sum.inl (s6 + 4)))
else (
pm_r (Sum.inr 0)))
else (
pm_r (Sum.inl (s6 + 4))))
else (
pm_r (Sum.inr 0)))
else if (x9 &&& 63) = 4 then (
pm_b (sc_a n xs (s6 + 1)) fun x40 =>
pm_b (sc_a n xs (s6 + 2)) fun x41 =>
pm_b (f_X0_setSpeed g x1 x40 x41 x5) fun x42 =>
pm_b (sc_a n xs (s6 + 1)) fun x43 =>
pm_b (sc_a n xs (s6 + 2)) fun x44 =>
pm_b (pm_on 12 x3 (f_X4_setSpeed g x3 x43 x44)) fun x45 =>
pm_b (pm_on 12 x3 (f_X4_thrown g x3)) fun x46 =>
if x46 = x42 then (
if x42 = 0 then (
pm_b (a_l x5 0) fun x47 =>
if (lg_cmp x47 x45.toInt64) = 0 then (
pm_r (Sum.inl (s6 + 4)))
else (
pm_r (Sum.inr 0)))
else (
pm_r (Sum.inl (s6 + 4))))
else (
pm_r (Sum.inr 0)))
else if (x9 &&& 63) = 5 then (
pm_b (sc_a n xs (s6 + 1)) fun x48 =>
pm_b (sc_a n xs (s6 + 2)) fun x49 =>
pm_b (sc_a n xs (s6 + 3)) fun x50 =>
pm_b (f_X0_join g x1 x48 x49 x50 x5) fun x51 =>
pm_b (sc_a n xs (s6 + 1)) fun x52 =>
pm_b (sc_a n xs (s6 + 2)) fun x53 =>
pm_b (sc_a n xs (s6 + 3)) fun x54 =>
pm_b (pm_on 12 x3 (f_X4_join g x3 x52 x53 x54)) fun x55 =>
pm_b (pm_on 12 x3 (f_X4_thrown g x3)) fun x56 =>
if x56 = x51 then (
if x51 = 0 then (
pm_b (a_l x5 0) fun x57 =>
if (lg_cmp x57 x55.toInt64) = 0 then (
pm_r (Sum.inl (s6 + 4)))
else (
pm_r (Sum.inr 0)))
else (
pm_r (Sum.inl (s6 + 4))))
else (
pm_r (Sum.inr 0)))
else if (x9 &&& 63) = 6 then (
pm_b (sc_a n xs (s6 + 1)) fun x58 =>
pm_b (sc_a n xs (s6 + 2)) fun x59 =>
pm_b (f_X0_takeOut g x1 x58 x59 x5) fun x60 =>
pm_b (sc_a n xs (s6 + 1)) fun x61 =>
pm_b (sc_a n xs (s6 + 2)) fun x62 =>
pm_b (pm_on 12 x3 (f_X4_takeOut g x3 x61 x62)) fun x63 =>
pm_b (pm_on 12 x3 (f_X4_thrown g x3)) fun x64 =>
if x64 = x60 then (
if x60 = 0 then (
pm_b (a_l x5 0) fun x65 =>
if (lg_cmp x65 x63.toInt64) = 0 then (
pm_r (Sum.inl (s6 + 4)))
else (
pm_r (Sum.inr 0)))
else (
pm_r (Sum.inl (s6 + 4))))
else (
pm_r (Sum.inr 0)))
else if (x9 &&& 63) = 7 then (
pm_b (sc_a n xs (s6 + 1)) fun x66 =>
pm_b (f_X0_setMode g x1 x66 x5) fun x67 =>
pm_b (sc_a n xs (s6 + 1)) fun x68 =>
pm_b (pm_on 12 x3 (f_X4_setMode g x3 x68)) fun x69 =>
pm_b (pm_on 12 x3 (f_X4_thrown g x3)) fun x70 =>
if x70 = x67 then (
if x67 = 0 then (
pm_b (a_l x5 0) fun x71 =>
if (lg_cmp x71 x69.toInt64) = 0 then (
pm_r (Sum.inl (s6 + 4)))
else (
pm_r (Sum.inr 0)))
else (
pm_r (Sum.inl (s6 + 4))))
else (
pm_r (Sum.inr 0)))
else if (x9 &&& 63) = 8 then (
pm_b (sc_a n xs (s6 + 1)) fun x72 =>
pm_b (f_X0_setWay g x1 x72 x5) fun x73 =>
pm_b (sc_a n xs (s6 + 1)) fun x74 =>
pm_b (pm_on 12 x3 (f_X4_setWay g x3 x74)) fun x75 =>
pm_b (pm_on 12 x3 (f_X4_thrown g x3)) fun x76 =>
if x76 = x73 then (
if x73 = 0 then (
pm_b (a_l x5 0) fun x77 =>
if (lg_cmp x77 x75.toInt64) = 0 then (
pm_r (Sum.inl (s6 + 4)))
else (
pm_r (Sum.inr 0)))
else (
pm_r (Sum.inl (s6 + 4))))
else (
pm_r (Sum.inr 0)))
else if (x9 &&& 63) = 9 then (
pm_b (pm_on 0 x1 (f_X1_turnGuard g x1)) fun x78 =>
pm_b (pm_on 12 x3 (f_X4_turnGuard g x3)) fun x79 =>
if x78 = x79 then (
pm_r (Sum.inl (s6 + 4)))
else (
pm_r (Sum.inr 0)))
else if (x9 &&& 63) = 10 then (
pm_b (sc_a n xs (s6 + 1)) fun x80 =>
pm_b (f_X0_record g x1 x80 x5) fun x81 =>
pm_b (sc_a n xs (s6 + 1)) fun x82 =>
pm_b (pm_on 12 x3 (f_X4_record g x3 x82)) fun x83 =>
pm_b (pm_on 12 x3 (f_X4_thrown g x3)) fun x84 =>
if x84 = x81 then (
if x81 = 0 then (
pm_b (a_l x5 0) fun x85 =>
if (lg_cmp x85 x83.toInt64) = 0 then (
pm_r (Sum.inl (s6 + 4)))
else (
pm_r (Sum.inr 0)))
else (
pm_r (Sum.inl (s6 + 4))))
else (
pm_r (Sum.inr 0)))
else if (x9 &&& 63) = 11 then (
pm_b (sc_a n xs (s6 + 1)) fun x86 =>
pm_b (f_X0_pass g x1 x86 x5) fun x87 =>
pm_b (sc_a n xs (s6 + 1)) fun x88 =>
pm_b (pm_on 12 x3 (f_X4_pass g x3 x88)) fun x89 =>
pm_b (pm_on 12 x3 (f_X4_thrown g x3)) fun x90 =>
if x90 = x87 then (
if x87 = 0 then (
pm_b (a_l x5 0) fun x91 =>
if (lg_cmp x91 x89.toInt64) = 0 then (
pm_r (Sum.inl (s6 + 4)))
else (
pm_r (Sum.inr 0)))
else (
pm_r (Sum.inl (s6 + 4))))
else (
pm_r (Sum.inr 0)))
else if (x9 &&& 63) = 12 then (
pm_b (pm_on 0 x1 (f_X1_modules g x1)) fun x92 =>
pm_b (pm_on 12 x3 (f_X4_modules g x3)) fun x93 =>
if x92 = x93 then (
pm_r (Sum.inl (s6 + 4)))
else (
pm_r (Sum.inr 0)))
else if (x9 &&& 63) = 13 then (
pm_b (sc_a n xs (s6 + 1)) fun x94 =>
pm_b (f_X0_kindOf g x1 x94 x5) fun x95 =>
pm_b (sc_a n xs (s6 + 1)) fun x96 =>
pm_b (pm_on 12 x3 (f_X4_kindOf g x3 x96)) fun x97 =>
pm_b (pm_on 12 x3 (f_X4_thrown g x3)) fun x98 =>
if x98 = x95 then (
if x95 = 0 then (
pm_b (a_l x5 0) fun x99 =>
if (lg_cmp x99 x97.toInt64) = 0 then (
pm_r (Sum.inl (s6 + 4)))
else (
pm_r (Sum.inr 0)))
else (
pm_r (Sum.inl (s6 + 4))))
else (
pm_r (Sum.inr 0)))
else if (x9 &&& 63) = 14 then (
pm_b (sc_a n xs (s6 + 1)) fun x100 =>
pm_b (f_X0_inputsOf g x1 x100 x5) fun x101 =>
pm_b (sc_a n xs (s6 + 1)) fun x102 =>
pm_b (pm_on 12 x3 (f_X4_inputsOf g x3 x102)) fun x103 =>
pm_b (pm_on 12 x3 (f_X4_thrown g x3)) fun x104 =>
if x104 = x101 then (
if x101 = 0 then (
pm_b (a_l x5 0) fun x105 =>
if (lg_cmp x105 x103.toInt64) = 0 then (
pm_r (Sum.inl (s6 + 4)))
else (
pm_r (Sum.inr 0)))
else (
pm_r (Sum.inl (s6 + 4))))
else (
pm_r (Sum.inr 0)))
else if (x9 &&& 63) = 15 then (
pm_b (sc_a n xs (s6 + 1)) fun x106 =>
pm_b (sc_a n xs (s6 + 2)) fun x107 =>
pm_b (f_X0_cordIn g x1 x106 x107 x5) fun x108 =>
pm_b (sc_a n xs (s6 + 1)) fun x109 =>
pm_b (sc_a n xs (s6 + 2)) fun x110 =>
pm_b (pm_on 12 x3 (f_X4_cordIn g x3 x109 x110)) fun x111 =>
pm_b (pm_on 12 x3 (f_X4_thrown g x3)) fun x112 =>
if x112 = x108 then (
if x108 = 0 then (
pm_b (a_l x5 0) fun x113 =>
if (lg_cmp x113 x111.toInt64) = 0 then (
pm_r (Sum.inl (s6 + 4)))
else (
pm_r (Sum.inr 0)))
else (
pm_r (Sum.inl (s6 + 4))))
else (
pm_r (Sum.inr 0)))
else if (x9 &&& 63) = 16 then (
pm_b (sc_a n xs (s6 + 1)) fun x114 =>
pm_b (sc_a n xs (s6 + 2)) fun x115 =>
pm_b (f_X0_weightOf g x1 x114 x115 x5) fun x116 =>
pm_b (sc_a n xs (s6 + 1)) fun x117 =>
pm_b (sc_a n xs (s6 + 2)) fun x118 =>
pm_b (pm_on 12 x3 (f_X4_weightOf g x3 x117 x118)) fun x119 =>
pm_b (pm_on 12 x3 (f_X4_thrown g x3)) fun x120 =>
if x120 = x116 then (
if x116 = 0 then (
pm_b (a_l x5 0) fun x121 =>
if (lg_cmp x121 x119.toInt64) = 0 then (
pm_r (Sum.inl (s6 + 4)))
else (
pm_r (Sum.inr 0)))
else (
pm_r (Sum.inl (s6 + 4))))
else (
pm_r (Sum.inr 0)))
else if (x9 &&& 63) = 17 then (
pm_b (sc_a n xs (s6 + 1)) fun x122 =>
pm_b (f_X0_settingOf g x1 x122 x5) fun x123 =>
pm_b (sc_a n xs (s6 + 1)) fun x124 =>
pm_b (pm_on 12 x3 (f_X4_settingOf g x3 x124)) fun x125 =>
pm_b (pm_on 12 x3 (f_X4_thrown g x3)) fun x126 =>
if x126 = x123 then (
if x123 = 0 then (
pm_b (a_l x5 0) fun x127 =>
if (lg_cmp x127 x125.toInt64) = 0 then (
pm_r (Sum.inl (s6 + 4)))
else (
pm_r (Sum.inr 0)))
else (
pm_r (Sum.inl (s6 + 4))))
else (
pm_r (Sum.inr 0)))
else if (x9 &&& 63) = 18 then (
pm_b (sc_a n xs (s6 + 1)) fun x128 =>
pm_b (f_X0_speedOf g x1 x128 x5) fun x129 =>
pm_b (sc_a n xs (s6 + 1)) fun x130 =>
pm_b (pm_on 12 x3 (f_X4_speedOf g x3 x130)) fun x131 =>
pm_b (pm_on 12 x3 (f_X4_thrown g x3)) fun x132 =>
if x132 = x129 then (
if x129 = 0 then (
pm_b (a_l x5 0) fun x133 =>
if (lg_cmp x133 x131.toInt64) = 0 then (
pm_r (Sum.inl (s6 + 4)))
else (
pm_r (Sum.inr 0)))
else (
pm_r (Sum.inl (s6 + 4))))
else (
pm_r (Sum.inr 0)))
else if (x9 &&& 63) = 19 then (
pm_b (pm_on 0 x1 (f_X1_cords g x1)) fun x134 =>
pm_b (pm_on 12 x3 (f_X4_cords g x3)) fun x135 =>
if x134 = x135 then (
pm_r (Sum.inl (s6 + 4)))
else (
pm_r (Sum.inr 0)))
else if (x9 &&& 63) = 20 then (
pm_b (pm_on 0 x1 (f_X1_mode g x1)) fun x136 =>
pm_b (pm_on 12 x3 (f_X4_mode g x3)) fun x137 =>
if x136 = x137 then (
pm_r (Sum.inl (s6 + 4)))
else (
pm_r (Sum.inr 0)))
else if (x9 &&& 63) = 21 then (
pm_b (pm_on 0 x1 (f_X1_way g x1)) fun x138 =>
pm_b (pm_on 12 x3 (f_X4_way g x3)) fun x139 =>
if x138 = x139 then (
pm_r (Sum.inl (s6 + 4)))
else (
pm_r (Sum.inr 0)))
else if (x9 &&& 63) = 22 then (
pm_b (pm_on 0 x1 (f_X1_isGuarded g x1)) fun x140 =>
pm_b (pm_on 12 x3 (f_X4_isGuarded g x3)) fun x141 =>
if x140 = x141 then (
pm_r (Sum.inl (s6 + 4)))
else (
pm_r (Sum.inr 0)))
else if (x9 &&& 63) = 23 then (
pm_b (pm_on 0 x1 (f_X1_steps g x1)) fun x142 =>
pm_b (pm_on 12 x3 (f_X4_steps g x3)) fun x143 =>
if x142 = x143 then (
pm_r (Sum.inl (s6 + 4)))
else (
pm_r (Sum.inr 0)))
else if (x9 &&& 63) = 24 then (
pm_b (sc_a n xs (s6 + 1)) fun x144 =>
pm_b (f_X0_outputOf g x1 x144 x5) fun x145 =>
pm_b (sc_a n xs (s6 + 1)) fun x146 =>
pm_b (pm_on 12 x3 (f_X4_outputOf g x3 x146)) fun x147 =>
pm_b (pm_on 12 x3 (f_X4_thrown g x3)) fun x148 =>
if x148 = x145 then (
if x145 = 0 then (
pm_b (a_l x5 0) fun x149 =>
if (lg_cmp x149 x147.toInt64) = 0 then (
pm_r (Sum.inl (s6 + 4)))
else (
pm_r (Sum.inr 0)))
else (
pm_r (Sum.inl (s6 + 4))))
else (
pm_r (Sum.inr 0)))
else if (x9 &&& 63) = 25 then (
pm_b (sc_a n xs (s6 + 1)) fun x150 =>
pm_b (f_X0_outputByAsking g x1 x150 x5) fun x151 =>
pm_b (sc_a n xs (s6 + 1)) fun x152 =>
pm_b (pm_on 12 x3 (f_X4_outputByAsking g x3 x152)) fun x153 =>
pm_b (pm_on 12 x3 (f_X4_thrown g x3)) fun x154 =>
if x154 = x151 then (
if x151 = 0 then (
pm_b (a_l x5 0) fun x155 =>
if (lg_cmp x155 x153.toInt64) = 0 then (
pm_r (Sum.inl (s6 + 4)))
else (
pm_r (Sum.inr 0)))
else (
pm_r (Sum.inl (s6 + 4))))
else (
pm_r (Sum.inr 0)))
else if (x9 &&& 63) = 26 then (
pm_b (sc_a n xs (s6 + 1)) fun x156 =>
pm_b (sc_a n xs (s6 + 2)) fun x157 =>
pm_b (f_X0_inputOf g x1 x156 x157 x5) fun x158 =>
pm_b (sc_a n xs (s6 + 1)) fun x159 =>
pm_b (sc_a n xs (s6 + 2)) fun x160 =>
pm_b (pm_on 12 x3 (f_X4_inputOf g x3 x159 x160)) fun x161 =>
pm_b (pm_on 12 x3 (f_X4_thrown g x3)) fun x162 =>
if x162 = x158 then (
if x158 = 0 then (
pm_b (a_l x5 0) fun x163 =>
if (lg_cmp x163 x161.toInt64) = 0 then (
pm_r (Sum.inl (s6 + 4)))
else (
pm_r (Sum.inr 0)))
else (
pm_r (Sum.inl (s6 + 4))))
else (
pm_r (Sum.inr 0)))
else if (x9 &&& 63) = 27 then (
pm_b (sc_a n xs (s6 + 1)) fun x164 =>
pm_b (f_X0_chargeOf g x1 x164 x5) fun x165 =>
pm_b (sc_a n xs (s6 + 1)) fun x166 =>
pm_b (pm_on 12 x3 (f_X4_chargeOf g x3 x166)) fun x167 =>
pm_b (pm_on 12 x3 (f_X4_thrown g x3)) fun x168 =>
if x168 = x165 then (
if x165 = 0 then (
pm_b (a_l x5 0) fun x169 =>
if (lg_cmp x169 x167.toInt64) = 0 then (
pm_r (Sum.inl (s6 + 4)))
else (
pm_r (Sum.inr 0)))
else (
pm_r (Sum.inl (s6 + 4))))
else (
pm_r (Sum.inr 0)))
else if (x9 &&& 63) = 28 then (
pm_b (sc_a n xs (s6 + 1)) fun x170 =>
pm_b (f_X0_rateOf g x1 x170 x5) fun x171 =>
pm_b (sc_a n xs (s6 + 1)) fun x172 =>
pm_b (pm_on 12 x3 (f_X4_rateOf g x3 x172)) fun x173 =>
pm_b (pm_on 12 x3 (f_X4_thrown g x3)) fun x174 =>
if x174 = x171 then (
if x171 = 0 then (
pm_b (a_l x5 0) fun x175 =>
if (lg_cmp x175 x173.toInt64) = 0 then (
pm_r (Sum.inl (s6 + 4)))
else (
pm_r (Sum.inr 0)))
else (
pm_r (Sum.inl (s6 + 4))))
else (
pm_r (Sum.inr 0)))
else if (x9 &&& 63) = 29 then (
pm_b (pm_on 0 x1 (f_X1_overloaded g x1)) fun x176 =>
pm_b (pm_on 12 x3 (f_X4_overloaded g x3)) fun x177 =>
if x176 = x177 then (
pm_r (Sum.inl (s6 + 4)))
else (
pm_r (Sum.inr 0)))
else if (x9 &&& 63) = 30 then (
pm_b (sc_a n xs (s6 + 1)) fun x178 =>
pm_b (f_X0_peakOf g x1 x178 x5) fun x179 =>
pm_b (sc_a n xs (s6 + 1)) fun x180 =>
pm_b (pm_on 12 x3 (f_X4_peakOf g x3 x180)) fun x181 =>
pm_b (pm_on 12 x3 (f_X4_thrown g x3)) fun x182 =>
if x182 = x179 then (
if x179 = 0 then (
pm_b (a_l x5 0) fun x183 =>
if (lg_cmp x183 x181.toInt64) = 0 then (
pm_r (Sum.inl (s6 + 4)))
else (
pm_r (Sum.inr 0)))
else (
pm_r (Sum.inl (s6 + 4))))
else (
pm_r (Sum.inr 0)))
else if (x9 &&& 63) = 31 then (
pm_b (sc_a n xs (s6 + 1)) fun x184 =>
pm_b (f_X0_scaleOf g x1 x184 x5) fun x185 =>
pm_b (sc_a n xs (s6 + 1)) fun x186 =>
pm_b (pm_on 12 x3 (f_X4_scaleOf g x3 x186)) fun x187 =>
pm_b (pm_on 12 x3 (f_X4_thrown g x3)) fun x188 =>
if x188 = x185 then (
if x185 = 0 then (
pm_b (a_l x5 0) fun x189 =>
if (lg_cmp x189 x187.toInt64) = 0 then (
pm_r (Sum.inl (s6 + 4)))
else (
pm_r (Sum.inr 0)))
else (
pm_r (Sum.inl (s6 + 4))))
else (
pm_r (Sum.inr 0)))
else if (x9 &&& 63) = 32 then (
pm_b (sc_a n xs (s6 + 1)) fun x190 =>
pm_b (f_X0_levelOf g x1 x190 x5) fun x191 =>
pm_b (sc_a n xs (s6 + 1)) fun x192 =>
pm_b (pm_on 12 x3 (f_X4_levelOf g x3 x192)) fun x193 =>
pm_b (pm_on 12 x3 (f_X4_thrown g x3)) fun x194 =>
if x194 = x191 then (
if x191 = 0 then (
pm_b (a_l x5 0) fun x195 =>
if (lg_cmp x195 x193.toInt64) = 0 then (
pm_r (Sum.inl (s6 + 4)))
else (
pm_r (Sum.inr 0)))
else (
pm_r (Sum.inl (s6 + 4))))
else (
pm_r (Sum.inr 0)))
else if (x9 &&& 63) = 33 then (
pm_b (sc_a n xs (s6 + 1)) fun x196 =>
pm_b (f_X0_feeders g x1 x196 x5) fun x197 =>
pm_b (sc_a n xs (s6 + 1)) fun x198 =>
pm_b (pm_on 12 x3 (f_X4_feeders g x3 x198)) fun x199 =>
pm_b (pm_on 12 x3 (f_X4_thrown g x3)) fun x200 =>
if x200 = x197 then (
if x197 = 0 then (
pm_b (a_l x5 0) fun x201 =>
if (lg_cmp x201 x199.toInt64) = 0 then (
pm_r (Sum.inl (s6 + 4)))
else (
pm_r (Sum.inr 0)))
else (
pm_r (Sum.inl (s6 + 4))))
else (
pm_r (Sum.inr 0)))
else if (x9 &&& 63) = 34 then (
pm_b (sc_a n xs (s6 + 1)) fun x202 =>
pm_b (f_X0_dependsOn g x1 x202 x5) fun x203 =>
pm_b (sc_a n xs (s6 + 1)) fun x204 =>
pm_b (pm_on 12 x3 (f_X4_dependsOn g x3 x204)) fun x205 =>
pm_b (pm_on 12 x3 (f_X4_thrown g x3)) fun x206 =>
if x206 = x203 then (
if x203 = 0 then (
pm_b (a_l x5 0) fun x207 =>
if (lg_cmp x207 x205.toInt64) = 0 then (
pm_r (Sum.inl (s6 + 4)))
else (
pm_r (Sum.inr 0)))
else (
pm_r (Sum.inl (s6 + 4))))
else (
pm_r (Sum.inr 0)))
else if (x9 &&& 63) = 35 then (
pm_b (sc_a n xs (s6 + 1)) fun x208 =>
pm_b (f_X0_dependsByTable g x1 x208 x5) fun x209 =>
pm_b (sc_a n xs (s6 + 1)) fun x210 =>
pm_b (pm_on 12 x3 (f_X4_dependsByTable g x3 x210)) fun x211 =>
pm_b (pm_on 12 x3 (f_X4_thrown g x3)) fun x212 =>
if x212 = x209 then (
if x209 = 0 then (
pm_b (a_l x5 0) fun x213 =>
if (lg_cmp x213 x211.toInt64) = 0 then (
pm_r (Sum.inl (s6 + 4)))
else (
pm_r (Sum.inr 0)))
else (
pm_r (Sum.inl (s6 + 4))))
else (
pm_r (Sum.inr 0)))
else if (x9 &&& 63) = 36 then (
pm_b (pm_on 0 x1 (f_X1_inCircles g x1)) fun x214 =>
pm_b (pm_on 12 x3 (f_X4_inCircles g x3)) fun x215 =>
if x214 = x215 then (
pm_r (Sum.inl (s6 + 4)))
else (
pm_r (Sum.inr 0)))
else if (x9 &&& 63) = 37 then (
pm_b (pm_on 0 x1 (f_X1_ends g x1)) fun x216 =>
pm_b (pm_on 12 x3 (f_X4_ends g x3)) fun x217 =>
if x216 = x217 then (
pm_r (Sum.inl (s6 + 4)))
else (
pm_r (Sum.inr 0)))
else if (x9 &&& 63) = 38 then (
pm_b (pm_on 0 x1 (f_X1_recorded g x1)) fun x218 =>
pm_b (pm_on 12 x3 (f_X4_recorded g x3)) fun x219 =>
if x218 = x219 then (
pm_r (Sum.inl (s6 + 4)))
else (
pm_r (Sum.inr 0)))
else if (x9 &&& 63) = 39 then (
pm_b (pm_on 0 x1 (f_X1_records g x1)) fun x220 =>
pm_b (pm_on 12 x3 (f_X4_records g x3)) fun x221 =>
if x220 = x221 then (
pm_r (Sum.inl (s6 + 4)))
else (
pm_r (Sum.inr 0)))
else if (x9 &&& 63) = 40 then (
pm_b (sc_a n xs (s6 + 1)) fun x222 =>
pm_b (f_X0_recordAt g x1 x222 x5) fun x223 =>
pm_b (sc_a n xs (s6 + 1)) fun x224 =>
pm_b (pm_on 12 x3 (f_X4_recordAt g x3 x224)) fun x225 =>
pm_b (pm_on 12 x3 (f_X4_thrown g x3)) fun x226 =>
if x226 = x223 then (
if x223 = 0 then (
pm_b (a_l x5 0) fun x227 =>
if (lg_cmp x227 x225.toInt64) = 0 then (
pm_r (Sum.inl (s6 + 4)))
else (
pm_r (Sum.inr 0)))
else (
pm_r (Sum.inl (s6 + 4))))
else (
pm_r (Sum.inr 0)))
else if (x9 &&& 63) = 41 then (
pm_b (pm_on 0 x1 (f_X1_crossings g x1)) fun x228 =>
pm_b (pm_on 12 x3 (f_X4_crossings g x3)) fun x229 =>
if x228 = x229 then (
pm_r (Sum.inl (s6 + 4)))
else (
pm_r (Sum.inr 0)))
else if (x9 &&& 63) = 42 then (
pm_b (pm_on 0 x1 (f_X1_beat g x1)) fun x230 =>
pm_b (pm_on 12 x3 (f_X4_beat g x3)) fun x231 =>
if x230 = x231 then (
pm_r (Sum.inl (s6 + 4)))
else (
pm_r (Sum.inr 0)))
else if (x9 &&& 63) = 43 then (
pm_b (pm_on 0 x1 (f_X1_meanRecord g x1)) fun x232 =>
pm_b (pm_on 12 x3 (f_X4_meanRecord g x3)) fun x233 =>
if (Op.cmpValue (FP.dcmp x232 x233) .l) = 0 then (
pm_r (Sum.inl (s6 + 4)))
else (
if (Op.cmpValue (FP.dcmp x232 x232) .l) = 0 then (
pm_r (Sum.inr 0))
else (
if (Op.cmpValue (FP.dcmp x233 x233) .l) = 0 then (
pm_r (Sum.inr 0))
else (
pm_r (Sum.inl (s6 + 4))))))
else if (x9 &&& 63) = 44 then (
pm_b (sc_a n xs (s6 + 1)) fun x234 =>
pm_b (sc_a n xs (s6 + 2)) fun x235 =>
pm_b (f_X0_wouldCircle g x1 x234 x235 x5) fun x236 =>
pm_b (sc_a n xs (s6 + 1)) fun x237 =>
pm_b (sc_a n xs (s6 + 2)) fun x238 =>
pm_b (pm_on 12 x3 (f_X4_wouldCircle g x3 x237 x238)) fun x239 =>
pm_b (pm_on 12 x3 (f_X4_thrown g x3)) fun x240 =>
if x240 = x236 then (
if x236 = 0 then (
pm_b (a_l x5 0) fun x241 =>
pm_b (
if x239 = 0 then (
pm_r 0)
else (
pm_r 1)) fun (v242 : Int64) =>
if (lg_cmp x241 v242) = 0 then (
pm_r (Sum.inl (s6 + 4)))
else (
pm_r (Sum.inr 0)))
else (
pm_r (Sum.inl (s6 + 4))))
else (
pm_r (Sum.inr 0)))
else if (x9 &&& 63) = 45 then (
pm_b (sc_a n xs (s6 + 1)) fun x244 =>
pm_b (sc_a n xs (s6 + 2)) fun x245 =>
pm_b (f_X0_outputIn g x1 x244 x245 x5) fun x246 =>
pm_b (sc_a n xs (s6 + 1)) fun x247 =>
pm_b (sc_a n xs (s6 + 2)) fun x248 =>
pm_b (pm_on 12 x3 (f_X4_outputIn g x3 x247 x248)) fun x249 =>
pm_b (pm_on 12 x3 (f_X4_thrown g x3)) fun x250 =>
if x250 = x246 then (
if x246 = 0 then (
pm_b (a_l x5 0) fun x251 =>
if (lg_cmp x251 x249.toInt64) = 0 then (
pm_r (Sum.inl (s6 + 4)))
else (
pm_r (Sum.inr 0)))
else (
pm_r (Sum.inl (s6 + 4))))
else (
pm_r (Sum.inr 0)))
else if (x9 &&& 63) = 46 then (
pm_b (pm_on 0 x1 (f_X1_stepsUntilOverload g x1)) fun x252 =>
pm_b (pm_on 12 x3 (f_X4_stepsUntilOverload g x3)) fun x253 =>
if x252 = x253 then (
pm_r (Sum.inl (s6 + 4)))
else (
pm_r (Sum.inr 0)))
else if (x9 &&& 63) = 47 then (
pm_b (sc_a n xs (s6 + 1)) fun x254 =>
pm_b (sc_a n xs (s6 + 2)) fun x255 =>
pm_b (sc_a n xs (s6 + 3)) fun x256 =>
pm_b (f_X0_bestFactor g x1 x254 x255 x256 x5) fun x257 =>
pm_b (sc_a n xs (s6 + 1)) fun x258 =>
pm_b (sc_a n xs (s6 + 2)) fun x259 =>
pm_b (sc_a n xs (s6 + 3)) fun x260 =>
pm_b (pm_on 12 x3 (f_X4_bestFactor g x3 x258 x259 x260)) fun x261 =>
pm_b (pm_on 12 x3 (f_X4_thrown g x3)) fun x262 =>
if x262 = x257 then (
if x257 = 0 then (
pm_b (a_l x5 0) fun x263 =>
if (lg_cmp x263 x261.toInt64) = 0 then (
pm_r (Sum.inl (s6 + 4)))
else (
pm_r (Sum.inr 0)))
else (
pm_r (Sum.inl (s6 + 4))))
else (
pm_r (Sum.inr 0)))
else if (x9 &&& 63) = 48 then (
pm_b (pm_on 0 x1 (f_X1_keep g x1)) fun x264 =>
pm_b (pm_on 12 x3 (f_X4_keep g x3)) fun x265 =>
if x264 = x265 then (
pm_r (Sum.inl (s6 + 4)))
else (
pm_r (Sum.inr 0)))
else if (x9 &&& 63) = 49 then (
pm_b (f_X0_goBack g x1 x5) fun x266 =>
pm_b (pm_on 12 x3 (f_X4_goBack g x3)) fun x267 =>
pm_b (pm_on 12 x3 (f_X4_thrown g x3)) fun x268 =>
if x268 = x266 then (
if x266 = 0 then (
pm_b (a_l x5 0) fun x269 =>
if (lg_cmp x269 x267.toInt64) = 0 then (
pm_r (Sum.inl (s6 + 4)))
else (
pm_r (Sum.inr 0)))
else (
pm_r (Sum.inl (s6 + 4))))
else (
pm_r (Sum.inr 0)))
else if (x9 &&& 63) = 50 then (
pm_b (sc_a n xs (s6 + 1)) fun x270 =>
pm_b (f_X0_append g x1 x270 x5) fun x271 =>
pm_b (sc_a n xs (s6 + 1)) fun x272 =>
pm_b (pm_on 12 x3 (f_X4_append g x3 x272)) fun x273 =>
pm_b (pm_on 12 x3 (f_X4_thrown g x3)) fun x274 =>
if x274 = x271 then (
if x271 = 0 then (
pm_b (a_l x5 0) fun x275 =>
if (lg_cmp x275 x273.toInt64) = 0 then (
pm_r (Sum.inl (s6 + 4)))
else (
pm_r (Sum.inr 0)))
else (
pm_r (Sum.inl (s6 + 4))))
else (
pm_r (Sum.inr 0)))
else if (x9 &&& 63) = 51 then (
pm_b (pm_on 0 x1 (f_X1_clearText g x1)) fun x276 =>
pm_b (pm_on 12 x3 (f_X4_clearText g x3)) fun x277 =>
if x276 = x277 then (
pm_r (Sum.inl (s6 + 4)))
else (
pm_r (Sum.inr 0)))
else if (x9 &&& 63) = 52 then (
pm_b (pm_on 0 x1 (f_X1_firstError g x1)) fun x278 =>
pm_b (pm_on 12 x3 (f_X4_firstError g x3)) fun x279 =>
if x278 = x279 then (
pm_r (Sum.inl (s6 + 4)))
else (
pm_r (Sum.inr 0)))
else if (x9 &&& 63) = 53 then (
pm_b (f_X0_patch g x1 x5) fun x280 =>
pm_b (pm_on 12 x3 (f_X4_patch g x3)) fun x281 =>
pm_b (pm_on 12 x3 (f_X4_thrown g x3)) fun x282 =>
if x282 = x280 then (
if x280 = 0 then (
pm_b (a_l x5 0) fun x283 =>
if (lg_cmp x283 x281.toInt64) = 0 then (
pm_r (Sum.inl (s6 + 4)))
else (
pm_r (Sum.inr 0)))
else (
pm_r (Sum.inl (s6 + 4))))
else (
pm_r (Sum.inr 0)))
else if (x9 &&& 63) = 54 then (
pm_b (f_X0_undo g x1 x5) fun x284 =>
pm_b (pm_on 12 x3 (f_X4_undo g x3)) fun x285 =>
pm_b (pm_on 12 x3 (f_X4_thrown g x3)) fun x286 =>
if x286 = x284 then (
if x284 = 0 then (
pm_b (a_l x5 0) fun x287 =>
if (lg_cmp x287 x285.toInt64) = 0 then (
pm_r (Sum.inl (s6 + 4)))
else (
pm_r (Sum.inr 0)))
else (
pm_r (Sum.inl (s6 + 4))))
else (
pm_r (Sum.inr 0)))
else if (x9 &&& 63) = 55 then (
pm_b (pm_on 0 x1 (f_X1_digest g x1)) fun x288 =>
pm_b (pm_on 12 x3 (f_X4_digest g x3)) fun x289 =>
if (lg_cmp x288 x289) = 0 then (
pm_r (Sum.inl (s6 + 4)))
else (
pm_r (Sum.inr 0)))
else (
pm_r (Sum.inl (s6 + 4))))) 0) fun v => pm_r v
