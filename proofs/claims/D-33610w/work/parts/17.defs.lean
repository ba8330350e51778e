/-! THE METHODS AS PROGRAMS -/
noncomputable def f_J0_init (g : sm_G) (a0 : Nat) : PM Sto Unit :=
pm_r ()
noncomputable def f_J1_init (g : sm_G) (a0 : Nat) : PM Sto Unit :=
pm_b (f_J0_init g a0) fun _ =>
pm_b (p_f [10] 0 a0 (.int 0)) fun _ =>
pm_r ()
noncomputable def f_J2_init (g : sm_G) (a0 : Nat) : PM Sto Unit :=
pm_b (f_J1_init g a0) fun _ =>
pm_b (p_f [10] 1 a0 (.ref (g.2.2.2.2 3))) fun _ =>
pm_r ()
noncomputable def f_X2_init (g : sm_G) (a0 : Nat) : PM Sto Unit :=
pm_b (n_o 10) fun x1 =>
pm_b (f_J2_init g x1) fun _ =>
pm_b (p_f [1] 0 a0 (.ref x1)) fun _ =>
pm_b (n_a 0 16) fun x3 =>
pm_b (p_f [1] 1 a0 (.ref x3)) fun _ =>
pm_b (n_a 0 16) fun x4 =>
pm_b (p_f [1] 2 a0 (.ref x4)) fun _ =>
pm_b (n_a 0 4) fun x5 =>
pm_b (p_f [1] 3 a0 (.ref x5)) fun _ =>
pm_b (n_a 0 24) fun x6 =>
pm_b (p_f [1] 4 a0 (.ref x6)) fun _ =>
pm_b (p_f [1] 5 a0 (.ref (g.2.2.2.2 0))) fun _ =>
pm_b (p_f [1] 9 a0 (.int (-1))) fun _ =>
pm_b (p_f [1] 13 a0 (.int (-1))) fun _ =>
pm_r ()
noncomputable def f_J4_init (g : sm_G) (a0 : Nat) (p0 : Int32) : PM Sto Unit :=
pm_b (
if (1 : Int32) = 0 then (
pm_n)
else (
pm_r ())) fun (v1 : Unit) =>
pm_b (n_a 2 p0) fun x3 =>
pm_b (p_f [11] 0 a0 (.ref x3)) fun _ =>
pm_b (p_f [11] 1 a0 (.int 0)) fun _ =>
pm_r ()
noncomputable def f_J5_init (g : sm_G) (a0 : Nat) (p0 : Int32) : PM Sto Unit :=
pm_b (f_J4_init g a0 p0) fun _ =>
pm_r ()
noncomputable def f_X1_init (g : sm_G) (a0 : Nat) : PM Sto Unit :=
pm_b (n_o 1) fun x1 =>
pm_b (f_X2_init g x1) fun _ =>
pm_b (p_f [0] 0 a0 (.ref x1)) fun _ =>
pm_b (n_o 10) fun x3 =>
pm_b (f_J2_init g x3) fun _ =>
pm_b (p_f [0] 2 a0 (.ref x3)) fun _ =>
pm_b (n_o 11) fun x5 =>
pm_b (f_J5_init g x5 60) fun _ =>
pm_b (p_f [0] 3 a0 (.ref x5)) fun _ =>
pm_r ()
noncomputable def f_J2_size (g : sm_G) (a0 : Nat) : PM Sto Int32 :=
pm_b (g_i [10] 2 a0) fun x1 =>
pm_r x1
noncomputable def f_J14_checkIndex (g : sm_G) (p0 : Int32) (p1 : Int32) (p2 : Option Nat) : PM Sto Int32 :=
pm_b (
if p0 < 0 then (
pm_n)
else (
pm_r ())) fun (v1 : Unit) =>
pm_b (
if p0 < p1 then (
pm_r ())
else (
pm_n)) fun (v3 : Unit) =>
pm_r p0
noncomputable def f_J13_checkIndex (g : sm_G) (p0 : Int32) (p1 : Int32) : PM Sto Int32 :=
pm_b (f_J14_checkIndex g p0 p1 none) fun x1 =>
pm_r x1
noncomputable def f_J2_elementData (g : sm_G) (a0 : Nat) (p0 : Int32) : PM Sto (Option Nat) :=
pm_b (g_r [10] 1 a0) fun x1 =>
pm_b (a_q 4 x1 p0) fun x2 =>
pm_r x2
noncomputable def f_J2_get (g : sm_G) (a0 : Nat) (p0 : Int32) : PM Sto (Option Nat) :=
pm_b (g_i [10] 2 a0) fun x1 =>
pm_b (f_J13_checkIndex g p0 x1) fun x2 =>
pm_b (pm_on 10 a0 (f_J2_elementData g a0 p0)) fun x3 =>
pm_r x3
noncomputable def f_X5_init (g : sm_G) (a0 : Nat) (p0 : Int32) : PM Sto Unit :=
pm_b (n_a 0 p0) fun x1 =>
pm_b (p_f [2, 3, 4, 5, 6, 7] 0 a0 (.ref x1)) fun _ =>
pm_b (pm_lp (fun (s2 : Int32) =>
if p0 ≤ s2 then (
pm_r (Sum.inr ()))
else (
pm_b (g_r [2, 3, 4, 5, 6, 7] 0 a0) fun x5 =>
pm_b (pa_i 0 x5 s2 (-1)) fun _ =>
pm_r (Sum.inl (s2 + 1)))) 0) fun (v6 : Unit) =>
pm_r ()
noncomputable def f_X7_init (g : sm_G) (a0 : Nat) : PM Sto Unit :=
pm_b (f_X5_init g a0 4) fun _ =>
pm_r ()
noncomputable def f_X12_init (g : sm_G) (a0 : Nat) : PM Sto Unit :=
pm_b (f_X7_init g a0) fun _ =>
pm_r ()
noncomputable def f_X12_bare (g : sm_G) (a0 : Nat) : PM Sto Nat :=
pm_b (n_o 2) fun x1 =>
pm_b (f_X12_init g x1) fun _ =>
pm_r x1
noncomputable def f_X8_init (g : sm_G) (a0 : Nat) : PM Sto Unit :=
pm_b (f_X7_init g a0) fun _ =>
pm_b (p_f [3] 4 a0 (.int 100)) fun _ =>
pm_r ()
noncomputable def f_X8_bare (g : sm_G) (a0 : Nat) : PM Sto Nat :=
pm_b (n_o 3) fun x1 =>
pm_b (f_X8_init g x1) fun _ =>
pm_b (g_i [3] 3 a0) fun x3 =>
pm_b (p_f [3] 3 x1 (.int x3)) fun _ =>
pm_b (g_i [3] 4 a0) fun x4 =>
pm_b (p_f [3] 4 x1 (.int x4)) fun _ =>
pm_b (g_i [3] 5 a0) fun x5 =>
pm_b (p_f [3] 5 x1 (.int x5)) fun _ =>
pm_r x1
noncomputable def f_X9_init (g : sm_G) (a0 : Nat) : PM Sto Unit :=
pm_b (f_X5_init g a0 1) fun _ =>
pm_b (p_f [4] 2 a0 (.int 500)) fun _ =>
pm_r ()
noncomputable def f_X9_bare (g : sm_G) (a0 : Nat) : PM Sto Nat :=
pm_b (n_o 4) fun x1 =>
pm_b (f_X9_init g x1) fun _ =>
pm_b (g_i [4] 2 a0) fun x3 =>
pm_b (p_f [4] 2 x1 (.int x3)) fun _ =>
pm_r x1
noncomputable def f_X10_init (g : sm_G) (a0 : Nat) : PM Sto Unit :=
pm_b (f_X5_init g a0 2) fun _ =>
pm_r ()
noncomputable def f_X10_bare (g : sm_G) (a0 : Nat) : PM Sto Nat :=
pm_b (n_o 5) fun x1 =>
pm_b (f_X10_init g x1) fun _ =>
pm_r x1
noncomputable def f_X6_init (g : sm_G) (a0 : Nat) : PM Sto Unit :=
pm_b (f_X5_init g a0 4) fun _ =>
pm_r ()
noncomputable def f_X6_bare (g : sm_G) (a0 : Nat) : PM Sto Nat :=
pm_b (n_o 6) fun x1 =>
pm_b (f_X6_init g x1) fun _ =>
pm_r x1
noncomputable def f_X11_init (g : sm_G) (a0 : Nat) : PM Sto Unit :=
pm_b (f_X5_init g a0 0) fun _ =>
pm_b (p_f [7] 2 a0 (.int 10000)) fun _ =>
pm_r ()
noncomputable def f_X11_bare (g : sm_G) (a0 : Nat) : PM Sto Nat :=
pm_b (n_o 7) fun x1 =>
pm_b (f_X11_init g x1) fun _ =>
pm_b (g_i [7] 2 a0) fun x3 =>
pm_b (p_f [7] 2 x1 (.int x3)) fun _ =>
pm_r x1
noncomputable def f_X5_copy (g : sm_G) (a0 : Nat) : PM Sto Nat :=
pm_b (pm_vd [2, 3, 4, 5, 6, 7] a0 (fun ci => if ci = 2 then f_X12_bare g a0 else if ci = 3 then f_X8_bare g a0 else if ci = 4 then f_X9_bare g a0 else if ci = 5 then f_X10_bare g a0 else if ci = 6 then f_X6_bare g a0 else if ci = 7 then f_X11_bare g a0 else pm_n)) fun x1 =>
pm_b (pm_lp (fun (s2 : Int32) =>
pm_b (g_r [2, 3, 4, 5, 6, 7] 0 a0) fun x5 =>
pm_b (a_n g x5) fun x6 =>
if x6 ≤ s2 then (
pm_r (Sum.inr ()))
else (
pm_b (g_r [2, 3, 4, 5, 6, 7] 0 x1) fun x7 =>
pm_b (g_r [2, 3, 4, 5, 6, 7] 0 a0) fun x8 =>
pm_b (a_i 0 x8 s2) fun x9 =>
pm_b (pa_i 0 x7 s2 x9) fun _ =>
pm_r (Sum.inl (s2 + 1)))) 0) fun (v10 : Unit) =>
pm_b (g_i [2, 3, 4, 5, 6, 7] 1 a0) fun x11 =>
pm_b (p_f [2, 3, 4, 5, 6, 7] 1 x1 (.int x11)) fun _ =>
pm_r x1
noncomputable def f_X7_copy (g : sm_G) (a0 : Nat) : PM Sto Nat :=
pm_b (pm_vd [2, 3] a0 (fun _ => f_X5_copy g a0)) fun x1 =>
pm_b (c_q [2, 3] (some x1)) fun x2 =>
pm_b (g_i [2, 3] 2 a0) fun x3 =>
pm_b (p_f [2, 3] 2 x2 (.int x3)) fun _ =>
pm_r x2
noncomputable def f_J15_newLength (g : sm_G) (p0 : Int32) (p1 : Int32) (p2 : Int32) : PM Sto Int32 :=
pm_b (pm_r (p0 + (j_max p1 p2))) fun x1 =>
pm_b (
if x1 ≤ 0 then (
pm_n)
else (
pm_r ())) fun (v2 : Unit) =>
pm_b (
if (2147483639 : Int32) < x1 then (
pm_n)
else (
pm_r ())) fun (v4 : Unit) =>
pm_r x1
noncomputable def f_J17_copyOf_2 (g : sm_G) (p0 : Nat) (p1 : Int32) (p2 : Nat) : PM Sto Nat :=
pm_b (
if p2 = (g.2.2.2.2 4) then (
pm_r ())
else (
pm_n)) fun (v1 : Unit) =>
pm_b (n_q p1) fun x3 =>
pm_b (a_n g p0) fun x4 =>
pm_b (ac_q p0 0 x3 0 (j_min x4 p1)) fun _ =>
pm_r x3
noncomputable def f_J17_copyOf (g : sm_G) (p0 : Nat) (p1 : Int32) : PM Sto Nat :=
pm_b (c_a 4 p0) fun _ =>
pm_b (f_J17_copyOf_2 g p0 p1 (g.2.2.2.2 4)) fun x1 =>
pm_r x1
noncomputable def f_J2_grow_2 (g : sm_G) (a0 : Nat) (p0 : Int32) : PM Sto Nat :=
pm_b (g_r [10] 1 a0) fun x1 =>
pm_b (a_n g x1) fun x2 =>
if (0 : Int32) < x2 then (
pm_b (f_J15_newLength g x2 (p0 - x2) (x2 >>> (1 &&& 31))) fun x3 =>
pm_b (g_r [10] 1 a0) fun x4 =>
pm_b (f_J17_copyOf g x4 x3) fun x5 =>
pm_b (p_f [10] 1 a0 (.ref x5)) fun _ =>
pm_r x5)
else (
pm_b (g_r [10] 1 a0) fun x6 =>
if x6 = (g.2.2.2.2 3) then (
pm_b (n_q (j_max 10 p0)) fun x7 =>
pm_b (p_f [10] 1 a0 (.ref x7)) fun _ =>
pm_r x7)
else (
pm_b (f_J15_newLength g x2 (p0 - x2) (x2 >>> (1 &&& 31))) fun x8 =>
pm_b (g_r [10] 1 a0) fun x9 =>
pm_b (f_J17_copyOf g x9 x8) fun x10 =>
pm_b (p_f [10] 1 a0 (.ref x10)) fun _ =>
pm_r x10))
noncomputable def f_J2_grow (g : sm_G) (a0 : Nat) : PM Sto Nat :=
pm_b (g_i [10] 2 a0) fun x1 =>
pm_b (pm_on 10 a0 (f_J2_grow_2 g a0 (x1 + 1))) fun x2 =>
pm_r x2
noncomputable def f_J2_add_2 (g : sm_G) (a0 : Nat) (p0 : Nat) (p1 : Nat) (p2 : Int32) : PM Sto Unit :=
pm_b (a_n g p1) fun x1 =>
pm_b (
if p2 = x1 then (
pm_b (pm_on 10 a0 (f_J2_grow g a0)) fun x4 =>
pm_r x4)
else (
pm_r p1)) fun (v2 : Nat) =>
pm_b (pa_q v2 p2 (some p0)) fun _ =>
pm_b (p_f [10] 2 a0 (.int (p2 + 1))) fun _ =>
pm_r ()
noncomputable def f_J2_add (g : sm_G) (a0 : Nat) (p0 : Nat) : PM Sto Int32 :=
pm_b (g_i [10] 0 a0) fun x1 =>
pm_b (p_f [10] 0 a0 (.int (x1 + 1))) fun _ =>
pm_b (g_r [10] 1 a0) fun x2 =>
pm_b (g_i [10] 2 a0) fun x3 =>
pm_b (pm_on 10 a0 (f_J2_add_2 g a0 p0 x2 x3)) fun _ =>
pm_r 1
noncomputable def f_X2_copy (g : sm_G) (a0 : Nat) : PM Sto Nat :=
pm_b (n_o 1) fun x1 =>
pm_b (f_X2_init g x1) fun _ =>
pm_b (g_r [1] 0 a0) fun x3 =>
pm_b (pm_on 10 x3 (f_J2_size g x3)) fun x4 =>
pm_b (pm_lp (fun (s5 : Int32) =>
if x4 ≤ s5 then (
pm_r (Sum.inr ()))
else (
pm_b (g_r [1] 0 x1) fun x8 =>
pm_b (g_r [1] 0 a0) fun x9 =>
pm_b (pm_on 10 x9 (f_J2_get g x9 s5)) fun x10 =>
pm_b (c_q [2, 3, 4, 5, 6, 7] x10) fun x11 =>
pm_b (pm_vd [2, 3, 4, 5, 6, 7] x11 (fun ci => if ci = 2 then f_X7_copy g x11 else if ci = 3 then f_X7_copy g x11 else if ci = 4 then f_X5_copy g x11 else if ci = 5 then f_X5_copy g x11 else if ci = 6 then f_X5_copy g x11 else if ci = 7 then f_X5_copy g x11 else pm_n)) fun x12 =>
pm_b (pm_on 10 x8 (f_J2_add g x8 x12)) fun x13 =>
pm_b (g_r [1] 1 x1) fun x14 =>
pm_b (g_r [1] 1 a0) fun x15 =>
pm_b (a_i 0 x15 s5) fun x16 =>
pm_b (pa_i 0 x14 s5 x16) fun _ =>
pm_r (Sum.inl (s5 + 1)))) 0) fun (v17 : Unit) =>
pm_b (pm_lp (fun (s18 : Int32) =>
pm_b (g_i [1] 10 a0) fun x21 =>
if x21 ≤ s18 then (
pm_r (Sum.inr ()))
else (
pm_b (g_r [1] 4 x1) fun x22 =>
pm_b (g_r [1] 4 a0) fun x23 =>
pm_b (a_i 0 x23 s18) fun x24 =>
pm_b (pa_i 0 x22 s18 x24) fun _ =>
pm_r (Sum.inl (s18 + 1)))) 0) fun (v25 : Unit) =>
pm_b (g_r [1] 5 a0) fun x26 =>
pm_b (p_f [1] 5 x1 (.ref x26)) fun _ =>
pm_b (g_i [1] 6 a0) fun x27 =>
pm_b (pm_z x27) fun x28 =>
pm_b (p_f [1] 6 x1 (.int x28)) fun _ =>
pm_b (g_i [1] 7 a0) fun x30 =>
pm_b (p_f [1] 7 x1 (.int x30)) fun _ =>
pm_b (g_i [1] 8 a0) fun x31 =>
pm_b (p_f [1] 8 x1 (.int x31)) fun _ =>
pm_b (g_i [1] 9 a0) fun x32 =>
pm_b (p_f [1] 9 x1 (.int x32)) fun _ =>
pm_b (g_i [1] 10 a0) fun x33 =>
pm_b (p_f [1] 10 x1 (.int x33)) fun _ =>
pm_b (g_i [1] 11 a0) fun x34 =>
pm_b (p_f [1] 11 x1 (.int x34)) fun _ =>
pm_b (g_i [1] 12 a0) fun x35 =>
pm_b (p_f [1] 12 x1 (.int x35)) fun _ =>
pm_b (g_i [1] 13 a0) fun x36 =>
pm_b (p_f [1] 13 x1 (.int x36)) fun _ =>
pm_r x1
noncomputable def f_X2_size (g : sm_G) (a0 : Nat) : PM Sto Int32 :=
pm_b (g_r [1] 0 a0) fun x1 =>
pm_b (pm_on 10 x1 (f_J2_size g x1)) fun x2 =>
pm_r x2
noncomputable def f_X1_modules (g : sm_G) (a0 : Nat) : PM Sto Int32 :=
pm_b (g_r [0] 0 a0) fun x1 =>
pm_b (pm_on 1 x1 (f_X2_size g x1)) fun x2 =>
pm_r x2
noncomputable def f_X1_keep (g : sm_G) (a0 : Nat) : PM Sto Int32 :=
pm_b (g_r [0] 0 a0) fun x1 =>
pm_b (pm_on 1 x1 (f_X2_copy g x1)) fun x2 =>
pm_b (p_f [0] 1 a0 (.ref x2)) fun _ =>
pm_b (pm_on 0 a0 (f_X1_modules g a0)) fun x3 =>
pm_r x3
noncomputable def f_J2_fastRemove (g : sm_G) (a0 : Nat) (p0 : Nat) (p1 : Int32) : PM Sto Unit :=
pm_b (g_i [10] 0 a0) fun x1 =>
pm_b (p_f [10] 0 a0 (.int (x1 + 1))) fun _ =>
pm_b (g_i [10] 2 a0) fun x2 =>
pm_b (pm_r (x2 - 1)) fun x3 =>
pm_b (
if x3 ≤ p1 then (
pm_r ())
else (
pm_b (ac_q p0 (p1 + 1) p0 p1 (x3 - p1)) fun _ =>
pm_r ())) fun (v4 : Unit) =>
pm_b (p_f [10] 2 a0 (.int x3)) fun _ =>
pm_b (pa_q p0 x3 none) fun _ =>
pm_r ()
noncomputable def f_J2_remove (g : sm_G) (a0 : Nat) (p0 : Int32) : PM Sto (Option Nat) :=
pm_b (g_i [10] 2 a0) fun x1 =>
pm_b (f_J13_checkIndex g p0 x1) fun x2 =>
pm_b (g_r [10] 1 a0) fun x3 =>
pm_b (a_q 4 x3 p0) fun x4 =>
pm_b (pm_sm x4) fun x5 =>
pm_b (pm_on 10 a0 (f_J2_fastRemove g a0 x3 p0)) fun _ =>
pm_r (some x5)
noncomputable def f_X1_remember (g : sm_G) (a0 : Nat) (p0 : Nat) : PM Sto Unit :=
pm_b (g_r [0] 2 a0) fun x1 =>
pm_b (pm_on 10 x1 (f_J2_size g x1)) fun x2 =>
pm_b (
if x2 = 6 then (
pm_b (g_r [0] 2 a0) fun x5 =>
pm_b (pm_on 10 x5 (f_J2_remove g x5 0)) fun x6 =>
pm_r ())
else (
pm_r ())) fun (v3 : Unit) =>
pm_b (g_r [0] 2 a0) fun x7 =>
pm_b (pm_on 10 x7 (f_J2_add g x7 p0)) fun x8 =>
pm_r ()
noncomputable def f_X1_save (g : sm_G) (a0 : Nat) : PM Sto Unit :=
pm_b (g_r [0] 0 a0) fun x1 =>
pm_b (pm_on 1 x1 (f_X2_copy g x1)) fun x2 =>
pm_b (pm_on 0 a0 (f_X1_remember g a0 x2)) fun _ =>
pm_r ()
noncomputable def f_X1_turnGuard (g : sm_G) (a0 : Nat) : PM Sto Int32 :=
pm_b (pm_on 0 a0 (f_X1_save g a0)) fun _ =>
pm_b (g_r [0] 0 a0) fun x2 =>
pm_b (g_r [0] 0 a0) fun x3 =>
pm_b (g_i [1] 6 x3) fun x4 =>
pm_b (
if x4 = 0 then (
pm_r 1)
else (
pm_r 0)) fun (v5 : Int32) =>
pm_b (pm_z v5) fun x7 =>
pm_b (p_f [1] 6 x2 (.int x7)) fun _ =>
pm_b (g_r [0] 0 a0) fun x9 =>
pm_b (g_i [1] 6 x9) fun x10 =>
pm_b (pm_z x10) fun x11 =>
pm_r x11
noncomputable def f_X2_part (g : sm_G) (a0 : Nat) (p0 : Int32) : PM Sto Nat :=
pm_b (g_r [1] 0 a0) fun x1 =>
pm_b (pm_on 10 x1 (f_J2_get g x1 p0)) fun x2 =>
pm_b (c_q [2, 3, 4, 5, 6, 7] x2) fun x3 =>
pm_r x3
noncomputable def f_X2_cords (g : sm_G) (a0 : Nat) : PM Sto Int32 :=
pm_b (pm_lp (fun (s1 : Int32 × Int32) =>
pm_b (pm_on 1 a0 (f_X2_size g a0)) fun x4 =>
if x4 ≤ s1.2 then (
pm_r (Sum.inr s1.1))
else (
pm_b (pm_on 1 a0 (f_X2_part g a0 s1.2)) fun x5 =>
pm_b (g_r [2, 3, 4, 5, 6, 7] 0 x5) fun x6 =>
pm_b (pm_lp (fun (s7 : Int32 × Int32) =>
pm_b (a_n g x6) fun x10 =>
if x10 ≤ s7.2 then (
pm_r (Sum.inr s7.1))
else (
pm_b (a_i 0 x6 s7.2) fun x11 =>
pm_b (
if x11 = (-1) then (
pm_r 0)
else (
pm_r 1)) fun (v12 : Int32) =>
pm_b (pm_r (s7.1 + v12)) fun x14 =>
pm_r (Sum.inl (x14, s7.2 + 1)))) (s1.1, 0)) fun (v15 : Int32) =>
pm_r (Sum.inl (v15, s1.2 + 1)))) (0, 0)) fun (v16 : Int32) =>
pm_r v16
noncomputable def f_X1_cords (g : sm_G) (a0 : Nat) : PM Sto Int32 :=
pm_b (g_r [0] 0 a0) fun x1 =>
pm_b (pm_on 1 x1 (f_X2_cords g x1)) fun x2 =>
pm_r x2
noncomputable def f_X1_mode (g : sm_G) (a0 : Nat) : PM Sto Int32 :=
pm_b (g_r [0] 0 a0) fun x1 =>
pm_b (g_i [1] 7 x1) fun x2 =>
pm_r x2
noncomputable def f_J3_ordinal (g : sm_G) (a0 : Nat) : PM Sto Int32 :=
pm_b (w_if g a0 (pm_r 0) (pm_r 1)) fun x1 =>
pm_r x1
noncomputable def f_X1_way (g : sm_G) (a0 : Nat) : PM Sto Int32 :=
pm_b (g_r [0] 0 a0) fun x1 =>
pm_b (g_r [1] 5 x1) fun x2 =>
pm_b (w_if g x2 (f_J3_ordinal g x2) (f_J3_ordinal g x2)) fun x3 =>
pm_r x3
noncomputable def f_X1_isGuarded (g : sm_G) (a0 : Nat) : PM Sto Int32 :=
pm_b (g_r [0] 0 a0) fun x1 =>
pm_b (g_i [1] 6 x1) fun x2 =>
pm_b (pm_z x2) fun x3 =>
pm_r x3
noncomputable def f_X1_steps (g : sm_G) (a0 : Nat) : PM Sto Int32 :=
pm_b (g_r [0] 0 a0) fun x1 =>
pm_b (g_i [1] 8 x1) fun x2 =>
pm_r x2
noncomputable def f_X2_tellInputs (g : sm_G) (a0 : Nat) (p0 : Nat) : PM Sto Unit :=
pm_b (pm_lp (fun (s1 : Int32) =>
pm_b (g_r [2, 3, 4, 5, 6, 7] 0 p0) fun x4 =>
pm_b (a_n g x4) fun x5 =>
if x5 ≤ s1 then (
pm_r (Sum.inr ()))
else (
pm_b (g_r [1] 3 a0) fun x6 =>
pm_b (g_r [2, 3, 4, 5, 6, 7] 0 p0) fun x7 =>
pm_b (a_i 0 x7 s1) fun x8 =>
pm_b (
if x8 = (-1) then (
pm_r 0)
else (
pm_b (g_r [1] 2 a0) fun x11 =>
pm_b (g_r [2, 3, 4, 5, 6, 7] 0 p0) fun x12 =>
pm_b (a_i 0 x12 s1) fun x13 =>
pm_b (a_i 0 x11 x13) fun x14 =>
pm_r x14)) fun (v9 : Int32) =>
pm_b (pa_i 0 x6 s1 v9) fun _ =>
pm_r (Sum.inl (s1 + 1)))) 0) fun (v15 : Unit) =>
pm_r ()
noncomputable def f_X1_has (g : sm_G) (p0 : Int32) (p1 : Int32) : PM Sto Int32 :=
pm_b (
if ((p0 >>> (p1 &&& 31)) &&& 1) = 1 then (
pm_r 1)
else (
pm_r 0)) fun (v1 : Int32) =>
pm_b (pm_z v1) fun x3 =>
pm_r x3
noncomputable def f_X7_weight (g : sm_G) (a0 : Nat) (p0 : Int32) : PM Sto Int32 :=
pm_b (g_i [2, 3] 2 a0) fun x1 =>
pm_b (f_X1_has g x1 p0) fun x2 =>
pm_b (
if x2 = 0 then (
pm_r 1)
else (
pm_r 10)) fun (v3 : Int32) =>
pm_r v3
noncomputable def f_X7_turnedSum (g : sm_G) (a0 : Nat) (p0 : Nat) : PM Sto Int32 :=
pm_b (pm_lp (fun (s1 : Int32 × Int32) =>
if (4 : Int32) ≤ s1.2 then (
pm_r (Sum.inr s1.1))
else (
pm_b (pm_vd [2, 3] a0 (fun _ => f_X7_weight g a0 s1.2)) fun x4 =>
pm_b (a_i 0 p0 s1.2) fun x5 =>
pm_b (pm_r (s1.1 - (x4 * x5))) fun x6 =>
pm_r (Sum.inl (x6, s1.2 + 1)))) (0, 0)) fun (v7 : Int32) =>
pm_r v7
noncomputable def f_X12_raw (g : sm_G) (a0 : Nat) (p0 : Nat) : PM Sto Int32 :=
pm_b (pm_on 2 a0 (f_X7_turnedSum g a0 p0)) fun x1 =>
pm_r x1
noncomputable def f_X8_raw (g : sm_G) (a0 : Nat) (p0 : Nat) : PM Sto Int32 :=
pm_b (g_i [3] 5 a0) fun x1 =>
pm_r (x1 / 1000)
noncomputable def f_X9_raw (g : sm_G) (a0 : Nat) (p0 : Nat) : PM Sto Int32 :=
pm_b (a_i 0 p0 0) fun x1 =>
pm_b (g_i [4] 2 a0) fun x2 =>
pm_r ((x1 * x2) / 1000)
noncomputable def f_X10_raw (g : sm_G) (a0 : Nat) (p0 : Nat) : PM Sto Int32 :=
pm_b (a_i 0 p0 0) fun x1 =>
pm_b (a_i 0 p0 1) fun x2 =>
pm_r ((x1 * x2) / 10000)
noncomputable def f_X6_raw (g : sm_G) (a0 : Nat) (p0 : Nat) : PM Sto Int32 :=
pm_b (a_i 0 p0 0) fun x1 =>
pm_b (a_i 0 p0 1) fun x2 =>
pm_b (
if x1 < x2 then (
pm_b (a_i 0 p0 3) fun x5 =>
pm_r x5)
else (
pm_b (a_i 0 p0 2) fun x6 =>
pm_r x6)) fun (v3 : Int32) =>
pm_r v3
noncomputable def f_X11_raw (g : sm_G) (a0 : Nat) (p0 : Nat) : PM Sto Int32 :=
pm_b (g_i [7] 2 a0) fun x1 =>
pm_r x1
noncomputable def f_X1_held (g : sm_G) (p0 : Int32) (p1 : Int32) : PM Sto Int32 :=
pm_r (j_max (-p1) (j_min p1 p0))
noncomputable def f_X2_tellOutputs (g : sm_G) (a0 : Nat) : PM Sto Unit :=
pm_b (pm_lp (fun (s1 : Int32) =>
pm_b (pm_on 1 a0 (f_X2_size g a0)) fun x4 =>
if x4 ≤ s1 then (
pm_r (Sum.inr ()))
else (
pm_b (g_r [1] 1 a0) fun x5 =>
pm_b (a_i 0 x5 s1) fun x6 =>
pm_b (pm_on 1 a0 (f_X2_part g a0 x6)) fun x7 =>
pm_b (pm_on 1 a0 (f_X2_tellInputs g a0 x7)) fun _ =>
pm_b (g_r [1] 2 a0) fun x9 =>
pm_b (g_r [1] 1 a0) fun x10 =>
pm_b (a_i 0 x10 s1) fun x11 =>
pm_b (g_r [1] 3 a0) fun x12 =>
pm_b (pm_vd [2, 3, 4, 5, 6, 7] x7 (fun ci => if ci = 2 then f_X12_raw g x7 x12 else if ci = 3 then f_X8_raw g x7 x12 else if ci = 4 then f_X9_raw g x7 x12 else if ci = 5 then f_X10_raw g x7 x12 else if ci = 6 then f_X6_raw g x7 x12 else if ci = 7 then f_X11_raw g x7 x12 else pm_n)) fun x13 =>
pm_b (f_X1_held g x13 10000) fun x14 =>
pm_b (pa_i 0 x9 x11 x14) fun _ =>
pm_r (Sum.inl (s1 + 1)))) 0) fun (v15 : Unit) =>
pm_r ()
noncomputable def f_X1_isWithin (g : sm_G) (p0 : Int32) (p1 : Int32) (p2 : Int32) : PM Sto Int32 :=
pm_b (
if p0 < p1 then (
pm_r 0)
else (
if p2 < p0 then (
pm_r 0)
else (
pm_r 1))) fun (v1 : Int32) =>
pm_b (pm_z v1) fun x3 =>
pm_r x3
noncomputable def f_X5_isOverloaded (g : sm_G) (a0 : Nat) (p0 : Nat) : PM Sto Int32 :=
pm_b (pm_vd [2, 3, 4, 5, 6, 7] a0 (fun ci => if ci = 2 then f_X12_raw g a0 p0 else if ci = 3 then f_X8_raw g a0 p0 else if ci = 4 then f_X9_raw g a0 p0 else if ci = 5 then f_X10_raw g a0 p0 else if ci = 6 then f_X6_raw g a0 p0 else if ci = 7 then f_X11_raw g a0 p0 else pm_n)) fun x1 =>
pm_b (f_X1_isWithin g x1 (-10000) 10000) fun x2 =>
pm_b (
if x2 = 0 then (
pm_r 1)
else (
pm_r 0)) fun (v3 : Int32) =>
pm_b (pm_z v3) fun x5 =>
pm_r x5
noncomputable def f_X8_isOverloaded (g : sm_G) (a0 : Nat) (p0 : Nat) : PM Sto Int32 :=
pm_b (g_i [3] 5 a0) fun x1 =>
pm_b (
if (j_abs x1) = 10000000 then (
pm_r 1)
else (
pm_r 0)) fun (v2 : Int32) =>
pm_b (pm_z v2) fun x4 =>
pm_r x4
noncomputable def f_X2_overloaded (g : sm_G) (a0 : Nat) : PM Sto Int32 :=
pm_b (pm_on 1 a0 (f_X2_tellOutputs g a0)) fun _ =>
pm_b (pm_lp (fun (s2 : Int32 × Int32) =>
pm_b (pm_on 1 a0 (f_X2_size g a0)) fun x5 =>
if x5 ≤ s2.2 then (
pm_r (Sum.inr s2.1))
else (
pm_b (pm_on 1 a0 (f_X2_part g a0 s2.2)) fun x6 =>
pm_b (pm_on 1 a0 (f_X2_tellInputs g a0 x6)) fun _ =>
pm_b (pm_on 1 a0 (f_X2_part g a0 s2.2)) fun x8 =>
pm_b (g_r [1] 3 a0) fun x9 =>
pm_b (pm_vd [2, 3, 4, 5, 6, 7] x8 (fun ci => if ci = 2 then f_X5_isOverloaded g x8 x9 else if ci = 3 then f_X8_isOverloaded g x8 x9 else if ci = 4 then f_X5_isOverloaded g x8 x9 else if ci = 5 then f_X5_isOverloaded g x8 x9 else if ci = 6 then f_X5_isOverloaded g x8 x9 else if ci = 7 then f_X5_isOverloaded g x8 x9 else pm_n)) fun x10 =>
pm_b (
if x10 = 0 then (
pm_r 0)
else (
pm_r ((1 : Int32) <<< (s2.2 &&& 31)))) fun (v11 : Int32) =>
pm_b (pm_r (s2.1 ||| v11)) fun x13 =>
pm_r (Sum.inl (x13, s2.2 + 1)))) (0, 0)) fun (v14 : Int32) =>
pm_r v14
noncomputable def f_X1_overloaded (g : sm_G) (a0 : Nat) : PM Sto Int32 :=
pm_b (g_r [0] 0 a0) fun x1 =>
pm_b (pm_on 1 x1 (f_X2_overloaded g x1)) fun x2 =>
pm_r x2
noncomputable def f_X5_feeders (g : sm_G) (a0 : Nat) : PM Sto Int32 :=
pm_b (pm_lp (fun (s1 : Int32 × Int32) =>
pm_b (g_r [2, 3, 4, 5, 6, 7] 0 a0) fun x4 =>
pm_b (a_n g x4) fun x5 =>
if x5 ≤ s1.2 then (
pm_r (Sum.inr s1.1))
else (
pm_b (g_r [2, 3, 4, 5, 6, 7] 0 a0) fun x6 =>
pm_b (a_i 0 x6 s1.2) fun x7 =>
pm_b (
if x7 = (-1) then (
pm_r 0)
else (
pm_b (g_r [2, 3, 4, 5, 6, 7] 0 a0) fun x10 =>
pm_b (a_i 0 x10 s1.2) fun x11 =>
pm_r ((1 : Int32) <<< (x11 &&& 31)))) fun (v8 : Int32) =>
pm_b (pm_r (s1.1 ||| v8)) fun x12 =>
pm_r (Sum.inl (x12, s1.2 + 1)))) (0, 0)) fun (v13 : Int32) =>
pm_r v13
noncomputable def f_X2_dependsOn (g : sm_G) (a0 : Nat) (p0 : Int32) : PM Sto Int32 :=
pm_b (pm_on 1 a0 (f_X2_part g a0 p0)) fun x1 =>
pm_b (pm_vd [2, 3, 4, 5, 6, 7] x1 (fun _ => f_X5_feeders g x1)) fun x2 =>
pm_b (pm_lp (fun (s3 : Int32 × Int32) =>
if s3.1 = s3.2 then (
pm_r (Sum.inr s3.1))
else (
pm_b (pm_lp (fun (s6 : Int32 × Int32) =>
pm_b (pm_on 1 a0 (f_X2_size g a0)) fun x9 =>
if x9 ≤ s6.2 then (
pm_r (Sum.inr s6.1))
else (
pm_b (f_X1_has g s3.1 s6.2) fun x10 =>
pm_b (
if x10 = 0 then (
pm_r 0)
else (
pm_b (pm_on 1 a0 (f_X2_part g a0 s6.2)) fun x13 =>
pm_b (pm_vd [2, 3, 4, 5, 6, 7] x13 (fun _ => f_X5_feeders g x13)) fun x14 =>
pm_r x14)) fun (v11 : Int32) =>
pm_b (pm_r (s6.1 ||| v11)) fun x15 =>
pm_r (Sum.inl (x15, s6.2 + 1)))) (s3.1, 0)) fun (v16 : Int32) =>
pm_r (Sum.inl (v16, s3.1)))) (x2, 0)) fun (v17 : Int32) =>
pm_r v17
noncomputable def f_X2_inCircles (g : sm_G) (a0 : Nat) : PM Sto Int32 :=
pm_b (pm_lp (fun (s1 : Int32 × Int32) =>
pm_b (pm_on 1 a0 (f_X2_size g a0)) fun x4 =>
if x4 ≤ s1.2 then (
pm_r (Sum.inr s1.1))
else (
pm_b (pm_on 1 a0 (f_X2_dependsOn g a0 s1.2)) fun x5 =>
pm_b (f_X1_has g x5 s1.2) fun x6 =>
pm_b (
if x6 = 0 then (
pm_r 0)
else (
pm_r ((1 : Int32) <<< (s1.2 &&& 31)))) fun (v7 : Int32) =>
pm_b (pm_r (s1.1 ||| v7)) fun x9 =>
pm_r (Sum.inl (x9, s1.2 + 1)))) (0, 0)) fun (v10 : Int32) =>
pm_r v10
noncomputable def f_X1_inCircles (g : sm_G) (a0 : Nat) : PM Sto Int32 :=
pm_b (g_r [0] 0 a0) fun x1 =>
pm_b (pm_on 1 x1 (f_X2_inCircles g x1)) fun x2 =>
pm_r x2
noncomputable def f_X2_ends (g : sm_G) (a0 : Nat) : PM Sto Int32 :=
pm_b (pm_on 1 a0 (f_X2_size g a0)) fun x1 =>
pm_b (pm_r (((1 : Int32) <<< (x1 &&& 31)) - 1)) fun x2 =>
pm_b (pm_lp (fun (s3 : Int32 × Int32) =>
pm_b (pm_on 1 a0 (f_X2_size g a0)) fun x6 =>
if x6 ≤ s3.2 then (
pm_r (Sum.inr s3.1))
else (
pm_b (pm_on 1 a0 (f_X2_part g a0 s3.2)) fun x7 =>
pm_b (pm_vd [2, 3, 4, 5, 6, 7] x7 (fun _ => f_X5_feeders g x7)) fun x8 =>
pm_b (pm_r (s3.1 &&& (x8 ^^^ (-1)))) fun x9 =>
pm_r (Sum.inl (x9, s3.2 + 1)))) (x2, 0)) fun (v10 : Int32) =>
pm_r v10
noncomputable def f_X1_ends (g : sm_G) (a0 : Nat) : PM Sto Int32 :=
pm_b (g_r [0] 0 a0) fun x1 =>
pm_b (pm_on 1 x1 (f_X2_ends g x1)) fun x2 =>
pm_r x2
noncomputable def f_X1_recorded (g : sm_G) (a0 : Nat) : PM Sto Int32 :=
pm_b (g_r [0] 0 a0) fun x1 =>
pm_b (g_i [1] 9 x1) fun x2 =>
pm_r x2
noncomputable def f_X1_records (g : sm_G) (a0 : Nat) : PM Sto Int32 :=
pm_b (g_r [0] 0 a0) fun x1 =>
pm_b (g_i [1] 10 x1) fun x2 =>
pm_r x2
noncomputable def f_X1_crossings (g : sm_G) (a0 : Nat) : PM Sto Int32 :=
pm_b (g_r [0] 0 a0) fun x1 =>
pm_b (g_i [1] 11 x1) fun x2 =>
pm_r x2
noncomputable def f_X1_beat (g : sm_G) (a0 : Nat) : PM Sto Int32 :=
pm_b (g_r [0] 0 a0) fun x1 =>
pm_b (g_i [1] 13 x1) fun x2 =>
pm_r x2
noncomputable def f_X2_meanRecord (g : sm_G) (a0 : Nat) : PM Sto UInt64 :=
pm_b (pm_lp (fun (s1 : Int32 × Int32) =>
pm_b (g_i [1] 10 a0) fun x4 =>
if x4 ≤ s1.2 then (
pm_r (Sum.inr s1.1))
else (
pm_b (g_r [1] 4 a0) fun x5 =>
pm_b (a_i 0 x5 s1.2) fun x6 =>
pm_b (pm_r (s1.1 + x6)) fun x7 =>
pm_r (Sum.inl (x7, s1.2 + 1)))) (0, 0)) fun (v8 : Int32) =>
pm_b (g_i [1] 10 a0) fun x9 =>
pm_b (
if x9 = 0 then (
pm_r FP.dconst0)
else (
pm_b (g_i [1] 10 a0) fun x12 =>
pm_b (pm_dd (FP.i2d v8) (FP.i2d x12)) fun x13 =>
pm_r x13)) fun (v10 : UInt64) =>
pm_r v10
noncomputable def f_X1_meanRecord (g : sm_G) (a0 : Nat) : PM Sto UInt64 :=
pm_b (g_r [0] 0 a0) fun x1 =>
pm_b (pm_on 1 x1 (f_X2_meanRecord g x1)) fun x2 =>
pm_r x2
noncomputable def f_X2_running (g : sm_G) (a0 : Nat) : PM Sto Nat :=
pm_b (pm_on 1 a0 (f_X2_copy g a0)) fun x1 =>
pm_b (p_f [1] 7 x1 (.int 1)) fun _ =>
pm_r x1
noncomputable def f_X8_rate (g : sm_G) (a0 : Nat) (p0 : Nat) : PM Sto Int32 :=
pm_b (pm_on 3 a0 (f_X7_turnedSum g a0 p0)) fun x1 =>
pm_b (g_i [3] 4 a0) fun x2 =>
pm_b (pm_dv (x1 * 1000) x2) fun x3 =>
pm_r x3
noncomputable def f_X8_tellRate (g : sm_G) (a0 : Nat) (p0 : Nat) : PM Sto Unit :=
pm_b (pm_on 3 a0 (f_X8_rate g a0 p0)) fun x1 =>
pm_b (p_f [3] 7 a0 (.int x1)) fun _ =>
pm_r ()
noncomputable def f_X2_tellRates (g : sm_G) (a0 : Nat) : PM Sto Unit :=
pm_b (pm_on 1 a0 (f_X2_tellOutputs g a0)) fun _ =>
pm_b (pm_lp (fun (s2 : Int32) =>
pm_b (pm_on 1 a0 (f_X2_size g a0)) fun x5 =>
if x5 ≤ s2 then (
pm_r (Sum.inr ()))
else (
pm_b (pm_on 1 a0 (f_X2_part g a0 s2)) fun x6 =>
pm_b (i_o [2, 3, 4, 5, 6, 7] [3] x6) fun x7 =>
pm_b (
if x7 = 0 then (
pm_r ())
else (
pm_b (pm_on 1 a0 (f_X2_part g a0 s2)) fun x10 =>
pm_b (pm_on 1 a0 (f_X2_tellInputs g a0 x10)) fun _ =>
pm_b (pm_on 1 a0 (f_X2_part g a0 s2)) fun x12 =>
pm_b (c_q [3] (some x12)) fun x13 =>
pm_b (g_r [1] 3 a0) fun x14 =>
pm_b (pm_on 3 x13 (f_X8_tellRate g x13 x14)) fun _ =>
pm_r ())) fun (v8 : Unit) =>
pm_r (Sum.inl (s2 + 1)))) 0) fun (v16 : Unit) =>
pm_r ()
noncomputable def f_X8_move (g : sm_G) (a0 : Nat) (p0 : Int32) : PM Sto Unit :=
pm_b (g_i [3] 6 a0) fun x1 =>
pm_b (f_X1_held g (x1 + p0) 10000000) fun x2 =>
pm_b (p_f [3] 5 a0 (.int x2)) fun _ =>
pm_r ()
noncomputable def f_X2_moveAll (g : sm_G) (a0 : Nat) (p0 : Int32) : PM Sto Unit :=
pm_b (pm_lp (fun (s1 : Int32) =>
pm_b (pm_on 1 a0 (f_X2_size g a0)) fun x4 =>
if x4 ≤ s1 then (
pm_r (Sum.inr ()))
else (
pm_b (pm_on 1 a0 (f_X2_part g a0 s1)) fun x5 =>
pm_b (i_o [2, 3, 4, 5, 6, 7] [3] x5) fun x6 =>
pm_b (
if x6 = 0 then (
pm_r ())
else (
pm_b (pm_on 1 a0 (f_X2_part g a0 s1)) fun x9 =>
pm_b (c_q [3] (some x9)) fun x10 =>
pm_b (g_i [3] 7 x10) fun x11 =>
pm_b (pm_dv x11 p0) fun x12 =>
pm_b (pm_on 3 x10 (f_X8_move g x10 x12)) fun _ =>
pm_r ())) fun (v7 : Unit) =>
pm_r (Sum.inl (s1 + 1)))) 0) fun (v14 : Unit) =>
pm_r ()
noncomputable def f_X15_step (g : sm_G) (a0 : Nat) (p0 : Nat) : PM Sto Unit :=
pm_b (pm_on 1 p0 (f_X2_tellRates g p0)) fun _ =>
pm_b (pm_on 1 p0 (f_X2_moveAll g p0 1)) fun _ =>
pm_r ()
noncomputable def f_X16_step (g : sm_G) (a0 : Nat) (p0 : Nat) : PM Sto Unit :=
pm_b (pm_on 1 p0 (f_X2_tellRates g p0)) fun _ =>
pm_b (pm_on 1 p0 (f_X2_moveAll g p0 2)) fun _ =>
pm_b (pm_on 1 p0 (f_X2_tellRates g p0)) fun _ =>
pm_b (pm_on 1 p0 (f_X2_moveAll g p0 1)) fun _ =>
pm_r ()
noncomputable def f_X2_recordNow (g : sm_G) (a0 : Nat) : PM Sto Unit :=
pm_b (g_r [1] 2 a0) fun x1 =>
pm_b (g_i [1] 9 a0) fun x2 =>
pm_b (a_i 0 x1 x2) fun x3 =>
pm_b (g_i [1] 10 a0) fun x4 =>
pm_b (
if x4 ≤ 0 then (
pm_r 0)
else (
pm_b (g_r [1] 4 a0) fun x7 =>
pm_b (a_i 0 x7 0) fun x8 =>
if (0 : Int32) ≤ x8 then (
pm_r 0)
else (
if x3 < 0 then (
pm_r 0)
else (
pm_r 1)))) fun (v5 : Int32) =>
pm_b (pm_lp (fun (s9 : Int32) =>
if s9 ≤ 0 then (
pm_r (Sum.inr ()))
else (
pm_b (g_r [1] 4 a0) fun x12 =>
pm_b (g_r [1] 4 a0) fun x13 =>
pm_b (a_i 0 x13 (s9 - 1)) fun x14 =>
pm_b (pa_i 0 x12 s9 x14) fun _ =>
pm_r (Sum.inl (s9 + (-1))))) 23) fun (v15 : Unit) =>
pm_b (g_r [1] 4 a0) fun x16 =>
pm_b (pa_i 0 x16 0 x3) fun _ =>
pm_b (g_i [1] 10 a0) fun x17 =>
pm_b (p_f [1] 10 a0 (.int (j_min (x17 + 1) 24))) fun _ =>
pm_b (
if v5 = 0 then (
pm_r ())
else (
pm_b (g_i [1] 11 a0) fun x20 =>
pm_b (
if x20 = 0 then (
pm_r (-1))
else (
pm_b (g_i [1] 8 a0) fun x23 =>
pm_b (g_i [1] 12 a0) fun x24 =>
pm_r (x23 - x24))) fun (v21 : Int32) =>
pm_b (p_f [1] 13 a0 (.int v21)) fun _ =>
pm_b (g_i [1] 8 a0) fun x25 =>
pm_b (p_f [1] 12 a0 (.int x25)) fun _ =>
pm_b (g_i [1] 11 a0) fun x26 =>
pm_b (p_f [1] 11 a0 (.int (x26 + 1))) fun _ =>
pm_r ())) fun (v18 : Unit) =>
pm_r ()
noncomputable def f_X2_step (g : sm_G) (a0 : Nat) : PM Sto Unit :=
pm_b (pm_lp (fun (s1 : Int32) =>
pm_b (pm_on 1 a0 (f_X2_size g a0)) fun x4 =>
if x4 ≤ s1 then (
pm_r (Sum.inr ()))
else (
pm_b (pm_on 1 a0 (f_X2_part g a0 s1)) fun x5 =>
pm_b (i_o [2, 3, 4, 5, 6, 7] [3] x5) fun x6 =>
pm_b (
if x6 = 0 then (
pm_r ())
else (
pm_b (pm_on 1 a0 (f_X2_part g a0 s1)) fun x9 =>
pm_b (c_q [3] (some x9)) fun x10 =>
pm_b (g_i [3] 5 x10) fun x11 =>
pm_b (p_f [3] 6 x10 (.int x11)) fun _ =>
pm_r ())) fun (v7 : Unit) =>
pm_r (Sum.inl (s1 + 1)))) 0) fun (v12 : Unit) =>
pm_b (g_r [1] 5 a0) fun x13 =>
pm_b (w_if g x13 (f_X15_step g x13 a0) (f_X16_step g x13 a0)) fun _ =>
pm_b (g_i [1] 8 a0) fun x15 =>
pm_b (p_f [1] 8 a0 (.int (x15 + 1))) fun _ =>
pm_b (pm_on 1 a0 (f_X2_tellOutputs g a0)) fun _ =>
pm_b (pm_lp (fun (s17 : Int32) =>
pm_b (pm_on 1 a0 (f_X2_size g a0)) fun x20 =>
if x20 ≤ s17 then (
pm_r (Sum.inr ()))
else (
pm_b (pm_on 1 a0 (f_X2_part g a0 s17)) fun x21 =>
pm_b (pm_on 1 a0 (f_X2_part g a0 s17)) fun x22 =>
pm_b (g_i [2, 3, 4, 5, 6, 7] 1 x22) fun x23 =>
pm_b (g_r [1] 2 a0) fun x24 =>
pm_b (a_i 0 x24 s17) fun x25 =>
pm_b (p_f [2, 3, 4, 5, 6, 7] 1 x21 (.int (j_max x23 (j_abs x25)))) fun _ =>
pm_r (Sum.inl (s17 + 1)))) 0) fun (v26 : Unit) =>
pm_b (g_i [1] 9 a0) fun x27 =>
pm_b (
if x27 = (-1) then (
pm_r ())
else (
pm_b (pm_on 1 a0 (f_X2_recordNow g a0)) fun _ =>
pm_r ())) fun (v28 : Unit) =>
pm_b (g_i [1] 6 a0) fun x31 =>
pm_b (
if x31 = 0 then (
pm_r ())
else (
pm_b (pm_on 1 a0 (f_X2_overloaded g a0)) fun x34 =>
if x34 = 0 then (
pm_r ())
else (
pm_b (p_f [1] 7 a0 (.int 2)) fun _ =>
pm_r ()))) fun (v32 : Unit) =>
pm_r ()
noncomputable def f_X2_untilOverload (g : sm_G) (a0 : Nat) : PM Sto Int32 :=
pm_b (pm_on 1 a0 (f_X2_running g a0)) fun x1 =>
pm_b (pm_lp (fun (s2 : Int32) =>
if (200 : Int32) < s2 then (
pm_r (Sum.inr (Sum.inl ())))
else (
pm_b (pm_on 1 x1 (f_X2_overloaded g x1)) fun x5 =>
if x5 = 0 then (
pm_b (pm_on 1 x1 (f_X2_step g x1)) fun _ =>
pm_r (Sum.inl (s2 + 1)))
else (
pm_r (Sum.inr (Sum.inr s2))))) 0) (Sum.elim (fun (v7 : Unit) =>
pm_r (-1)) (fun (v8 : Int32) =>
pm_r v8))
noncomputable def f_X1_stepsUntilOverload (g : sm_G) (a0 : Nat) : PM Sto Int32 :=
pm_b (g_r [0] 0 a0) fun x1 =>
pm_b (pm_on 1 x1 (f_X2_untilOverload g x1)) fun x2 =>
pm_r x2
noncomputable def f_J4_length (g : sm_G) (a0 : Nat) : PM Sto Int32 :=
pm_b (g_i [11] 3 a0) fun x1 =>
pm_r x1
noncomputable def f_J5_length (g : sm_G) (a0 : Nat) : PM Sto Int32 :=
pm_b (pm_on 11 a0 (f_J4_length g a0)) fun x1 =>
pm_r x1
noncomputable def f_J4_ensureCapacityInternal (g : sm_G) (a0 : Nat) (p0 : Int32) : PM Sto Unit :=
pm_b (g_r [11] 0 a0) fun x1 =>
pm_b (a_n g x1) fun x2 =>
pm_b (g_i [11] 1 a0) fun x3 =>
pm_b (pm_r (x2 >>> (x3 &&& 31))) fun x4 =>
pm_b (
if (p0 - x4) ≤ 0 then (
pm_r ())
else (
pm_n)) fun (v5 : Unit) =>
pm_r ()
noncomputable def f_J4_setLength (g : sm_G) (a0 : Nat) (p0 : Int32) : PM Sto Unit :=
pm_b (
if (0 : Int32) ≤ p0 then (
pm_r ())
else (
pm_n)) fun (v1 : Unit) =>
pm_b (pm_on 11 a0 (f_J4_ensureCapacityInternal g a0 p0)) fun _ =>
pm_b (g_i [11] 3 a0) fun x4 =>
pm_b (
if p0 ≤ x4 then (
pm_r ())
else (
pm_n)) fun (v5 : Unit) =>
pm_b (g_i [11] 3 a0) fun x7 =>
pm_b (
if x7 ≤ p0 then (
pm_r ())
else (
pm_b (p_f [11] 2 a0 (.int 1)) fun _ =>
pm_r ())) fun (v8 : Unit) =>
pm_b (p_f [11] 3 a0 (.int p0)) fun _ =>
pm_r ()
noncomputable def f_J5_setLength (g : sm_G) (a0 : Nat) (p0 : Int32) : PM Sto Unit :=
pm_b (pm_on 11 a0 (f_J4_setLength g a0 p0)) fun _ =>
pm_r ()
noncomputable def f_X1_clearText (g : sm_G) (a0 : Nat) : PM Sto Int32 :=
pm_b (g_r [0] 3 a0) fun x1 =>
pm_b (pm_on 11 x1 (f_J5_length g x1)) fun x2 =>
pm_b (g_r [0] 3 a0) fun x3 =>
pm_b (pm_on 11 x3 (f_J5_setLength g x3 0)) fun _ =>
pm_r x2
noncomputable def f_X13_init (g : sm_G) (a0 : Nat) (p0 : Nat) : PM Sto Unit :=
pm_b (n_o 10) fun x1 =>
pm_b (f_J2_init g x1) fun _ =>
pm_b (p_f [8] 1 a0 (.ref x1)) fun _ =>
pm_b (p_f [8] 0 a0 (.ref p0)) fun _ =>
pm_r ()
noncomputable def f_J6_checkIndex (g : sm_G) (p0 : Int32) (p1 : Int32) : PM Sto Unit :=
pm_b (f_J14_checkIndex g p0 p1 (sa_io g)) fun x1 =>
pm_r ()
noncomputable def f_J4_charAt (g : sm_G) (a0 : Nat) (p0 : Int32) : PM Sto Int32 :=
pm_b (g_i [11] 1 a0) fun x1 =>
pm_b (g_r [11] 0 a0) fun x2 =>
pm_b (g_i [11] 3 a0) fun x3 =>
pm_b (a_n g x2) fun x4 =>
pm_b (pm_r (j_min x3 (x4 >>> (x1 &&& 31)))) fun x5 =>
pm_b (f_J6_checkIndex g p0 x5) fun _ =>
pm_b (
if x1 = 0 then (
pm_r ())
else (
pm_n)) fun (v7 : Unit) =>
pm_b (a_i 2 x2 p0) fun x9 =>
pm_b (pm_c (((x9 &&& 255).toUInt32 % 65536).toInt32)) fun x10 =>
pm_r x10
noncomputable def f_J5_charAt (g : sm_G) (a0 : Nat) (p0 : Int32) : PM Sto Int32 :=
pm_b (pm_on 11 a0 (f_J4_charAt g a0 p0)) fun x1 =>
pm_b (pm_c x1) fun x2 =>
pm_r x2
noncomputable def f_X13_here (g : sm_G) (a0 : Nat) : PM Sto Int32 :=
pm_b (g_i [8] 2 a0) fun x1 =>
pm_b (g_r [8] 0 a0) fun x2 =>
pm_b (pm_on 11 x2 (f_J5_length g x2)) fun x3 =>
pm_b (
if x3 ≤ x1 then (
pm_r 32)
else (
pm_b (g_r [8] 0 a0) fun x6 =>
pm_b (g_i [8] 2 a0) fun x7 =>
pm_b (pm_on 11 x6 (f_J5_charAt g x6 x7)) fun x8 =>
pm_r x8)) fun (v4 : Int32) =>
pm_b (pm_c v4) fun x9 =>
pm_r x9
noncomputable def f_X13_step (g : sm_G) (a0 : Nat) (p0 : Int32) : PM Sto Unit :=
pm_b (g_i [8] 3 a0) fun x1 =>
pm_b (
if x1 = 0 then (
if p0 = 0 then (
pm_r 1)
else (
pm_r 0))
else (
pm_r 1)) fun (v2 : Int32) =>
pm_b (pm_z v2) fun x4 =>
pm_b (p_f [8] 3 a0 (.int x4)) fun _ =>
pm_b (g_i [8] 2 a0) fun x6 =>
pm_b (g_i [8] 3 a0) fun x7 =>
pm_b (
if x7 = 0 then (
pm_r 1)
else (
pm_r 0)) fun (v8 : Int32) =>
pm_b (p_f [8] 2 a0 (.int (x6 + v8))) fun _ =>
pm_r ()
noncomputable def f_X13_number (g : sm_G) (a0 : Nat) (p0 : Int32) (p1 : Int32) : PM Sto Int32 :=
pm_b (pm_on 8 a0 (f_X13_here g a0)) fun x1 =>
pm_b (pm_r (x1 - 48)) fun x2 =>
pm_b (f_X1_isWithin g x2 (j_min p0 1) (j_min p1 9)) fun x3 =>
pm_b (pm_on 8 a0 (f_X13_step g a0 x3)) fun _ =>
pm_b (pm_lp (fun (s5 : Int32) =>
pm_b (g_i [8] 3 a0) fun x8 =>
if x8 = 0 then (
if s5 ≤ 0 then (
pm_r (Sum.inr s5))
else (
if p1 < (10 * s5) then (
pm_r (Sum.inr s5))
else (
pm_b (pm_on 8 a0 (f_X13_here g a0)) fun x9 =>
pm_b (f_X1_isWithin g x9 48 57) fun x10 =>
if x10 = 0 then (
pm_r (Sum.inr s5))
else (
pm_b (pm_on 8 a0 (f_X13_here g a0)) fun x11 =>
pm_b (pm_r (((10 * s5) + x11) - 48)) fun x12 =>
pm_b (
if p1 < x12 then (
pm_r 0)
else (
pm_r 1)) fun (v13 : Int32) =>
pm_b (pm_on 8 a0 (f_X13_step g a0 v13)) fun _ =>
pm_r (Sum.inl x12)))))
else (
pm_r (Sum.inr s5))) x2) fun (v16 : Int32) =>
pm_r v16
noncomputable def f_X13_module (g : sm_G) (a0 : Nat) : PM Sto Int32 :=
pm_b (pm_on 8 a0 (f_X13_number g a0 0 15)) fun x1 =>
pm_r x1
noncomputable def f_X13_input (g : sm_G) (a0 : Nat) : PM Sto Int32 :=
pm_b (pm_on 8 a0 (f_X13_here g a0)) fun x1 =>
pm_b (
if x1 = 46 then (
pm_r 1)
else (
pm_r 0)) fun (v2 : Int32) =>
pm_b (pm_on 8 a0 (f_X13_step g a0 v2)) fun _ =>
pm_b (pm_on 8 a0 (f_X13_number g a0 0 3)) fun x5 =>
pm_r x5
noncomputable def f_X14_init (g : sm_G) (a0 : Nat) (p0 : Int32) (p1 : Int32) (p2 : Int32) (p3 : Int32) : PM Sto Unit :=
pm_b (pm_c p0) fun x1 =>
pm_b (p_f [9] 0 a0 (.int x1)) fun _ =>
pm_b (p_f [9] 1 a0 (.int p1)) fun _ =>
pm_b (p_f [9] 2 a0 (.int p2)) fun _ =>
pm_b (p_f [9] 3 a0 (.int p3)) fun _ =>
pm_r ()
noncomputable def f_X13_voltage (g : sm_G) (a0 : Nat) : PM Sto Int32 :=
pm_b (pm_on 8 a0 (f_X13_here g a0)) fun x1 =>
pm_b (
if x1 = 45 then (
pm_r 1)
else (
pm_r 0)) fun (v2 : Int32) =>
pm_b (
if v2 = 0 then (
pm_r ())
else (
pm_b (pm_on 8 a0 (f_X13_step g a0 1)) fun _ =>
pm_r ())) fun (v4 : Unit) =>
pm_b (pm_on 8 a0 (f_X13_number g a0 0 10000)) fun x7 =>
pm_b (
if v2 = 0 then (
pm_r x7)
else (
pm_r (-x7))) fun (v8 : Int32) =>
pm_r v8
noncomputable def f_X13_setting (g : sm_G) (a0 : Nat) (p0 : Int32) : PM Sto Nat :=
if p0 = 43 then (
pm_b (n_o 9) fun x1 =>
pm_b (pm_on 8 a0 (f_X13_number g a0 1 999)) fun x2 =>
pm_b (f_X14_init g x1 p0 x2 0 0) fun _ =>
pm_r x1)
else if p0 = 110 then (
pm_b (n_o 9) fun x4 =>
pm_b (pm_on 8 a0 (f_X13_number g a0 0 5)) fun x5 =>
pm_b (f_X14_init g x4 p0 x5 0 0) fun _ =>
pm_r x4)
else if p0 = 120 then (
pm_b (pm_on 8 a0 (f_X13_module g a0)) fun x7 =>
pm_b (n_o 9) fun x8 =>
pm_b (pm_on 8 a0 (f_X13_input g a0)) fun x9 =>
pm_b (f_X14_init g x8 p0 x7 0 x9) fun _ =>
pm_r x8)
else (
pm_b (pm_on 8 a0 (f_X13_module g a0)) fun x11 =>
pm_b (pm_on 8 a0 (f_X13_here g a0)) fun x12 =>
pm_b (
if x12 = 58 then (
pm_r 1)
else (
pm_r 0)) fun (v13 : Int32) =>
pm_b (pm_on 8 a0 (f_X13_step g a0 v13)) fun _ =>
pm_b (n_o 9) fun x16 =>
pm_b (
if p0 = 118 then (
pm_b (pm_on 8 a0 (f_X13_voltage g a0)) fun x20 =>
pm_r x20)
else (
pm_b (pm_on 8 a0 (f_X13_number g a0 0 1000)) fun x19 =>
pm_r x19)) fun (v17 : Int32) =>
pm_b (f_X14_init g x16 p0 x11 v17 0) fun _ =>
pm_r x16)
noncomputable def f_X13_item (g : sm_G) (a0 : Nat) : PM Sto Nat :=
pm_b (pm_on 8 a0 (f_X13_here g a0)) fun x1 =>
pm_b (f_X1_isWithin g x1 48 57) fun x2 =>
if x2 = 0 then (
pm_b (
if x1 = 110 then (
pm_r 1)
else (
if x1 = 120 then (
pm_r 1)
else (
if x1 = 118 then (
pm_r 1)
else (
if x1 = 102 then (
pm_r 1)
else (
if x1 = 43 then (
pm_r 1)
else (
pm_r 0)))))) fun (v12 : Int32) =>
pm_b (pm_on 8 a0 (f_X13_step g a0 v12)) fun _ =>
pm_b (pm_on 8 a0 (f_X13_setting g a0 x1)) fun x15 =>
pm_r x15)
else (
pm_b (pm_on 8 a0 (f_X13_module g a0)) fun x3 =>
pm_b (pm_on 8 a0 (f_X13_here g a0)) fun x4 =>
pm_b (
if x4 = 62 then (
pm_r 1)
else (
pm_r 0)) fun (v5 : Int32) =>
pm_b (pm_on 8 a0 (f_X13_step g a0 v5)) fun _ =>
pm_b (pm_on 8 a0 (f_X13_module g a0)) fun x8 =>
pm_b (n_o 9) fun x9 =>
pm_b (pm_on 8 a0 (f_X13_input g a0)) fun x10 =>
pm_b (f_X14_init g x9 62 x3 x8 x10) fun _ =>
pm_r x9)
noncomputable def f_X13_read (g : sm_G) (a0 : Nat) : PM Sto Int32 :=
pm_b (g_r [8] 1 a0) fun x1 =>
pm_b (pm_on 8 a0 (f_X13_item g a0)) fun x2 =>
pm_b (pm_on 10 x1 (f_J2_add g x1 x2)) fun x3 =>
pm_b (pm_lp (fun (s4 : Unit) =>
pm_b (g_i [8] 3 a0) fun x7 =>
if x7 = 0 then (
pm_b (g_i [8] 2 a0) fun x8 =>
pm_b (g_r [8] 0 a0) fun x9 =>
pm_b (pm_on 11 x9 (f_J5_length g x9)) fun x10 =>
if x10 ≤ x8 then (
pm_r (Sum.inr ()))
else (
pm_b (pm_on 8 a0 (f_X13_here g a0)) fun x11 =>
pm_b (
if x11 = 59 then (
pm_r 1)
else (
pm_r 0)) fun (v12 : Int32) =>
pm_b (pm_on 8 a0 (f_X13_step g a0 v12)) fun _ =>
pm_b (g_i [8] 3 a0) fun x15 =>
if x15 = 0 then (
pm_b (g_r [8] 1 a0) fun x16 =>
pm_b (pm_on 8 a0 (f_X13_item g a0)) fun x17 =>
pm_b (pm_on 10 x16 (f_J2_add g x16 x17)) fun x18 =>
pm_r (Sum.inl ()))
else (
pm_r (Sum.inl ()))))
else (
pm_r (Sum.inr ()))) ()) fun (v19 : Unit) =>
pm_b (g_i [8] 3 a0) fun x20 =>
pm_b (
if x20 = 0 then (
pm_r (-1))
else (
pm_b (g_i [8] 2 a0) fun x23 =>
pm_r x23)) fun (v21 : Int32) =>
pm_r v21
noncomputable def f_X1_firstError (g : sm_G) (a0 : Nat) : PM Sto Int32 :=
pm_b (n_o 8) fun x1 =>
pm_b (g_r [0] 3 a0) fun x2 =>
pm_b (f_X13_init g x1 x2) fun _ =>
pm_b (pm_on 8 x1 (f_X13_read g x1)) fun x4 =>
pm_r x4
noncomputable def f_X1_add (g : sm_G) (p0 : Int64) (p1 : Nat) : PM Sto Int64 :=
pm_b (pm_lp (fun (s1 : Int64 × Int32) =>
pm_b (a_n g p1) fun x4 =>
if x4 ≤ s1.2 then (
pm_r (Sum.inr s1.1))
else (
pm_b (a_i 0 p1 s1.2) fun x5 =>
pm_b (pm_r ((31 * s1.1) + x5.toInt64)) fun x6 =>
pm_r (Sum.inl (x6, s1.2 + 1)))) (p0, 0)) fun (v7 : Int64) =>
pm_r v7
noncomputable def f_X5_isSource (g : sm_G) (a0 : Nat) : PM Sto Int32 :=
pm_r 0
noncomputable def f_X8_isSource (g : sm_G) (a0 : Nat) : PM Sto Int32 :=
pm_r 1
noncomputable def f_X11_isSource (g : sm_G) (a0 : Nat) : PM Sto Int32 :=
pm_r 1
noncomputable def f_X2_highest (g : sm_G) (p0 : Nat) (p1 : Nat) : PM Sto Int32 :=
pm_b (pm_lp (fun (s1 : Int32 × Int32) =>
pm_b (g_r [2, 3, 4, 5, 6, 7] 0 p1) fun x4 =>
pm_b (a_n g x4) fun x5 =>
if x5 ≤ s1.2 then (
pm_r (Sum.inr s1.1))
else (
pm_b (g_r [2, 3, 4, 5, 6, 7] 0 p1) fun x6 =>
pm_b (a_i 0 x6 s1.2) fun x7 =>
pm_b (
if x7 = (-1) then (
pm_r s1.1)
else (
pm_b (g_r [2, 3, 4, 5, 6, 7] 0 p1) fun x10 =>
pm_b (a_i 0 x10 s1.2) fun x11 =>
pm_b (a_i 0 p0 x11) fun x12 =>
pm_r (j_max s1.1 x12))) fun (v8 : Int32) =>
pm_r (Sum.inl (v8, s1.2 + 1)))) (0, 0)) fun (v13 : Int32) =>
pm_r v13
noncomputable def f_X2_levels (g : sm_G) (a0 : Nat) : PM Sto Nat :=
pm_b (n_a 0 16) fun x1 =>
pm_b (pm_lp (fun (s2 : Int32) =>
if s2 = 0 then (
pm_r (Sum.inr ()))
else (
pm_b (pm_lp (fun (s5 : Int32 × Int32) =>
pm_b (pm_on 1 a0 (f_X2_size g a0)) fun x8 =>
if x8 ≤ s5.2 then (
pm_r (Sum.inr s5.1))
else (
pm_b (pm_on 1 a0 (f_X2_part g a0 s5.2)) fun x9 =>
pm_b (pm_vd [2, 3, 4, 5, 6, 7] x9 (fun ci => if ci = 2 then f_X5_isSource g x9 else if ci = 3 then f_X8_isSource g x9 else if ci = 4 then f_X5_isSource g x9 else if ci = 5 then f_X5_isSource g x9 else if ci = 6 then f_X5_isSource g x9 else if ci = 7 then f_X11_isSource g x9 else pm_n)) fun x10 =>
pm_b (
if x10 = 0 then (
pm_b (pm_on 1 a0 (f_X2_part g a0 s5.2)) fun x13 =>
pm_b (f_X2_highest g x1 x13) fun x14 =>
pm_r (1 + x14))
else (
pm_r 0)) fun (v11 : Int32) =>
pm_b (
if s5.1 = 0 then (
pm_b (a_i 0 x1 s5.2) fun x17 =>
if v11 ≤ x17 then (
pm_r 0)
else (
pm_r 1))
else (
pm_r 1)) fun (v15 : Int32) =>
pm_b (pa_i 0 x1 s5.2 v11) fun _ =>
pm_r (Sum.inl (v15, s5.2 + 1)))) (0, 0)) fun (v18 : Int32) =>
pm_r (Sum.inl v18))) 1) fun (v19 : Unit) =>
pm_r x1
noncomputable def f_X2_pass (g : sm_G) (a0 : Nat) (p0 : Int32) : PM Sto Int32 :=
pm_b (pm_lp (fun (s1 : Int32) =>
if p0 ≤ s1 then (
pm_r (Sum.inr s1))
else (
pm_b (g_i [1] 7 a0) fun x4 =>
if x4 = 1 then (
pm_b (pm_on 1 a0 (f_X2_step g a0)) fun _ =>
pm_r (Sum.inl (s1 + 1)))
else (
pm_r (Sum.inr s1)))) 0) fun (v6 : Int32) =>
pm_r v6
noncomputable def f_X12_kind (g : sm_G) (a0 : Nat) : PM Sto Int32 :=
pm_r 0
noncomputable def f_X8_kind (g : sm_G) (a0 : Nat) : PM Sto Int32 :=
pm_r 1
noncomputable def f_X9_kind (g : sm_G) (a0 : Nat) : PM Sto Int32 :=
pm_r 2
noncomputable def f_X10_kind (g : sm_G) (a0 : Nat) : PM Sto Int32 :=
pm_r 3
noncomputable def f_X6_kind (g : sm_G) (a0 : Nat) : PM Sto Int32 :=
pm_r 4
noncomputable def f_X11_kind (g : sm_G) (a0 : Nat) : PM Sto Int32 :=
pm_r 5
noncomputable def f_X5_setting (g : sm_G) (a0 : Nat) : PM Sto Int32 :=
pm_r 0
noncomputable def f_X8_setting (g : sm_G) (a0 : Nat) : PM Sto Int32 :=
pm_b (g_i [3] 3 a0) fun x1 =>
pm_r x1
noncomputable def f_X9_setting (g : sm_G) (a0 : Nat) : PM Sto Int32 :=
pm_b (g_i [4] 2 a0) fun x1 =>
pm_r x1
noncomputable def f_X11_setting (g : sm_G) (a0 : Nat) : PM Sto Int32 :=
pm_b (g_i [7] 2 a0) fun x1 =>
pm_r x1
noncomputable def f_X1_scaleFor (g : sm_G) (p0 : Int32) : PM Sto Int32 :=
pm_b (
if p0 = 0 then (
pm_r (-1))
else (
pm_b (pm_dv 10000000 p0) fun x3 =>
pm_r x3)) fun (v1 : Int32) =>
pm_r v1
noncomputable def f_X1_addParts (g : sm_G) (a0 : Nat) (p0 : Int64) : PM Sto Int64 :=
pm_b (pm_on 0 a0 (f_X1_modules g a0)) fun x1 =>
pm_b (g_r [0] 0 a0) fun x2 =>
pm_b (pm_on 1 x2 (f_X2_levels g x2)) fun x3 =>
pm_b (g_r [0] 0 a0) fun x4 =>
pm_b (pm_on 1 x4 (f_X2_running g x4)) fun x5 =>
pm_b (pm_on 1 x5 (f_X2_pass g x5 10)) fun x6 =>
pm_b (pm_on 1 x5 (f_X2_tellOutputs g x5)) fun _ =>
pm_b (g_r [0] 0 a0) fun x8 =>
pm_b (pm_on 1 x8 (f_X2_tellOutputs g x8)) fun _ =>
pm_b (pm_lp (fun (s10 : Int64 × Int32) =>
if x1 ≤ s10.2 then (
pm_r (Sum.inr s10.1))
else (
pm_b (g_r [0] 0 a0) fun x13 =>
pm_b (pm_on 1 x13 (f_X2_part g x13 s10.2)) fun x14 =>
pm_b (n_a 0 8) fun x15 =>
pm_b (pm_vd [2, 3, 4, 5, 6, 7] x14 (fun ci => if ci = 2 then f_X12_kind g x14 else if ci = 3 then f_X8_kind g x14 else if ci = 4 then f_X9_kind g x14 else if ci = 5 then f_X10_kind g x14 else if ci = 6 then f_X6_kind g x14 else if ci = 7 then f_X11_kind g x14 else pm_n)) fun x16 =>
pm_b (pa_i 0 x15 0 x16) fun _ =>
pm_b (pm_vd [2, 3, 4, 5, 6, 7] x14 (fun ci => if ci = 2 then f_X5_setting g x14 else if ci = 3 then f_X8_setting g x14 else if ci = 4 then f_X9_setting g x14 else if ci = 5 then f_X5_setting g x14 else if ci = 6 then f_X5_setting g x14 else if ci = 7 then f_X11_setting g x14 else pm_n)) fun x17 =>
pm_b (pa_i 0 x15 1 x17) fun _ =>
pm_b (g_r [0] 0 a0) fun x18 =>
pm_b (g_r [1] 2 x18) fun x19 =>
pm_b (a_i 0 x19 s10.2) fun x20 =>
pm_b (pa_i 0 x15 2 x20) fun _ =>
pm_b (g_i [2, 3, 4, 5, 6, 7] 1 x14) fun x21 =>
pm_b (pa_i 0 x15 3 x21) fun _ =>
pm_b (g_i [2, 3, 4, 5, 6, 7] 1 x14) fun x22 =>
pm_b (f_X1_scaleFor g x22) fun x23 =>
pm_b (pa_i 0 x15 4 x23) fun _ =>
pm_b (a_i 0 x3 s10.2) fun x24 =>
pm_b (pa_i 0 x15 5 x24) fun _ =>
pm_b (g_r [0] 0 a0) fun x25 =>
pm_b (pm_on 1 x25 (f_X2_dependsOn g x25 s10.2)) fun x26 =>
pm_b (pa_i 0 x15 6 x26) fun _ =>
pm_b (g_r [1] 2 x5) fun x27 =>
pm_b (a_i 0 x27 s10.2) fun x28 =>
pm_b (pa_i 0 x15 7 x28) fun _ =>
pm_b (f_X1_add g s10.1 x15) fun x29 =>
pm_b (g_r [0] 0 a0) fun x30 =>
pm_b (pm_on 1 x30 (f_X2_tellInputs g x30 x14)) fun _ =>
pm_b (pm_lp (fun (s32 : Int64 × Int32) =>
pm_b (g_r [2, 3, 4, 5, 6, 7] 0 x14) fun x35 =>
pm_b (a_n g x35) fun x36 =>
if x36 ≤ s32.2 then (
pm_r (Sum.inr s32.1))
else (
pm_b (n_a 0 2) fun x37 =>
pm_b (g_r [2, 3, 4, 5, 6, 7] 0 x14) fun x38 =>
pm_b (a_i 0 x38 s32.2) fun x39 =>
pm_b (pa_i 0 x37 0 x39) fun _ =>
pm_b (g_r [0] 0 a0) fun x40 =>
pm_b (g_r [1] 3 x40) fun x41 =>
pm_b (a_i 0 x41 s32.2) fun x42 =>
pm_b (pa_i 0 x37 1 x42) fun _ =>
pm_b (f_X1_add g s32.1 x37) fun x43 =>
pm_r (Sum.inl (x43, s32.2 + 1)))) (x29, 0)) fun (v44 : Int64) =>
pm_r (Sum.inl (v44, s10.2 + 1)))) (p0, 0)) fun (v45 : Int64) =>
pm_r v45
noncomputable def f_X2_rate (g : sm_G) (a0 : Nat) (p0 : Nat) : PM Sto Int32 :=
pm_b (pm_on 1 a0 (f_X2_tellOutputs g a0)) fun _ =>
pm_b (pm_on 1 a0 (f_X2_tellInputs g a0 p0)) fun _ =>
pm_b (g_r [1] 3 a0) fun x3 =>
pm_b (pm_on 3 p0 (f_X8_rate g p0 x3)) fun x4 =>
pm_r x4
noncomputable def f_X1_addSettings (g : sm_G) (a0 : Nat) (p0 : Int64) : PM Sto Int64 :=
pm_b (pm_on 0 a0 (f_X1_modules g a0)) fun x1 =>
pm_b (pm_lp (fun (s2 : Int64 × Int32) =>
if x1 ≤ s2.2 then (
pm_r (Sum.inr s2.1))
else (
pm_b (g_r [0] 0 a0) fun x5 =>
pm_b (pm_on 1 x5 (f_X2_part g x5 s2.2)) fun x6 =>
pm_b (i_o [2, 3, 4, 5, 6, 7] [2, 3] x6) fun x7 =>
pm_b (
if x7 = 0 then (
pm_r s2.1)
else (
pm_b (g_r [0] 0 a0) fun x10 =>
pm_b (pm_on 1 x10 (f_X2_part g x10 s2.2)) fun x11 =>
pm_b (c_q [2, 3] (some x11)) fun x12 =>
pm_b (n_a 0 4) fun x13 =>
pm_b (pm_vd [2, 3] x12 (fun _ => f_X7_weight g x12 0)) fun x14 =>
pm_b (pa_i 0 x13 0 x14) fun _ =>
pm_b (pm_vd [2, 3] x12 (fun _ => f_X7_weight g x12 1)) fun x15 =>
pm_b (pa_i 0 x13 1 x15) fun _ =>
pm_b (pm_vd [2, 3] x12 (fun _ => f_X7_weight g x12 2)) fun x16 =>
pm_b (pa_i 0 x13 2 x16) fun _ =>
pm_b (pm_vd [2, 3] x12 (fun _ => f_X7_weight g x12 3)) fun x17 =>
pm_b (pa_i 0 x13 3 x17) fun _ =>
pm_b (f_X1_add g s2.1 x13) fun x18 =>
pm_r x18)) fun (v8 : Int64) =>
pm_r (Sum.inl (v8, s2.2 + 1)))) (p0, 0)) fun (v19 : Int64) =>
pm_b (pm_lp (fun (s20 : Int64 × Int32) =>
if x1 ≤ s20.2 then (
pm_r (Sum.inr s20.1))
else (
pm_b (g_r [0] 0 a0) fun x23 =>
pm_b (pm_on 1 x23 (f_X2_part g x23 s20.2)) fun x24 =>
pm_b (i_o [2, 3, 4, 5, 6, 7] [3] x24) fun x25 =>
pm_b (
if x25 = 0 then (
pm_r s20.1)
else (
pm_b (g_r [0] 0 a0) fun x28 =>
pm_b (pm_on 1 x28 (f_X2_part g x28 s20.2)) fun x29 =>
pm_b (c_q [3] (some x29)) fun x30 =>
pm_b (n_a 0 3) fun x31 =>
pm_b (g_i [3] 4 x30) fun x32 =>
pm_b (pa_i 0 x31 0 x32) fun _ =>
pm_b (g_i [3] 5 x30) fun x33 =>
pm_b (pa_i 0 x31 1 x33) fun _ =>
pm_b (g_r [0] 0 a0) fun x34 =>
pm_b (pm_on 1 x34 (f_X2_rate g x34 x30)) fun x35 =>
pm_b (pa_i 0 x31 2 x35) fun _ =>
pm_b (f_X1_add g s20.1 x31) fun x36 =>
pm_r x36)) fun (v26 : Int64) =>
pm_r (Sum.inl (v26, s20.2 + 1)))) (v19, 0)) fun (v37 : Int64) =>
pm_r v37
noncomputable def f_J23_isNaN (g : sm_G) (p0 : UInt64) : PM Sto Int32 :=
pm_b (
if (Op.cmpValue (FP.dcmp p0 p0) .l) = 0 then (
pm_r 0)
else (
pm_r 1)) fun (v1 : Int32) =>
pm_b (pm_z v1) fun x3 =>
pm_r x3
noncomputable def f_J23_doubleToLongBits (g : sm_G) (p0 : UInt64) : PM Sto Int64 :=
pm_b (f_J23_isNaN g p0) fun x1 =>
if x1 = 0 then (
pm_r p0.toInt64)
else (
pm_r 9221120237041090560)
noncomputable def f_X1_digest (g : sm_G) (a0 : Nat) : PM Sto Int64 :=
pm_b (g_r [0] 0 a0) fun x1 =>
pm_b (n_a 0 14) fun x2 =>
pm_b (pm_on 0 a0 (f_X1_modules g a0)) fun x3 =>
pm_b (pa_i 0 x2 0 x3) fun _ =>
pm_b (pm_on 1 x1 (f_X2_cords g x1)) fun x4 =>
pm_b (pa_i 0 x2 1 x4) fun _ =>
pm_b (g_i [1] 7 x1) fun x5 =>
pm_b (pa_i 0 x2 2 x5) fun _ =>
pm_b (pm_on 0 a0 (f_X1_way g a0)) fun x6 =>
pm_b (pa_i 0 x2 3 x6) fun _ =>
pm_b (g_i [1] 6 x1) fun x7 =>
pm_b (
if x7 = 0 then (
pm_r 0)
else (
pm_r 1)) fun (v8 : Int32) =>
pm_b (pa_i 0 x2 4 v8) fun _ =>
pm_b (g_i [1] 8 x1) fun x10 =>
pm_b (pa_i 0 x2 5 x10) fun _ =>
pm_b (pm_on 1 x1 (f_X2_overloaded g x1)) fun x11 =>
pm_b (pa_i 0 x2 6 x11) fun _ =>
pm_b (pm_on 1 x1 (f_X2_inCircles g x1)) fun x12 =>
pm_b (pa_i 0 x2 7 x12) fun _ =>
pm_b (pm_on 1 x1 (f_X2_ends g x1)) fun x13 =>
pm_b (pa_i 0 x2 8 x13) fun _ =>
pm_b (g_i [1] 9 x1) fun x14 =>
pm_b (pa_i 0 x2 9 x14) fun _ =>
pm_b (g_i [1] 10 x1) fun x15 =>
pm_b (pa_i 0 x2 10 x15) fun _ =>
pm_b (g_i [1] 11 x1) fun x16 =>
pm_b (pa_i 0 x2 11 x16) fun _ =>
pm_b (g_i [1] 13 x1) fun x17 =>
pm_b (pa_i 0 x2 12 x17) fun _ =>
pm_b (pm_on 1 x1 (f_X2_untilOverload g x1)) fun x18 =>
pm_b (pa_i 0 x2 13 x18) fun _ =>
pm_b (f_X1_add g 610 x2) fun x19 =>
pm_b (pm_on 0 a0 (f_X1_addParts g a0 x19)) fun x20 =>
pm_b (pm_on 0 a0 (f_X1_addSettings g a0 x20)) fun x21 =>
pm_b (pm_lp (fun (s22 : Int64 × Int32) =>
pm_b (g_i [1] 10 x1) fun x25 =>
if x25 ≤ s22.2 then (
pm_r (Sum.inr s22.1))
else (
pm_b (n_a 0 1) fun x26 =>
pm_b (g_r [1] 4 x1) fun x27 =>
pm_b (a_i 0 x27 s22.2) fun x28 =>
pm_b (pa_i 0 x26 0 x28) fun _ =>
pm_b (f_X1_add g s22.1 x26) fun x29 =>
pm_r (Sum.inl (x29, s22.2 + 1)))) (x21, 0)) fun (v30 : Int64) =>
pm_b (pm_on 1 x1 (f_X2_meanRecord g x1)) fun x31 =>
pm_b (f_J23_doubleToLongBits g x31) fun x32 =>
pm_r ((31 * v30) + x32)
noncomputable def f_X1_checkRange (g : sm_G) (p0 : Int32) (p1 : Int32) (p2 : Int32) : PM Sto (Unit ⊕ String) :=
pm_b (f_X1_isWithin g p0 p1 p2) fun x1 =>
if x1 = 0 then (
x_t "java/lang/IllegalArgumentException")
else (
pm_r (Sum.inl ()))
noncomputable def f_X1_checkState (g : sm_G) (p0 : Int32) : PM Sto (Unit ⊕ String) :=
if p0 = 0 then (
x_t "java/lang/IllegalStateException")
else (
pm_r (Sum.inl ()))
noncomputable def f_X1_newPart (g : sm_G) (p0 : Int32) : PM Sto Nat :=
if p0 = 0 then (
pm_b (n_o 2) fun x1 =>
pm_b (f_X12_init g x1) fun _ =>
pm_r x1)
else if p0 = 1 then (
pm_b (n_o 3) fun x3 =>
pm_b (f_X8_init g x3) fun _ =>
pm_r x3)
else if p0 = 2 then (
pm_b (n_o 4) fun x5 =>
pm_b (f_X9_init g x5) fun _ =>
pm_r x5)
else if p0 = 3 then (
pm_b (n_o 5) fun x7 =>
pm_b (f_X10_init g x7) fun _ =>
pm_r x7)
else if p0 = 4 then (
pm_b (n_o 6) fun x9 =>
pm_b (f_X6_init g x9) fun _ =>
pm_r x9)
else (
pm_b (n_o 7) fun x11 =>
pm_b (f_X11_init g x11) fun _ =>
pm_r x11)
noncomputable def f_X2_tellOrder (g : sm_G) (a0 : Nat) : PM Sto Unit :=
pm_b (pm_on 1 a0 (f_X2_levels g a0)) fun x1 =>
pm_b (pm_lp (fun (s2 : Int32 × Int32) =>
pm_b (pm_on 1 a0 (f_X2_size g a0)) fun x5 =>
if x5 ≤ s2.1 then (
pm_r (Sum.inr ()))
else (
pm_b (pm_lp (fun (s6 : Int32 × Int32) =>
pm_b (pm_on 1 a0 (f_X2_size g a0)) fun x9 =>
if x9 ≤ s6.2 then (
pm_r (Sum.inr s6.1))
else (
pm_b (a_i 0 x1 s6.2) fun x10 =>
pm_b (
if x10 = s2.2 then (
pm_b (g_r [1] 1 a0) fun x13 =>
pm_b (pa_i 0 x13 s6.1 s6.2) fun _ =>
pm_r (s6.1 + 1))
else (
pm_r s6.1)) fun (v11 : Int32) =>
pm_r (Sum.inl (v11, s6.2 + 1)))) (s2.1, 0)) fun (v14 : Int32) =>
pm_r (Sum.inl (v14, s2.2 + 1)))) (0, 0)) fun (v15 : Unit) =>
pm_r ()
noncomputable def f_X2_put (g : sm_G) (a0 : Nat) (p0 : Int32) : PM Sto Int32 :=
pm_b (g_r [1] 0 a0) fun x1 =>
pm_b (f_X1_newPart g p0) fun x2 =>
pm_b (pm_on 10 x1 (f_J2_add g x1 x2)) fun x3 =>
pm_b (pm_on 1 a0 (f_X2_tellOrder g a0)) fun _ =>
pm_b (pm_on 1 a0 (f_X2_size g a0)) fun x5 =>
pm_r (x5 - 1)
noncomputable def f_X1_put (g : sm_G) (a0 : Nat) (p0 : Int32) : PM Sto (Int32 ⊕ String) :=
pm_b (f_X1_checkRange g p0 0 5) (Sum.elim (fun _ =>
pm_b (pm_on 0 a0 (f_X1_modules g a0)) fun x2 =>
pm_b (
if (16 : Int32) ≤ x2 then (
pm_r 0)
else (
pm_r 1)) fun (v3 : Int32) =>
pm_b (f_X1_checkState g v3) (Sum.elim (fun _ =>
pm_b (pm_on 0 a0 (f_X1_save g a0)) fun _ =>
pm_b (g_r [0] 0 a0) fun x7 =>
pm_b (pm_on 1 x7 (f_X2_put g x7 p0)) fun x8 =>
pm_r (Sum.inl x8)) (fun E => pm_r (Sum.inr E)))) (fun E => pm_r (Sum.inr E)))
noncomputable def f_X1_checkIndex (g : sm_G) (p0 : Int32) (p1 : Int32) : PM Sto (Unit ⊕ String) :=
pm_b (f_X1_isWithin g p0 0 (p1 - 1)) fun x1 =>
if x1 = 0 then (
x_t "java/lang/IndexOutOfBoundsException")
else (
pm_r (Sum.inl ()))
noncomputable def f_X1_checkedPart (g : sm_G) (a0 : Nat) (p0 : Int32) : PM Sto (Nat ⊕ String) :=
pm_b (pm_on 0 a0 (f_X1_modules g a0)) fun x1 =>
pm_b (f_X1_checkIndex g p0 x1) (Sum.elim (fun _ =>
pm_b (g_r [0] 0 a0) fun x3 =>
pm_b (pm_on 1 x3 (f_X2_part g x3 p0)) fun x4 =>
pm_r (Sum.inl x4)) (fun E => pm_r (Sum.inr E)))
noncomputable def f_X1_checkedInput (g : sm_G) (a0 : Nat) (p0 : Int32) (p1 : Int32) : PM Sto (Nat ⊕ String) :=
pm_b (pm_on 0 a0 (f_X1_checkedPart g a0 p0)) (Sum.elim (fun x1 =>
pm_b (g_r [2, 3, 4, 5, 6, 7] 0 x1) fun x2 =>
pm_b (a_n g x2) fun x3 =>
pm_b (f_X1_checkIndex g p1 x3) (Sum.elim (fun _ =>
pm_r (Sum.inl x1)) (fun E => pm_r (Sum.inr E)))) (fun E => pm_r (Sum.inr E)))
noncomputable def f_X1_checkThat (g : sm_G) (p0 : Int32) : PM Sto (Unit ⊕ String) :=
if p0 = 0 then (
x_t "java/lang/IllegalArgumentException")
else (
pm_r (Sum.inl ()))
noncomputable def f_X1_checkedWeighted (g : sm_G) (a0 : Nat) (p0 : Int32) (p1 : Int32) : PM Sto (Nat ⊕ String) :=
pm_b (pm_on 0 a0 (f_X1_checkedInput g a0 p0 p1)) (Sum.elim (fun x1 =>
pm_b (i_o [2, 3, 4, 5, 6, 7] [2, 3] x1) fun x2 =>
pm_b (f_X1_checkThat g x2) (Sum.elim (fun _ =>
pm_b (c_q [2, 3] (some x1)) fun x4 =>
pm_r (Sum.inl x4)) (fun E => pm_r (Sum.inr E)))) (fun E => pm_r (Sum.inr E)))
noncomputable def f_X7_turnWeight (g : sm_G) (a0 : Nat) (p0 : Int32) : PM Sto Int32 :=
pm_b (g_i [2, 3] 2 a0) fun x1 =>
pm_b (p_f [2, 3] 2 a0 (.int (x1 ^^^ ((1 : Int32) <<< (p0 &&& 31))))) fun _ =>
pm_b (pm_vd [2, 3] a0 (fun _ => f_X7_weight g a0 p0)) fun x2 =>
pm_r x2
noncomputable def f_X1_turnWeight (g : sm_G) (a0 : Nat) (p0 : Int32) (p1 : Int32) : PM Sto (Int32 ⊕ String) :=
pm_b (pm_on 0 a0 (f_X1_checkedWeighted g a0 p0 p1)) (Sum.elim (fun x1 =>
pm_b (pm_on 0 a0 (f_X1_save g a0)) fun _ =>
pm_b (pm_vd [2, 3] x1 (fun _ => f_X7_turnWeight g x1 p1)) fun x3 =>
pm_r (Sum.inl x3)) (fun E => pm_r (Sum.inr E)))
noncomputable def f_X1_hasVoltage (g : sm_G) (p0 : Nat) : PM Sto Int32 :=
pm_b (i_o [2, 3, 4, 5, 6, 7] [7] p0) fun x1 =>
pm_b (
if x1 = 0 then (
pm_b (i_o [2, 3, 4, 5, 6, 7] [3] p0) fun x4 =>
if x4 = 0 then (
pm_r 0)
else (
pm_r 1))
else (
pm_r 1)) fun (v2 : Int32) =>
pm_b (pm_z v2) fun x5 =>
pm_r x5
noncomputable def f_X8_reset (g : sm_G) (a0 : Nat) : PM Sto Unit :=
pm_b (g_i [3] 3 a0) fun x1 =>
pm_b (p_f [3] 5 a0 (.int (1000 * x1))) fun _ =>
pm_r ()
noncomputable def f_X2_setVoltage (g : sm_G) (a0 : Nat) (p0 : Nat) (p1 : Int32) : PM Sto Unit :=
pm_b (i_o [2, 3, 4, 5, 6, 7] [7] p0) fun x1 =>
pm_b (
if x1 = 0 then (
pm_b (c_q [3] (some p0)) fun x4 =>
pm_b (p_f [3] 3 x4 (.int p1)) fun _ =>
pm_b (g_i [1] 7 a0) fun x5 =>
if x5 = 0 then (
pm_b (pm_on 3 x4 (f_X8_reset g x4)) fun _ =>
pm_r ())
else (
pm_r ()))
else (
pm_b (c_q [7] (some p0)) fun x7 =>
pm_b (p_f [7] 2 x7 (.int p1)) fun _ =>
pm_r ())) fun (v2 : Unit) =>
pm_r ()
noncomputable def f_X1_setVoltage (g : sm_G) (a0 : Nat) (p0 : Int32) (p1 : Int32) : PM Sto (Int32 ⊕ String) :=
pm_b (pm_on 0 a0 (f_X1_checkedPart g a0 p0)) (Sum.elim (fun x1 =>
pm_b (f_X1_hasVoltage g x1) fun x2 =>
pm_b (f_X1_checkThat g x2) (Sum.elim (fun _ =>
pm_b (f_X1_checkRange g p1 (-10000) 10000) (Sum.elim (fun _ =>
pm_b (pm_on 0 a0 (f_X1_save g a0)) fun _ =>
pm_b (pm_vd [2, 3, 4, 5, 6, 7] x1 (fun ci => if ci = 2 then f_X5_setting g x1 else if ci = 3 then f_X8_setting g x1 else if ci = 4 then f_X9_setting g x1 else if ci = 5 then f_X5_setting g x1 else if ci = 6 then f_X5_setting g x1 else if ci = 7 then f_X11_setting g x1 else pm_n)) fun x6 =>
pm_b (g_r [0] 0 a0) fun x7 =>
pm_b (pm_on 1 x7 (f_X2_setVoltage g x7 x1 p1)) fun _ =>
pm_r (Sum.inl x6)) (fun E => pm_r (Sum.inr E)))) (fun E => pm_r (Sum.inr E)))) (fun E => pm_r (Sum.inr E)))
noncomputable def f_X1_checkedPot (g : sm_G) (a0 : Nat) (p0 : Int32) : PM Sto (Nat ⊕ String) :=
pm_b (pm_on 0 a0 (f_X1_checkedPart g a0 p0)) (Sum.elim (fun x1 =>
pm_b (i_o [2, 3, 4, 5, 6, 7] [4] x1) fun x2 =>
pm_b (f_X1_checkThat g x2) (Sum.elim (fun _ =>
pm_b (c_q [4] (some x1)) fun x4 =>
pm_r (Sum.inl x4)) (fun E => pm_r (Sum.inr E)))) (fun E => pm_r (Sum.inr E)))
noncomputable def f_X1_setFactor (g : sm_G) (a0 : Nat) (p0 : Int32) (p1 : Int32) : PM Sto (Int32 ⊕ String) :=
pm_b (pm_on 0 a0 (f_X1_checkedPot g a0 p0)) (Sum.elim (fun x1 =>
pm_b (f_X1_checkRange g p1 0 1000) (Sum.elim (fun _ =>
pm_b (pm_on 0 a0 (f_X1_save g a0)) fun _ =>
pm_b (g_i [4] 2 x1) fun x4 =>
pm_b (p_f [4] 2 x1 (.int p1)) fun _ =>
pm_r (Sum.inl x4)) (fun E => pm_r (Sum.inr E)))) (fun E => pm_r (Sum.inr E)))
noncomputable def f_X1_checkedIntegrator (g : sm_G) (a0 : Nat) (p0 : Int32) : PM Sto (Nat ⊕ String) :=
pm_b (pm_on 0 a0 (f_X1_checkedPart g a0 p0)) (Sum.elim (fun x1 =>
pm_b (i_o [2, 3, 4, 5, 6, 7] [3] x1) fun x2 =>
pm_b (f_X1_checkThat g x2) (Sum.elim (fun _ =>
pm_b (c_q [3] (some x1)) fun x4 =>
pm_r (Sum.inl x4)) (fun E => pm_r (Sum.inr E)))) (fun E => pm_r (Sum.inr E)))
noncomputable def f_X1_setSpeed (g : sm_G) (a0 : Nat) (p0 : Int32) (p1 : Int32) : PM Sto (Int32 ⊕ String) :=
pm_b (pm_on 0 a0 (f_X1_checkedIntegrator g a0 p0)) (Sum.elim (fun x1 =>
pm_b (f_X1_checkRange g p1 1 1000) (Sum.elim (fun _ =>
pm_b (pm_on 0 a0 (f_X1_save g a0)) fun _ =>
pm_b (g_i [3] 4 x1) fun x4 =>
pm_b (p_f [3] 4 x1 (.int p1)) fun _ =>
pm_r (Sum.inl x4)) (fun E => pm_r (Sum.inr E)))) (fun E => pm_r (Sum.inr E)))
noncomputable def f_X2_dependsAtOnce (g : sm_G) (a0 : Nat) (p0 : Int32) : PM Sto Int32 :=
pm_b (pm_r ((1 : Int32) <<< (p0 &&& 31))) fun x1 =>
pm_b (pm_lp (fun (s2 : Int32 × Int32) =>
if s2.1 = s2.2 then (
pm_r (Sum.inr s2.1))
else (
pm_b (pm_lp (fun (s5 : Int32 × Int32) =>
pm_b (pm_on 1 a0 (f_X2_size g a0)) fun x8 =>
if x8 ≤ s5.2 then (
pm_r (Sum.inr s5.1))
else (
pm_b (f_X1_has g s2.1 s5.2) fun x9 =>
pm_b (
if x9 = 0 then (
pm_r 0)
else (
pm_b (pm_on 1 a0 (f_X2_part g a0 s5.2)) fun x12 =>
pm_b (i_o [2, 3, 4, 5, 6, 7] [3] x12) fun x13 =>
if x13 = 0 then (
pm_b (pm_on 1 a0 (f_X2_part g a0 s5.2)) fun x14 =>
pm_b (pm_vd [2, 3, 4, 5, 6, 7] x14 (fun _ => f_X5_feeders g x14)) fun x15 =>
pm_r x15)
else (
pm_r 0))) fun (v10 : Int32) =>
pm_b (pm_r (s5.1 ||| v10)) fun x16 =>
pm_r (Sum.inl (x16, s5.2 + 1)))) (s2.1, 0)) fun (v17 : Int32) =>
pm_r (Sum.inl (v17, s2.1)))) (x1, 0)) fun (v18 : Int32) =>
pm_r v18
noncomputable def f_X2_wouldCircle (g : sm_G) (a0 : Nat) (p0 : Int32) (p1 : Int32) : PM Sto Int32 :=
pm_b (pm_on 1 a0 (f_X2_part g a0 p0)) fun x1 =>
pm_b (i_o [2, 3, 4, 5, 6, 7] [3] x1) fun x2 =>
pm_b (
if x2 = 0 then (
pm_b (pm_on 1 a0 (f_X2_part g a0 p1)) fun x5 =>
pm_b (i_o [2, 3, 4, 5, 6, 7] [3] x5) fun x6 =>
if x6 = 0 then (
pm_r 0)
else (
pm_r 1))
else (
pm_r 1)) fun (v3 : Int32) =>
pm_b (
if v3 = 0 then (
pm_b (pm_on 1 a0 (f_X2_dependsAtOnce g a0 p0)) fun x9 =>
pm_b (f_X1_has g x9 p1) fun x10 =>
if x10 = 0 then (
pm_r 0)
else (
pm_r 1))
else (
pm_r 0)) fun (v7 : Int32) =>
pm_b (pm_z v7) fun x11 =>
pm_r x11
noncomputable def f_X2_join (g : sm_G) (a0 : Nat) (p0 : Int32) (p1 : Int32) (p2 : Int32) : PM Sto Int32 :=
pm_b (pm_on 1 a0 (f_X2_part g a0 p1)) fun x1 =>
pm_b (g_r [2, 3, 4, 5, 6, 7] 0 x1) fun x2 =>
pm_b (a_i 0 x2 p2) fun x3 =>
pm_b (pm_on 1 a0 (f_X2_part g a0 p1)) fun x4 =>
pm_b (g_r [2, 3, 4, 5, 6, 7] 0 x4) fun x5 =>
pm_b (pa_i 0 x5 p2 p0) fun _ =>
pm_b (pm_on 1 a0 (f_X2_tellOrder g a0)) fun _ =>
pm_r x3
noncomputable def f_X1_join (g : sm_G) (a0 : Nat) (p0 : Int32) (p1 : Int32) (p2 : Int32) : PM Sto (Int32 ⊕ String) :=
pm_b (pm_on 0 a0 (f_X1_checkedPart g a0 p0)) (Sum.elim (fun x1 =>
pm_b (pm_on 0 a0 (f_X1_checkedInput g a0 p1 p2)) (Sum.elim (fun x2 =>
pm_b (g_r [0] 0 a0) fun x3 =>
pm_b (pm_on 1 x3 (f_X2_wouldCircle g x3 p0 p1)) fun x4 =>
pm_b (
if x4 = 0 then (
pm_r 1)
else (
pm_r 0)) fun (v5 : Int32) =>
pm_b (f_X1_checkState g v5) (Sum.elim (fun _ =>
pm_b (pm_on 0 a0 (f_X1_save g a0)) fun _ =>
pm_b (g_r [0] 0 a0) fun x9 =>
pm_b (pm_on 1 x9 (f_X2_join g x9 p0 p1 p2)) fun x10 =>
pm_r (Sum.inl x10)) (fun E => pm_r (Sum.inr E)))) (fun E => pm_r (Sum.inr E)))) (fun E => pm_r (Sum.inr E)))
noncomputable def f_X2_takeOut (g : sm_G) (a0 : Nat) (p0 : Int32) (p1 : Int32) : PM Sto Int32 :=
pm_b (pm_on 1 a0 (f_X2_part g a0 p0)) fun x1 =>
pm_b (g_r [2, 3, 4, 5, 6, 7] 0 x1) fun x2 =>
pm_b (a_i 0 x2 p1) fun x3 =>
pm_b (pm_on 1 a0 (f_X2_part g a0 p0)) fun x4 =>
pm_b (g_r [2, 3, 4, 5, 6, 7] 0 x4) fun x5 =>
pm_b (pa_i 0 x5 p1 (-1)) fun _ =>
pm_b (pm_on 1 a0 (f_X2_tellOrder g a0)) fun _ =>
pm_r x3
noncomputable def f_X1_takeOut (g : sm_G) (a0 : Nat) (p0 : Int32) (p1 : Int32) : PM Sto (Int32 ⊕ String) :=
pm_b (pm_on 0 a0 (f_X1_checkedInput g a0 p0 p1)) (Sum.elim (fun x1 =>
pm_b (g_r [2, 3, 4, 5, 6, 7] 0 x1) fun x2 =>
pm_b (a_i 0 x2 p1) fun x3 =>
pm_b (
if x3 = (-1) then (
pm_r 0)
else (
pm_r 1)) fun (v4 : Int32) =>
pm_b (f_X1_checkState g v4) (Sum.elim (fun _ =>
pm_b (pm_on 0 a0 (f_X1_save g a0)) fun _ =>
pm_b (g_r [0] 0 a0) fun x8 =>
pm_b (pm_on 1 x8 (f_X2_takeOut g x8 p0 p1)) fun x9 =>
pm_r (Sum.inl x9)) (fun E => pm_r (Sum.inr E)))) (fun E => pm_r (Sum.inr E)))
noncomputable def f_X2_setMode (g : sm_G) (a0 : Nat) (p0 : Int32) : PM Sto Unit :=
pm_b (p_f [1] 7 a0 (.int p0)) fun _ =>
pm_b (pm_lp (fun (s1 : Int32) =>
pm_b (pm_on 1 a0 (f_X2_size g a0)) fun x4 =>
if x4 ≤ s1 then (
pm_r (Sum.inr ()))
else (
if p0 = 0 then (
pm_b (pm_on 1 a0 (f_X2_part g a0 s1)) fun x5 =>
pm_b (p_f [2, 3, 4, 5, 6, 7] 1 x5 (.int 0)) fun _ =>
pm_b (pm_on 1 a0 (f_X2_part g a0 s1)) fun x6 =>
pm_b (i_o [2, 3, 4, 5, 6, 7] [3] x6) fun x7 =>
pm_b (
if x7 = 0 then (
pm_r ())
else (
pm_b (pm_on 1 a0 (f_X2_part g a0 s1)) fun x10 =>
pm_b (c_q [3] (some x10)) fun x11 =>
pm_b (pm_on 3 x11 (f_X8_reset g x11)) fun _ =>
pm_r ())) fun (v8 : Unit) =>
pm_r (Sum.inl (s1 + 1)))
else (
pm_r (Sum.inr ())))) 0) fun (v13 : Unit) =>
pm_r ()
noncomputable def f_X1_setMode (g : sm_G) (a0 : Nat) (p0 : Int32) : PM Sto (Int32 ⊕ String) :=
pm_b (f_X1_checkRange g p0 0 2) (Sum.elim (fun _ =>
pm_b (pm_on 0 a0 (f_X1_save g a0)) fun _ =>
pm_b (g_r [0] 0 a0) fun x3 =>
pm_b (g_i [1] 7 x3) fun x4 =>
pm_b (g_r [0] 0 a0) fun x5 =>
pm_b (pm_on 1 x5 (f_X2_setMode g x5 p0)) fun _ =>
pm_r (Sum.inl x4)) (fun E => pm_r (Sum.inr E)))
noncomputable def f_X3_values (g : sm_G)  : PM Sto Nat :=
pm_b (w_vals g) fun x1 =>
pm_b (c_a 5 x1) fun _ =>
pm_r x1
noncomputable def f_X1_setWay (g : sm_G) (a0 : Nat) (p0 : Int32) : PM Sto (Int32 ⊕ String) :=
pm_b (f_X1_checkRange g p0 0 1) (Sum.elim (fun _ =>
pm_b (pm_on 0 a0 (f_X1_save g a0)) fun _ =>
pm_b (g_r [0] 0 a0) fun x3 =>
pm_b (g_r [1] 5 x3) fun x4 =>
pm_b (w_if g x4 (f_J3_ordinal g x4) (f_J3_ordinal g x4)) fun x5 =>
pm_b (g_r [0] 0 a0) fun x6 =>
pm_b (f_X3_values g) fun x7 =>
pm_b (a_q 5 x7 p0) fun x8 =>
pm_b (pm_sm x8) fun x9 =>
pm_b (p_f [1] 5 x6 (.ref x9)) fun _ =>
pm_r (Sum.inl x5)) (fun E => pm_r (Sum.inr E)))
noncomputable def f_X2_setRecorder (g : sm_G) (a0 : Nat) (p0 : Int32) : PM Sto Unit :=
pm_b (p_f [1] 9 a0 (.int p0)) fun _ =>
pm_b (p_f [1] 10 a0 (.int 0)) fun _ =>
pm_b (p_f [1] 11 a0 (.int 0)) fun _ =>
pm_b (p_f [1] 13 a0 (.int (-1))) fun _ =>
pm_r ()
noncomputable def f_X1_record (g : sm_G) (a0 : Nat) (p0 : Int32) : PM Sto (Int32 ⊕ String) :=
pm_b (
if p0 = (-1) then (
pm_r (Sum.inl ()))
else (
pm_b (pm_on 0 a0 (f_X1_checkedPart g a0 p0)) (Sum.elim (fun x4 =>
pm_r (Sum.inl ())) (fun E => pm_r (Sum.inr E))))) (Sum.elim (fun (v1 : Unit) =>
pm_b (pm_on 0 a0 (f_X1_save g a0)) fun _ =>
pm_b (g_r [0] 0 a0) fun x6 =>
pm_b (g_i [1] 9 x6) fun x7 =>
pm_b (g_r [0] 0 a0) fun x8 =>
pm_b (pm_on 1 x8 (f_X2_setRecorder g x8 p0)) fun _ =>
pm_r (Sum.inl x7)) (fun (E : String) => pm_r (Sum.inr E)))
noncomputable def f_X1_canPass (g : sm_G) (a0 : Nat) (p0 : Int32) : PM Sto Int32 :=
pm_b (g_r [0] 0 a0) fun x1 =>
pm_b (g_i [1] 8 x1) fun x2 =>
pm_b (
if (99999 : Int32) < (x2 + p0) then (
pm_r 0)
else (
pm_r 1)) fun (v3 : Int32) =>
pm_b (pm_z v3) fun x5 =>
pm_r x5
noncomputable def f_X1_pass (g : sm_G) (a0 : Nat) (p0 : Int32) : PM Sto (Int32 ⊕ String) :=
pm_b (f_X1_checkRange g p0 1 999) (Sum.elim (fun _ =>
pm_b (pm_on 0 a0 (f_X1_canPass g a0 p0)) fun x2 =>
pm_b (f_X1_checkState g x2) (Sum.elim (fun _ =>
pm_b (pm_on 0 a0 (f_X1_save g a0)) fun _ =>
pm_b (g_r [0] 0 a0) fun x5 =>
pm_b (pm_on 1 x5 (f_X2_pass g x5 p0)) fun x6 =>
pm_r (Sum.inl x6)) (fun E => pm_r (Sum.inr E)))) (fun E => pm_r (Sum.inr E)))
noncomputable def f_X1_kindOf (g : sm_G) (a0 : Nat) (p0 : Int32) : PM Sto (Int32 ⊕ String) :=
pm_b (pm_on 0 a0 (f_X1_checkedPart g a0 p0)) (Sum.elim (fun x1 =>
pm_b (pm_vd [2, 3, 4, 5, 6, 7] x1 (fun ci => if ci = 2 then f_X12_kind g x1 else if ci = 3 then f_X8_kind g x1 else if ci = 4 then f_X9_kind g x1 else if ci = 5 then f_X10_kind g x1 else if ci = 6 then f_X6_kind g x1 else if ci = 7 then f_X11_kind g x1 else pm_n)) fun x2 =>
pm_r (Sum.inl x2)) (fun E => pm_r (Sum.inr E)))
noncomputable def f_X1_inputsOf (g : sm_G) (a0 : Nat) (p0 : Int32) : PM Sto (Int32 ⊕ String) :=
pm_b (pm_on 0 a0 (f_X1_checkedPart g a0 p0)) (Sum.elim (fun x1 =>
pm_b (g_r [2, 3, 4, 5, 6, 7] 0 x1) fun x2 =>
pm_b (a_n g x2) fun x3 =>
pm_r (Sum.inl x3)) (fun E => pm_r (Sum.inr E)))
noncomputable def f_X1_cordIn (g : sm_G) (a0 : Nat) (p0 : Int32) (p1 : Int32) : PM Sto (Int32 ⊕ String) :=
pm_b (pm_on 0 a0 (f_X1_checkedInput g a0 p0 p1)) (Sum.elim (fun x1 =>
pm_b (g_r [2, 3, 4, 5, 6, 7] 0 x1) fun x2 =>
pm_b (a_i 0 x2 p1) fun x3 =>
pm_r (Sum.inl x3)) (fun E => pm_r (Sum.inr E)))
noncomputable def f_X1_weightOf (g : sm_G) (a0 : Nat) (p0 : Int32) (p1 : Int32) : PM Sto (Int32 ⊕ String) :=
pm_b (pm_on 0 a0 (f_X1_checkedWeighted g a0 p0 p1)) (Sum.elim (fun x1 =>
pm_b (pm_vd [2, 3] x1 (fun _ => f_X7_weight g x1 p1)) fun x2 =>
pm_r (Sum.inl x2)) (fun E => pm_r (Sum.inr E)))
noncomputable def f_X1_settingOf (g : sm_G) (a0 : Nat) (p0 : Int32) : PM Sto (Int32 ⊕ String) :=
pm_b (pm_on 0 a0 (f_X1_checkedPart g a0 p0)) (Sum.elim (fun x1 =>
pm_b (pm_vd [2, 3, 4, 5, 6, 7] x1 (fun ci => if ci = 2 then f_X5_setting g x1 else if ci = 3 then f_X8_setting g x1 else if ci = 4 then f_X9_setting g x1 else if ci = 5 then f_X5_setting g x1 else if ci = 6 then f_X5_setting g x1 else if ci = 7 then f_X11_setting g x1 else pm_n)) fun x2 =>
pm_r (Sum.inl x2)) (fun E => pm_r (Sum.inr E)))
noncomputable def f_X1_speedOf (g : sm_G) (a0 : Nat) (p0 : Int32) : PM Sto (Int32 ⊕ String) :=
pm_b (pm_on 0 a0 (f_X1_checkedIntegrator g a0 p0)) (Sum.elim (fun x1 =>
pm_b (g_i [3] 4 x1) fun x2 =>
pm_r (Sum.inl x2)) (fun E => pm_r (Sum.inr E)))
noncomputable def f_X2_output (g : sm_G) (a0 : Nat) (p0 : Int32) : PM Sto Int32 :=
pm_b (pm_on 1 a0 (f_X2_tellOutputs g a0)) fun _ =>
pm_b (g_r [1] 2 a0) fun x2 =>
pm_b (a_i 0 x2 p0) fun x3 =>
pm_r x3
noncomputable def f_X1_outputOf (g : sm_G) (a0 : Nat) (p0 : Int32) : PM Sto (Int32 ⊕ String) :=
pm_b (pm_on 0 a0 (f_X1_checkedPart g a0 p0)) (Sum.elim (fun x1 =>
pm_b (g_r [0] 0 a0) fun x2 =>
pm_b (pm_on 1 x2 (f_X2_output g x2 p0)) fun x3 =>
pm_r (Sum.inl x3)) (fun E => pm_r (Sum.inr E)))
noncomputable def f_X2_ask (g : sm_G) : Nat → Nat → Int32 → Nat → Nat → PM Sto Int32
  | 0, _, _, _, _ => pm_n
  | n + 1, a0, p0, p1, p2 =>
    pm_b (a_i 1 p2 p0) fun x1 =>
    pm_b (
    if x1 = 0 then (
    pm_b (pm_on 1 a0 (f_X2_part g a0 p0)) fun x4 =>
    pm_b (n_a 0 4) fun x5 =>
    pm_b (pm_lp (fun (s6 : Int32) =>
    pm_b (g_r [2, 3, 4, 5, 6, 7] 0 x4) fun x9 =>
    pm_b (a_n g x9) fun x10 =>
    if x10 ≤ s6 then (
    pm_r (Sum.inr ()))
    else (
    pm_b (pm_vd [2, 3, 4, 5, 6, 7] x4 (fun ci => if ci = 2 then f_X5_isSource g x4 else if ci = 3 then f_X8_isSource g x4 else if ci = 4 then f_X5_isSource g x4 else if ci = 5 then f_X5_isSource g x4 else if ci = 6 then f_X5_isSource g x4 else if ci = 7 then f_X11_isSource g x4 else pm_n)) fun x11 =>
    if x11 = 0 then (
    pm_b (g_r [2, 3, 4, 5, 6, 7] 0 x4) fun x12 =>
    pm_b (a_i 0 x12 s6) fun x13 =>
    pm_b (
    if x13 = (-1) then (
    pm_r 0)
    else (
    pm_b (g_r [2, 3, 4, 5, 6, 7] 0 x4) fun x16 =>
    pm_b (a_i 0 x16 s6) fun x17 =>
    pm_b (pm_on 1 a0 (f_X2_ask g n a0 x17 p1 p2)) fun x18 =>
    pm_r x18)) fun (v14 : Int32) =>
    pm_b (pa_i 0 x5 s6 v14) fun _ =>
    pm_r (Sum.inl (s6 + 1)))
    else (
    pm_r (Sum.inr ())))) 0) fun (v19 : Unit) =>
    pm_b (pm_vd [2, 3, 4, 5, 6, 7] x4 (fun ci => if ci = 2 then f_X12_raw g x4 x5 else if ci = 3 then f_X8_raw g x4 x5 else if ci = 4 then f_X9_raw g x4 x5 else if ci = 5 then f_X10_raw g x4 x5 else if ci = 6 then f_X6_raw g x4 x5 else if ci = 7 then f_X11_raw g x4 x5 else pm_n)) fun x20 =>
    pm_b (f_X1_held g x20 10000) fun x21 =>
    pm_b (pa_i 0 p1 p0 x21) fun _ =>
    pm_b (pa_i 1 p2 p0 1) fun _ =>
    pm_r ())
    else (
    pm_r ())) fun (v2 : Unit) =>
    pm_b (a_i 0 p1 p0) fun x22 =>
    pm_r x22
noncomputable def f_X2_outputByAsking (g : sm_G) (a0 : Nat) (p0 : Int32) : PM Sto Int32 :=
pm_b (n_a 0 16) fun x1 =>
pm_b (n_a 1 16) fun x2 =>
pm_b (pm_on 1 a0 (f_X2_ask g 17 a0 p0 x1 x2)) fun x3 =>
pm_r x3
noncomputable def f_X1_outputByAsking (g : sm_G) (a0 : Nat) (p0 : Int32) : PM Sto (Int32 ⊕ String) :=
pm_b (pm_on 0 a0 (f_X1_checkedPart g a0 p0)) (Sum.elim (fun x1 =>
pm_b (g_r [0] 0 a0) fun x2 =>
pm_b (pm_on 1 x2 (f_X2_outputByAsking g x2 p0)) fun x3 =>
pm_r (Sum.inl x3)) (fun E => pm_r (Sum.inr E)))
noncomputable def f_X2_input (g : sm_G) (a0 : Nat) (p0 : Int32) (p1 : Int32) : PM Sto Int32 :=
pm_b (pm_on 1 a0 (f_X2_tellOutputs g a0)) fun _ =>
pm_b (pm_on 1 a0 (f_X2_part g a0 p0)) fun x2 =>
pm_b (pm_on 1 a0 (f_X2_tellInputs g a0 x2)) fun _ =>
pm_b (g_r [1] 3 a0) fun x4 =>
pm_b (a_i 0 x4 p1) fun x5 =>
pm_r x5
noncomputable def f_X1_inputOf (g : sm_G) (a0 : Nat) (p0 : Int32) (p1 : Int32) : PM Sto (Int32 ⊕ String) :=
pm_b (pm_on 0 a0 (f_X1_checkedInput g a0 p0 p1)) (Sum.elim (fun x1 =>
pm_b (g_r [0] 0 a0) fun x2 =>
pm_b (pm_on 1 x2 (f_X2_input g x2 p0 p1)) fun x3 =>
pm_r (Sum.inl x3)) (fun E => pm_r (Sum.inr E)))
noncomputable def f_X1_chargeOf (g : sm_G) (a0 : Nat) (p0 : Int32) : PM Sto (Int32 ⊕ String) :=
pm_b (pm_on 0 a0 (f_X1_checkedIntegrator g a0 p0)) (Sum.elim (fun x1 =>
pm_b (g_i [3] 5 x1) fun x2 =>
pm_r (Sum.inl x2)) (fun E => pm_r (Sum.inr E)))
noncomputable def f_X1_rateOf (g : sm_G) (a0 : Nat) (p0 : Int32) : PM Sto (Int32 ⊕ String) :=
pm_b (g_r [0] 0 a0) fun x1 =>
pm_b (pm_on 0 a0 (f_X1_checkedIntegrator g a0 p0)) (Sum.elim (fun x2 =>
pm_b (pm_on 1 x1 (f_X2_rate g x1 x2)) fun x3 =>
pm_r (Sum.inl x3)) (fun E => pm_r (Sum.inr E)))
noncomputable def f_X1_peakOf (g : sm_G) (a0 : Nat) (p0 : Int32) : PM Sto (Int32 ⊕ String) :=
pm_b (pm_on 0 a0 (f_X1_checkedPart g a0 p0)) (Sum.elim (fun x1 =>
pm_b (g_i [2, 3, 4, 5, 6, 7] 1 x1) fun x2 =>
pm_r (Sum.inl x2)) (fun E => pm_r (Sum.inr E)))
noncomputable def f_X1_scaleOf (g : sm_G) (a0 : Nat) (p0 : Int32) : PM Sto (Int32 ⊕ String) :=
pm_b (pm_on 0 a0 (f_X1_checkedPart g a0 p0)) (Sum.elim (fun x1 =>
pm_b (g_i [2, 3, 4, 5, 6, 7] 1 x1) fun x2 =>
pm_b (f_X1_scaleFor g x2) fun x3 =>
pm_r (Sum.inl x3)) (fun E => pm_r (Sum.inr E)))
noncomputable def f_X1_levelOf (g : sm_G) (a0 : Nat) (p0 : Int32) : PM Sto (Int32 ⊕ String) :=
pm_b (pm_on 0 a0 (f_X1_checkedPart g a0 p0)) (Sum.elim (fun x1 =>
pm_b (g_r [0] 0 a0) fun x2 =>
pm_b (pm_on 1 x2 (f_X2_levels g x2)) fun x3 =>
pm_b (a_i 0 x3 p0) fun x4 =>
pm_r (Sum.inl x4)) (fun E => pm_r (Sum.inr E)))
noncomputable def f_X1_feeders (g : sm_G) (a0 : Nat) (p0 : Int32) : PM Sto (Int32 ⊕ String) :=
pm_b (pm_on 0 a0 (f_X1_checkedPart g a0 p0)) (Sum.elim (fun x1 =>
pm_b (pm_vd [2, 3, 4, 5, 6, 7] x1 (fun _ => f_X5_feeders g x1)) fun x2 =>
pm_r (Sum.inl x2)) (fun E => pm_r (Sum.inr E)))
noncomputable def f_X1_dependsOn (g : sm_G) (a0 : Nat) (p0 : Int32) : PM Sto (Int32 ⊕ String) :=
pm_b (pm_on 0 a0 (f_X1_checkedPart g a0 p0)) (Sum.elim (fun x1 =>
pm_b (g_r [0] 0 a0) fun x2 =>
pm_b (pm_on 1 x2 (f_X2_dependsOn g x2 p0)) fun x3 =>
pm_r (Sum.inl x3)) (fun E => pm_r (Sum.inr E)))
noncomputable def f_X2_dependsByTable (g : sm_G) (a0 : Nat) (p0 : Int32) : PM Sto Int32 :=
pm_b (n_a 0 16) fun x1 =>
pm_b (pm_lp (fun (s2 : Int32) =>
pm_b (pm_on 1 a0 (f_X2_size g a0)) fun x5 =>
if x5 ≤ s2 then (
pm_r (Sum.inr ()))
else (
pm_b (pm_on 1 a0 (f_X2_part g a0 s2)) fun x6 =>
pm_b (pm_vd [2, 3, 4, 5, 6, 7] x6 (fun _ => f_X5_feeders g x6)) fun x7 =>
pm_b (pa_i 0 x1 s2 x7) fun _ =>
pm_r (Sum.inl (s2 + 1)))) 0) fun (v8 : Unit) =>
pm_b (pm_lp (fun (s9 : Int32) =>
pm_b (pm_on 1 a0 (f_X2_size g a0)) fun x12 =>
if x12 ≤ s9 then (
pm_r (Sum.inr ()))
else (
pm_b (pm_lp (fun (s13 : Int32) =>
pm_b (pm_on 1 a0 (f_X2_size g a0)) fun x16 =>
if x16 ≤ s13 then (
pm_r (Sum.inr ()))
else (
pm_b (a_i 0 x1 s13) fun x17 =>
pm_b (a_i 0 x1 s13) fun x18 =>
pm_b (f_X1_has g x18 s9) fun x19 =>
pm_b (
if x19 = 0 then (
pm_r 0)
else (
pm_b (a_i 0 x1 s9) fun x22 =>
pm_r x22)) fun (v20 : Int32) =>
pm_b (pa_i 0 x1 s13 (x17 ||| v20)) fun _ =>
pm_r (Sum.inl (s13 + 1)))) 0) fun (v23 : Unit) =>
pm_r (Sum.inl (s9 + 1)))) 0) fun (v24 : Unit) =>
pm_b (a_i 0 x1 p0) fun x25 =>
pm_r x25
noncomputable def f_X1_dependsByTable (g : sm_G) (a0 : Nat) (p0 : Int32) : PM Sto (Int32 ⊕ String) :=
pm_b (pm_on 0 a0 (f_X1_checkedPart g a0 p0)) (Sum.elim (fun x1 =>
pm_b (g_r [0] 0 a0) fun x2 =>
pm_b (pm_on 1 x2 (f_X2_dependsByTable g x2 p0)) fun x3 =>
pm_r (Sum.inl x3)) (fun E => pm_r (Sum.inr E)))
noncomputable def f_X1_recordAt (g : sm_G) (a0 : Nat) (p0 : Int32) : PM Sto (Int32 ⊕ String) :=
pm_b (g_r [0] 0 a0) fun x1 =>
pm_b (g_i [1] 10 x1) fun x2 =>
pm_b (f_X1_checkIndex g p0 x2) (Sum.elim (fun _ =>
pm_b (g_r [0] 0 a0) fun x4 =>
pm_b (g_r [1] 4 x4) fun x5 =>
pm_b (a_i 0 x5 p0) fun x6 =>
pm_r (Sum.inl x6)) (fun E => pm_r (Sum.inr E)))
noncomputable def f_X1_wouldCircle (g : sm_G) (a0 : Nat) (p0 : Int32) (p1 : Int32) : PM Sto (Int32 ⊕ String) :=
pm_b (pm_on 0 a0 (f_X1_checkedPart g a0 p0)) (Sum.elim (fun x1 =>
pm_b (pm_on 0 a0 (f_X1_checkedPart g a0 p1)) (Sum.elim (fun x2 =>
pm_b (g_r [0] 0 a0) fun x3 =>
pm_b (pm_on 1 x3 (f_X2_wouldCircle g x3 p0 p1)) fun x4 =>
pm_b (pm_z x4) fun x5 =>
pm_r (Sum.inl x5)) (fun E => pm_r (Sum.inr E)))) (fun E => pm_r (Sum.inr E)))
noncomputable def f_X1_outputIn (g : sm_G) (a0 : Nat) (p0 : Int32) (p1 : Int32) : PM Sto (Int32 ⊕ String) :=
pm_b (pm_on 0 a0 (f_X1_checkedPart g a0 p0)) (Sum.elim (fun x1 =>
pm_b (f_X1_checkRange g p1 1 200) (Sum.elim (fun _ =>
pm_b (g_r [0] 0 a0) fun x3 =>
pm_b (pm_on 1 x3 (f_X2_running g x3)) fun x4 =>
pm_b (pm_on 1 x4 (f_X2_pass g x4 p1)) fun x5 =>
pm_b (pm_on 1 x4 (f_X2_output g x4 p0)) fun x6 =>
pm_r (Sum.inl x6)) (fun E => pm_r (Sum.inr E)))) (fun E => pm_r (Sum.inr E)))
noncomputable def f_X2_bestFactor (g : sm_G) (a0 : Nat) (p0 : Int32) (p1 : Int32) (p2 : Int32) : PM Sto Int32 :=
pm_b (pm_lp (fun (s1 : Int32 × Int32 × Int32) =>
if (1000 : Int32) < s1.2.2 then (
pm_r (Sum.inr s1.1))
else (
pm_b (pm_on 1 a0 (f_X2_running g a0)) fun x4 =>
pm_b (pm_on 1 x4 (f_X2_part g x4 p0)) fun x5 =>
pm_b (c_q [4] (some x5)) fun x6 =>
pm_b (p_f [4] 2 x6 (.int s1.2.2)) fun _ =>
pm_b (pm_on 1 x4 (f_X2_pass g x4 20)) fun x7 =>
pm_b (pm_on 1 x4 (f_X2_output g x4 p1)) fun x8 =>
pm_b (pm_r (j_abs ((j_abs x8) - p2))) fun x9 =>
pm_b (
if s1.1 = (-1) then (
pm_r s1.2.2)
else (
if s1.2.1 ≤ x9 then (
pm_r s1.1)
else (
pm_r s1.2.2))) fun (v10 : Int32) =>
pm_b (
if v10 = s1.2.2 then (
pm_r x9)
else (
pm_r s1.2.1)) fun (v12 : Int32) =>
pm_r (Sum.inl (v10, v12, s1.2.2 + 50)))) ((-1), 0, 0)) fun (v14 : Int32) =>
pm_r v14
noncomputable def f_X1_bestFactor (g : sm_G) (a0 : Nat) (p0 : Int32) (p1 : Int32) (p2 : Int32) : PM Sto (Int32 ⊕ String) :=
pm_b (pm_on 0 a0 (f_X1_checkedPart g a0 p0)) (Sum.elim (fun x1 =>
pm_b (pm_on 0 a0 (f_X1_checkedPart g a0 p1)) (Sum.elim (fun x2 =>
pm_b (pm_on 0 a0 (f_X1_checkedPot g a0 p0)) (Sum.elim (fun x3 =>
pm_b (f_X1_checkRange g p2 0 10000) (Sum.elim (fun _ =>
pm_b (g_r [0] 0 a0) fun x5 =>
pm_b (pm_on 1 x5 (f_X2_bestFactor g x5 p0 p1 p2)) fun x6 =>
pm_r (Sum.inl x6)) (fun E => pm_r (Sum.inr E)))) (fun E => pm_r (Sum.inr E)))) (fun E => pm_r (Sum.inr E)))) (fun E => pm_r (Sum.inr E)))
noncomputable def f_X1_goBack (g : sm_G) (a0 : Nat) : PM Sto (Int32 ⊕ String) :=
pm_b (g_q [0] 1 a0) fun x1 =>
pm_b (
if x1 = none then (
pm_r 0)
else (
pm_r 1)) fun (v2 : Int32) =>
pm_b (f_X1_checkState g v2) (Sum.elim (fun _ =>
pm_b (g_r [0] 0 a0) fun x5 =>
pm_b (pm_on 0 a0 (f_X1_remember g a0 x5)) fun _ =>
pm_b (g_r [0] 1 a0) fun x7 =>
pm_b (pm_on 1 x7 (f_X2_copy g x7)) fun x8 =>
pm_b (p_f [0] 0 a0 (.ref x8)) fun _ =>
pm_b (pm_on 0 a0 (f_X1_modules g a0)) fun x9 =>
pm_r (Sum.inl x9)) (fun E => pm_r (Sum.inr E)))
noncomputable def f_J4_isLatin1 (g : sm_G) (a0 : Nat) : PM Sto Int32 :=
pm_b (
if (1 : Int32) = 0 then (
pm_r 0)
else (
pm_b (g_i [11] 1 a0) fun x3 =>
if x3 = 0 then (
pm_r 1)
else (
pm_r 0))) fun (v1 : Int32) =>
pm_b (pm_z v1) fun x4 =>
pm_r x4
noncomputable def f_J20_canEncode (g : sm_G) (p0 : Int32) : PM Sto Int32 :=
pm_b (
if (255 : Int32) < p0 then (
pm_r 0)
else (
pm_r 1)) fun (v1 : Int32) =>
pm_b (pm_z v1) fun x3 =>
pm_r x3
noncomputable def f_J4_append_3 (g : sm_G) (a0 : Nat) (p0 : Int32) : PM Sto Nat :=
pm_b (g_i [11] 3 a0) fun x1 =>
pm_b (pm_on 11 a0 (f_J4_ensureCapacityInternal g a0 (x1 + 1))) fun _ =>
pm_b (pm_on 11 a0 (f_J4_isLatin1 g a0)) fun x3 =>
pm_b (
if x3 = 0 then (
pm_n)
else (
pm_r ())) fun (v4 : Unit) =>
pm_b (f_J20_canEncode g p0) fun x6 =>
pm_b (
if x6 = 0 then (
pm_n)
else (
pm_r ())) fun (v7 : Unit) =>
pm_b (g_r [11] 0 a0) fun x9 =>
pm_b (g_i [11] 3 a0) fun x10 =>
pm_b (p_f [11] 3 a0 (.int (x10 + 1))) fun _ =>
pm_b (pa_i 2 x9 x10 p0.toInt8.toInt32) fun _ =>
pm_r a0
noncomputable def f_J5_append_3 (g : sm_G) (a0 : Nat) (p0 : Int32) : PM Sto Nat :=
pm_b (pm_on 11 a0 (f_J4_append_3 g a0 p0)) fun x1 =>
pm_r a0
noncomputable def f_X1_append (g : sm_G) (a0 : Nat) (p0 : Int32) : PM Sto (Int32 ⊕ String) :=
pm_b (f_X1_checkRange g p0 33 126) (Sum.elim (fun _ =>
pm_b (g_r [0] 3 a0) fun x2 =>
pm_b (pm_on 11 x2 (f_J5_length g x2)) fun x3 =>
pm_b (
if (60 : Int32) ≤ x3 then (
pm_r 0)
else (
pm_r 1)) fun (v4 : Int32) =>
pm_b (f_X1_checkState g v4) (Sum.elim (fun _ =>
pm_b (g_r [0] 3 a0) fun x7 =>
pm_b (pm_on 11 x7 (f_J5_append_3 g x7 ((p0.toUInt32 % 65536).toInt32))) fun x8 =>
pm_b (g_r [0] 3 a0) fun x9 =>
pm_b (pm_on 11 x9 (f_J5_length g x9)) fun x10 =>
pm_r (Sum.inl x10)) (fun E => pm_r (Sum.inr E)))) (fun E => pm_r (Sum.inr E)))
noncomputable def f_X1_hasInput (g : sm_G) (a0 : Nat) (p0 : Int32) (p1 : Int32) : PM Sto Int32 :=
pm_b (pm_on 0 a0 (f_X1_modules g a0)) fun x1 =>
pm_b (
if x1 ≤ p0 then (
pm_r 0)
else (
pm_b (g_r [0] 0 a0) fun x4 =>
pm_b (pm_on 1 x4 (f_X2_part g x4 p0)) fun x5 =>
pm_b (g_r [2, 3, 4, 5, 6, 7] 0 x5) fun x6 =>
pm_b (a_n g x6) fun x7 =>
if x7 ≤ p1 then (
pm_r 0)
else (
pm_r 1))) fun (v2 : Int32) =>
pm_b (pm_z v2) fun x8 =>
pm_r x8
noncomputable def f_X1_isPossible (g : sm_G) (a0 : Nat) (p0 : Nat) : PM Sto Int32 :=
pm_b (g_i [9] 0 p0) fun x1 =>
if x1 = 43 then (
pm_b (g_i [9] 1 p0) fun x2 =>
pm_b (pm_on 0 a0 (f_X1_canPass g a0 x2)) fun x3 =>
pm_b (pm_z x3) fun x4 =>
pm_r x4)
else if x1 = 102 then (
pm_b (g_i [9] 1 p0) fun x5 =>
pm_b (pm_on 0 a0 (f_X1_modules g a0)) fun x6 =>
pm_b (
if x6 ≤ x5 then (
pm_r 0)
else (
pm_b (g_r [0] 0 a0) fun x9 =>
pm_b (g_i [9] 1 p0) fun x10 =>
pm_b (pm_on 1 x9 (f_X2_part g x9 x10)) fun x11 =>
pm_b (i_o [2, 3, 4, 5, 6, 7] [4] x11) fun x12 =>
if x12 = 0 then (
pm_r 0)
else (
pm_r 1))) fun (v7 : Int32) =>
pm_b (pm_z v7) fun x13 =>
pm_r x13)
else if x1 = 110 then (
pm_b (pm_on 0 a0 (f_X1_modules g a0)) fun x14 =>
pm_b (
if (16 : Int32) ≤ x14 then (
pm_r 0)
else (
pm_r 1)) fun (v15 : Int32) =>
pm_b (pm_z v15) fun x17 =>
pm_r x17)
else if x1 = 118 then (
pm_b (g_i [9] 1 p0) fun x18 =>
pm_b (pm_on 0 a0 (f_X1_modules g a0)) fun x19 =>
pm_b (
if x19 ≤ x18 then (
pm_r 0)
else (
pm_b (g_r [0] 0 a0) fun x22 =>
pm_b (g_i [9] 1 p0) fun x23 =>
pm_b (pm_on 1 x22 (f_X2_part g x22 x23)) fun x24 =>
pm_b (f_X1_hasVoltage g x24) fun x25 =>
if x25 = 0 then (
pm_r 0)
else (
pm_r 1))) fun (v20 : Int32) =>
pm_b (pm_z v20) fun x26 =>
pm_r x26)
else if x1 = 120 then (
pm_b (g_i [9] 1 p0) fun x27 =>
pm_b (g_i [9] 3 p0) fun x28 =>
pm_b (pm_on 0 a0 (f_X1_hasInput g a0 x27 x28)) fun x29 =>
pm_b (
if x29 = 0 then (
pm_r 0)
else (
pm_b (g_r [0] 0 a0) fun x32 =>
pm_b (g_i [9] 1 p0) fun x33 =>
pm_b (pm_on 1 x32 (f_X2_part g x32 x33)) fun x34 =>
pm_b (g_r [2, 3, 4, 5, 6, 7] 0 x34) fun x35 =>
pm_b (g_i [9] 3 p0) fun x36 =>
pm_b (a_i 0 x35 x36) fun x37 =>
if x37 = (-1) then (
pm_r 0)
else (
pm_r 1))) fun (v30 : Int32) =>
pm_b (pm_z v30) fun x38 =>
pm_r x38)
else (
pm_b (g_i [9] 1 p0) fun x39 =>
pm_b (pm_on 0 a0 (f_X1_modules g a0)) fun x40 =>
pm_b (
if x40 ≤ x39 then (
pm_r 0)
else (
pm_b (g_i [9] 2 p0) fun x43 =>
pm_b (g_i [9] 3 p0) fun x44 =>
pm_b (pm_on 0 a0 (f_X1_hasInput g a0 x43 x44)) fun x45 =>
if x45 = 0 then (
pm_r 0)
else (
pm_b (g_r [0] 0 a0) fun x46 =>
pm_b (g_i [9] 1 p0) fun x47 =>
pm_b (g_i [9] 2 p0) fun x48 =>
pm_b (pm_on 1 x46 (f_X2_wouldCircle g x46 x47 x48)) fun x49 =>
if x49 = 0 then (
pm_r 1)
else (
pm_r 0)))) fun (v41 : Int32) =>
pm_b (pm_z v41) fun x50 =>
pm_r x50)
noncomputable def f_X1_happen (g : sm_G) (a0 : Nat) (p0 : Nat) : PM Sto Unit :=
pm_b (g_i [9] 0 p0) fun x1 =>
pm_b (
if x1 = 43 then (
pm_b (g_r [0] 0 a0) fun x4 =>
pm_b (g_i [9] 1 p0) fun x5 =>
pm_b (pm_on 1 x4 (f_X2_pass g x4 x5)) fun x6 =>
pm_r ())
else if x1 = 102 then (
pm_b (g_r [0] 0 a0) fun x7 =>
pm_b (g_i [9] 1 p0) fun x8 =>
pm_b (pm_on 1 x7 (f_X2_part g x7 x8)) fun x9 =>
pm_b (c_q [4] (some x9)) fun x10 =>
pm_b (g_i [9] 2 p0) fun x11 =>
pm_b (p_f [4] 2 x10 (.int x11)) fun _ =>
pm_r ())
else if x1 = 110 then (
pm_b (g_r [0] 0 a0) fun x12 =>
pm_b (g_i [9] 1 p0) fun x13 =>
pm_b (pm_on 1 x12 (f_X2_put g x12 x13)) fun x14 =>
pm_r ())
else if x1 = 118 then (
pm_b (g_r [0] 0 a0) fun x15 =>
pm_b (g_r [0] 0 a0) fun x16 =>
pm_b (g_i [9] 1 p0) fun x17 =>
pm_b (pm_on 1 x16 (f_X2_part g x16 x17)) fun x18 =>
pm_b (g_i [9] 2 p0) fun x19 =>
pm_b (pm_on 1 x15 (f_X2_setVoltage g x15 x18 x19)) fun _ =>
pm_r ())
else if x1 = 120 then (
pm_b (g_r [0] 0 a0) fun x21 =>
pm_b (g_i [9] 1 p0) fun x22 =>
pm_b (g_i [9] 3 p0) fun x23 =>
pm_b (pm_on 1 x21 (f_X2_takeOut g x21 x22 x23)) fun x24 =>
pm_r ())
else (
pm_b (g_r [0] 0 a0) fun x25 =>
pm_b (g_i [9] 1 p0) fun x26 =>
pm_b (g_i [9] 2 p0) fun x27 =>
pm_b (g_i [9] 3 p0) fun x28 =>
pm_b (pm_on 1 x25 (f_X2_join g x25 x26 x27 x28)) fun x29 =>
pm_r ())) fun (v2 : Unit) =>
pm_r ()
noncomputable def f_X1_patch (g : sm_G) (a0 : Nat) : PM Sto (Int32 ⊕ String) :=
pm_b (n_o 8) fun x1 =>
pm_b (g_r [0] 3 a0) fun x2 =>
pm_b (f_X13_init g x1 x2) fun _ =>
pm_b (pm_on 8 x1 (f_X13_read g x1)) fun x4 =>
pm_b (
if x4 = (-1) then (
pm_r 1)
else (
pm_r 0)) fun (v5 : Int32) =>
pm_b (f_X1_checkState g v5) (Sum.elim (fun _ =>
pm_b (pm_on 0 a0 (f_X1_save g a0)) fun _ =>
pm_b (g_r [0] 3 a0) fun x9 =>
pm_b (pm_on 11 x9 (f_J5_setLength g x9 0)) fun _ =>
pm_b (g_r [8] 1 x1) fun x11 =>
pm_b (pm_on 10 x11 (f_J2_size g x11)) fun x12 =>
pm_b (pm_lp (fun (s13 : Int32) =>
if x12 ≤ s13 then (
pm_r (Sum.inr s13))
else (
pm_b (g_r [8] 1 x1) fun x16 =>
pm_b (pm_on 10 x16 (f_J2_get g x16 s13)) fun x17 =>
pm_b (c_q [9] x17) fun x18 =>
pm_b (pm_on 0 a0 (f_X1_isPossible g a0 x18)) fun x19 =>
if x19 = 0 then (
pm_r (Sum.inr s13))
else (
pm_b (g_r [8] 1 x1) fun x20 =>
pm_b (pm_on 10 x20 (f_J2_get g x20 s13)) fun x21 =>
pm_b (c_q [9] x21) fun x22 =>
pm_b (pm_on 0 a0 (f_X1_happen g a0 x22)) fun _ =>
pm_r (Sum.inl (s13 + 1))))) 0) fun (v24 : Int32) =>
pm_r (Sum.inl v24)) (fun E => pm_r (Sum.inr E)))
noncomputable def f_J2_isEmpty (g : sm_G) (a0 : Nat) : PM Sto Int32 :=
pm_b (g_i [10] 2 a0) fun x1 =>
pm_b (
if x1 = 0 then (
pm_r 1)
else (
pm_r 0)) fun (v2 : Int32) =>
pm_b (pm_z v2) fun x4 =>
pm_r x4
noncomputable def f_X1_undo (g : sm_G) (a0 : Nat) : PM Sto (Int32 ⊕ String) :=
pm_b (g_r [0] 2 a0) fun x1 =>
pm_b (pm_on 10 x1 (f_J2_isEmpty g x1)) fun x2 =>
pm_b (
if x2 = 0 then (
pm_r 1)
else (
pm_r 0)) fun (v3 : Int32) =>
pm_b (f_X1_checkState g v3) (Sum.elim (fun _ =>
pm_b (g_r [0] 2 a0) fun x6 =>
pm_b (g_r [0] 2 a0) fun x7 =>
pm_b (pm_on 10 x7 (f_J2_size g x7)) fun x8 =>
pm_b (pm_on 10 x6 (f_J2_remove g x6 (x8 - 1))) fun x9 =>
pm_b (c_q [1] x9) fun x10 =>
pm_b (p_f [0] 0 a0 (.ref x10)) fun _ =>
pm_b (g_r [0] 2 a0) fun x11 =>
pm_b (pm_on 10 x11 (f_J2_size g x11)) fun x12 =>
pm_r (Sum.inl x12)) (fun E => pm_r (Sum.inr E)))
