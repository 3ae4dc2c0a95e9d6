/-! ===== the methods as functions: the CouncilStore (printed by gen/fprint.py) ===== -/
noncomputable def f_X4_init (x0 : gx_Nm) (x1 : Int32) : gx_M (Unit) :=
  gx_bd (gx_na 101 x1 (x1.toNatClampNeg :: 0 :: x0)) fun _ =>
  gx_bd (gx_pr x0 0 (x1.toNatClampNeg :: 0 :: x0)) fun _ =>
  gx_rt ()
noncomputable def f_X5_init (x0 : gx_Nm) (x1 : Int32) : gx_M (Unit) :=
  gx_bd (gx_na 100 x1 (x1.toNatClampNeg :: 0 :: x0)) fun _ =>
  gx_bd (gx_pr x0 0 (x1.toNatClampNeg :: 0 :: x0)) fun _ =>
  gx_rt ()
noncomputable def f_X3_init (x0 : gx_Nm) : gx_M (Unit) :=
  gx_bd (gx_nw 34 2 (0 :: x0)) fun _ =>
  gx_bd (f_X4_init (0 :: x0) 256) fun _ =>
  gx_bd (gx_fu (0 :: x0) []) fun _ =>
  gx_bd (gx_pr x0 0 (0 :: x0)) fun _ =>
  gx_bd (gx_nw 35 2 (1 :: x0)) fun _ =>
  gx_bd (f_X5_init (1 :: x0) 64) fun _ =>
  gx_bd (gx_fu (1 :: x0) []) fun _ =>
  gx_bd (gx_pr x0 1 (1 :: x0)) fun _ =>
  gx_bd (gx_nw 35 2 (2 :: x0)) fun _ =>
  gx_bd (f_X5_init (2 :: x0) 64) fun _ =>
  gx_bd (gx_fu (2 :: x0) []) fun _ =>
  gx_bd (gx_pr x0 2 (2 :: x0)) fun _ =>
  gx_rt ()
noncomputable def f_X6_init (x0 : gx_Nm) : gx_M (Unit) :=
  gx_bd (gx_nw 35 2 (0 :: x0)) fun _ =>
  gx_bd (f_X5_init (0 :: x0) 64) fun _ =>
  gx_bd (gx_fu (0 :: x0) []) fun _ =>
  gx_bd (gx_pr x0 0 (0 :: x0)) fun _ =>
  gx_bd (gx_nw 35 2 (1 :: x0)) fun _ =>
  gx_bd (f_X5_init (1 :: x0) 64) fun _ =>
  gx_bd (gx_fu (1 :: x0) []) fun _ =>
  gx_bd (gx_pr x0 1 (1 :: x0)) fun _ =>
  gx_rt ()
noncomputable def f_X8_init (x0 : gx_Nm) : gx_M (Unit) :=
  gx_bd (gx_na 107 8 ((8 : Int32).toNatClampNeg :: 0 :: x0)) fun _ =>
  gx_bd (gx_pr x0 0 ((8 : Int32).toNatClampNeg :: 0 :: x0)) fun _ =>
  gx_rt ()
noncomputable def f_X9_init (x0 : gx_Nm) : gx_M (Unit) :=
  gx_rt ()
noncomputable def f_X7_init (x0 : gx_Nm) (x1 : gx_Nm) : gx_M (Unit) :=
  gx_bd (gx_nw 35 2 (1 :: x0)) fun _ =>
  gx_bd (f_X5_init (1 :: x0) 64) fun _ =>
  gx_bd (gx_fu (1 :: x0) []) fun _ =>
  gx_bd (gx_pr x0 1 (1 :: x0)) fun _ =>
  gx_bd (gx_nw 35 2 (2 :: x0)) fun _ =>
  gx_bd (f_X5_init (2 :: x0) 64) fun _ =>
  gx_bd (gx_fu (2 :: x0) []) fun _ =>
  gx_bd (gx_pr x0 2 (2 :: x0)) fun _ =>
  gx_bd (gx_nw 35 2 (3 :: x0)) fun _ =>
  gx_bd (f_X5_init (3 :: x0) 64) fun _ =>
  gx_bd (gx_fu (3 :: x0) []) fun _ =>
  gx_bd (gx_pr x0 3 (3 :: x0)) fun _ =>
  gx_bd (gx_nw 35 2 (4 :: x0)) fun _ =>
  gx_bd (f_X5_init (4 :: x0) 64) fun _ =>
  gx_bd (gx_fu (4 :: x0) []) fun _ =>
  gx_bd (gx_pr x0 4 (4 :: x0)) fun _ =>
  gx_bd (gx_nw 35 2 (5 :: x0)) fun _ =>
  gx_bd (f_X5_init (5 :: x0) 64) fun _ =>
  gx_bd (gx_fu (5 :: x0) []) fun _ =>
  gx_bd (gx_pr x0 5 (5 :: x0)) fun _ =>
  gx_bd (gx_nw 35 2 (6 :: x0)) fun _ =>
  gx_bd (f_X5_init (6 :: x0) 64) fun _ =>
  gx_bd (gx_fu (6 :: x0) []) fun _ =>
  gx_bd (gx_pr x0 6 (6 :: x0)) fun _ =>
  gx_bd (gx_nw 35 2 (7 :: x0)) fun _ =>
  gx_bd (f_X5_init (7 :: x0) 64) fun _ =>
  gx_bd (gx_fu (7 :: x0) []) fun _ =>
  gx_bd (gx_pr x0 7 (7 :: x0)) fun _ =>
  gx_bd (gx_nw 35 2 (8 :: x0)) fun _ =>
  gx_bd (f_X5_init (8 :: x0) 64) fun _ =>
  gx_bd (gx_fu (8 :: x0) []) fun _ =>
  gx_bd (gx_pr x0 8 (8 :: x0)) fun _ =>
  gx_bd (gx_nw 38 2 (9 :: x0)) fun _ =>
  gx_bd (f_X8_init (9 :: x0)) fun _ =>
  gx_bd (gx_fu (9 :: x0) []) fun _ =>
  gx_bd (gx_pr x0 9 (9 :: x0)) fun _ =>
  gx_bd (gx_nw 35 2 (10 :: x0)) fun _ =>
  gx_bd (f_X5_init (10 :: x0) 64) fun _ =>
  gx_bd (gx_fu (10 :: x0) []) fun _ =>
  gx_bd (gx_pr x0 10 (10 :: x0)) fun _ =>
  gx_bd (gx_nw 35 2 (11 :: x0)) fun _ =>
  gx_bd (f_X5_init (11 :: x0) 64) fun _ =>
  gx_bd (gx_fu (11 :: x0) []) fun _ =>
  gx_bd (gx_pr x0 11 (11 :: x0)) fun _ =>
  gx_bd (gx_nw 38 2 (12 :: x0)) fun _ =>
  gx_bd (f_X8_init (12 :: x0)) fun _ =>
  gx_bd (gx_fu (12 :: x0) []) fun _ =>
  gx_bd (gx_pr x0 12 (12 :: x0)) fun _ =>
  gx_bd (gx_nw 39 9 (13 :: x0)) fun _ =>
  gx_bd (f_X9_init (13 :: x0)) fun _ =>
  gx_bd (gx_fu (13 :: x0) []) fun _ =>
  gx_bd (gx_pr x0 13 (13 :: x0)) fun _ =>
  gx_bd (gx_na 100 4 (14 :: x0)) fun _ =>
  gx_bd (gx_pr x0 14 (14 :: x0)) fun _ =>
  gx_bd (gx_nw 38 2 (17 :: x0)) fun _ =>
  gx_bd (f_X8_init (17 :: x0)) fun _ =>
  gx_bd (gx_fu (17 :: x0) []) fun _ =>
  gx_bd (gx_pr x0 17 (17 :: x0)) fun _ =>
  gx_bd (gx_prs x0 0 x1 [0, 0, 1]) fun _ =>
  gx_rt ()
noncomputable def f_X11_init (x0 : gx_Nm) : gx_M (Unit) :=
  gx_bd (gx_na 108 8 ((8 : Int32).toNatClampNeg :: 0 :: x0)) fun _ =>
  gx_bd (gx_pr x0 0 ((8 : Int32).toNatClampNeg :: 0 :: x0)) fun _ =>
  gx_rt ()
noncomputable def f_X10_init (x0 : gx_Nm) : gx_M (Unit) :=
  gx_bd (gx_nw 41 2 (0 :: x0)) fun _ =>
  gx_bd (f_X11_init (0 :: x0)) fun _ =>
  gx_bd (gx_fu (0 :: x0) []) fun _ =>
  gx_bd (gx_pr x0 0 (0 :: x0)) fun _ =>
  gx_bd (gx_nw 41 2 (1 :: x0)) fun _ =>
  gx_bd (f_X11_init (1 :: x0)) fun _ =>
  gx_bd (gx_fu (1 :: x0) []) fun _ =>
  gx_bd (gx_pr x0 1 (1 :: x0)) fun _ =>
  gx_rt ()
noncomputable def f_X2_init (x0 : gx_Nm) : gx_M (Unit) :=
  gx_bd (gx_nw 33 5 (0 :: x0)) fun _ =>
  gx_bd (f_X3_init (0 :: x0)) fun _ =>
  gx_bd (gx_fu (0 :: x0) [(0, (0 :: 0 :: x0)), (1, (1 :: 0 :: x0)), (2, (2 :: 0 :: x0))]) fun _ =>
  gx_bd (gx_pr x0 0 (0 :: x0)) fun _ =>
  gx_bd (gx_nw 36 2 (1 :: x0)) fun _ =>
  gx_bd (f_X6_init (1 :: x0)) fun _ =>
  gx_bd (gx_fu (1 :: x0) [(0, (0 :: 1 :: x0)), (1, (1 :: 1 :: x0))]) fun _ =>
  gx_bd (gx_pr x0 1 (1 :: x0)) fun _ =>
  gx_bd (gx_nw 37 19 (2 :: x0)) fun _ =>
  gx_bd (gx_gr x0 0) fun v1 =>
  gx_bd (f_X7_init (2 :: x0) v1) fun _ =>
  gx_bd (gx_fu (2 :: x0) [(0, [0, 0, 1]), (1, (1 :: 2 :: x0)), (2, (2 :: 2 :: x0)), (3, (3 :: 2 :: x0)), (4, (4 :: 2 :: x0)), (5, (5 :: 2 :: x0)), (6, (6 :: 2 :: x0)), (7, (7 :: 2 :: x0)), (8, (8 :: 2 :: x0)), (9, (9 :: 2 :: x0)), (10, (10 :: 2 :: x0)), (11, (11 :: 2 :: x0)), (12, (12 :: 2 :: x0)), (13, (13 :: 2 :: x0)), (14, (14 :: 2 :: x0)), (17, (17 :: 2 :: x0))]) fun _ =>
  gx_bd (gx_pr x0 2 (2 :: x0)) fun _ =>
  gx_bd (gx_nw 40 3 (3 :: x0)) fun _ =>
  gx_bd (f_X10_init (3 :: x0)) fun _ =>
  gx_bd (gx_fu (3 :: x0) [(0, (0 :: 3 :: x0)), (1, (1 :: 3 :: x0))]) fun _ =>
  gx_bd (gx_pr x0 3 (3 :: x0)) fun _ =>
  gx_bd (gx_nw 35 2 (7 :: x0)) fun _ =>
  gx_bd (f_X5_init (7 :: x0) 32) fun _ =>
  gx_bd (gx_fu (7 :: x0) []) fun _ =>
  gx_bd (gx_pr x0 7 (7 :: x0)) fun _ =>
  gx_bd (gx_nw 35 2 (8 :: x0)) fun _ =>
  gx_bd (f_X5_init (8 :: x0) 64) fun _ =>
  gx_bd (gx_fu (8 :: x0) []) fun _ =>
  gx_bd (gx_pr x0 8 (8 :: x0)) fun _ =>
  gx_rt ()
noncomputable def f_X12_init (x0 : gx_Nm) : gx_M (Unit) :=
  gx_bd (gx_nw 34 2 (0 :: x0)) fun _ =>
  gx_bd (f_X4_init (0 :: x0) 64) fun _ =>
  gx_bd (gx_fu (0 :: x0) []) fun _ =>
  gx_bd (gx_pr x0 0 (0 :: x0)) fun _ =>
  gx_bd (gx_nw 35 2 (1 :: x0)) fun _ =>
  gx_bd (f_X5_init (1 :: x0) 20) fun _ =>
  gx_bd (gx_fu (1 :: x0) []) fun _ =>
  gx_bd (gx_pr x0 1 (1 :: x0)) fun _ =>
  gx_bd (gx_nw 35 2 (2 :: x0)) fun _ =>
  gx_bd (f_X5_init (2 :: x0) 36) fun _ =>
  gx_bd (gx_fu (2 :: x0) []) fun _ =>
  gx_bd (gx_pr x0 2 (2 :: x0)) fun _ =>
  gx_bd (gx_nw 35 2 (3 :: x0)) fun _ =>
  gx_bd (f_X5_init (3 :: x0) 36) fun _ =>
  gx_bd (gx_fu (3 :: x0) []) fun _ =>
  gx_bd (gx_pr x0 3 (3 :: x0)) fun _ =>
  gx_rt ()
noncomputable def f_X15_init (x0 : gx_Nm) (x1 : gx_Nm) : gx_M (Unit) :=
  gx_bd (gx_nw 35 2 (4 :: x0)) fun _ =>
  gx_bd (f_X5_init (4 :: x0) 32) fun _ =>
  gx_bd (gx_fu (4 :: x0) []) fun _ =>
  gx_bd (gx_pr x0 4 (4 :: x0)) fun _ =>
  gx_bd (gx_prs x0 0 x1 [1, 0, 1]) fun _ =>
  gx_rt ()
noncomputable def f_X14_init (x0 : gx_Nm) (x1 : gx_Nm) : gx_M (Unit) :=
  gx_bd (gx_nw 35 2 (3 :: x0)) fun _ =>
  gx_bd (f_X5_init (3 :: x0) 32) fun _ =>
  gx_bd (gx_fu (3 :: x0) []) fun _ =>
  gx_bd (gx_pr x0 3 (3 :: x0)) fun _ =>
  gx_bd (gx_nw 45 5 (2 :: x0)) fun _ =>
  gx_bd (f_X15_init (2 :: x0) x1) fun _ =>
  gx_bd (gx_fu (2 :: x0) [(0, [1, 0, 1]), (4, (4 :: 2 :: x0))]) fun _ =>
  gx_bd (gx_pr x0 2 (2 :: x0)) fun _ =>
  gx_rt ()
noncomputable def f_X13_init (x0 : gx_Nm) (x1 : gx_Nm) (x2 : Int32) : gx_M (Unit) :=
  gx_bd (gx_nw 41 2 (6 :: x0)) fun _ =>
  gx_bd (f_X11_init (6 :: x0)) fun _ =>
  gx_bd (gx_fu (6 :: x0) []) fun _ =>
  gx_bd (gx_pr x0 6 (6 :: x0)) fun _ =>
  gx_bd (gx_nw 35 2 (12 :: x0)) fun _ =>
  gx_bd (f_X5_init (12 :: x0) 32) fun _ =>
  gx_bd (gx_fu (12 :: x0) []) fun _ =>
  gx_bd (gx_pr x0 12 (12 :: x0)) fun _ =>
  gx_bd (gx_na 100 7 (17 :: x0)) fun _ =>
  gx_bd (gx_pr x0 17 (17 :: x0)) fun _ =>
  gx_bd (gx_na 100 7 (18 :: x0)) fun _ =>
  gx_bd (gx_pr x0 18 (18 :: x0)) fun _ =>
  gx_bd (gx_na 100 7 (19 :: x0)) fun _ =>
  gx_bd (gx_pr x0 19 (19 :: x0)) fun _ =>
  gx_bd (gx_na 109 4 ((4 : Int32).toNatClampNeg :: 20 :: x0)) fun _ =>
  gx_bd (gx_pr x0 20 ((4 : Int32).toNatClampNeg :: 20 :: x0)) fun _ =>
  gx_bd (gx_prs x0 0 x1 [0, 1]) fun _ =>
  gx_bd (gx_pi x0 1 x2) fun _ =>
  gx_bd (gx_nw 44 4 (2 :: x0)) fun _ =>
  gx_bd (f_X14_init (2 :: x0) (1 :: x1)) fun _ =>
  gx_bd (gx_fu (2 :: x0) [(2, (2 :: 2 :: x0)), (3, (3 :: 2 :: x0))]) fun _ =>
  gx_bd (gx_pr x0 2 (2 :: x0)) fun _ =>
  gx_bd (gx_nw 45 5 (5 :: x0)) fun _ =>
  gx_bd (f_X15_init (5 :: x0) (1 :: x1)) fun _ =>
  gx_bd (gx_fu (5 :: x0) [(0, [1, 0, 1]), (4, (4 :: 5 :: x0))]) fun _ =>
  gx_bd (gx_pr x0 5 (5 :: x0)) fun _ =>
  gx_rt ()
noncomputable def f_X4_clear (x0 : gx_Nm) : gx_M (Unit) :=
  gx_bd (gx_pi x0 1 0) fun _ =>
  gx_rt ()
noncomputable def f_X5_clear (x0 : gx_Nm) : gx_M (Unit) :=
  gx_bd (gx_pi x0 1 0) fun _ =>
  gx_rt ()
noncomputable def f_X5_add (x0 : gx_Nm) (x1 : Int32) : gx_M (Unit) :=
  gx_bd (gx_gi x0 1) fun v1 =>
  gx_bd (gx_gr x0 0) fun v2 =>
  gx_bd (gx_al v2) fun v3 =>
  gx_bd (
    if v1 = v3 then
      gx_bd (gx_gi x0 1) fun v4 =>
      gx_bd (gx_na 100 (2 * v4) ((2 * v4).toNatClampNeg :: 0 :: x0)) fun _ =>
      gx_bd (gx_gr x0 0) fun v5 =>
      gx_bd (gx_gi x0 1) fun v6 =>
      gx_bd (gx_ac v5 ((2 * v4).toNatClampNeg :: 0 :: x0) v6) fun _ =>
      gx_bd (gx_pr x0 0 ((2 * v4).toNatClampNeg :: 0 :: x0)) fun _ =>
      gx_rt ()
    else
      gx_rt ()) fun _ =>
  gx_bd (gx_gr x0 0) fun v7 =>
  gx_bd (gx_gi x0 1) fun v8 =>
  gx_bd (gx_is v7 v8 x1) fun _ =>
  gx_bd (gx_gi x0 1) fun v9 =>
  gx_bd (gx_pi x0 1 (v9 + 1)) fun _ =>
  gx_rt ()
noncomputable def f_X3_clear (x0 : gx_Nm) : gx_M (Unit) :=
  gx_bd (gx_pi x0 4 0) fun _ =>
  gx_bd (f_X4_clear (0 :: x0)) fun _ =>
  gx_bd (f_X5_clear (1 :: x0)) fun _ =>
  gx_bd (f_X5_clear (2 :: x0)) fun _ =>
  gx_bd (gx_pi x0 3 0) fun _ =>
  gx_bd (f_X5_add (1 :: x0) 0) fun _ =>
  gx_rt ()
noncomputable def f_X6_clear (x0 : gx_Nm) : gx_M (Unit) :=
  gx_bd (f_X5_clear (0 :: x0)) fun _ =>
  gx_bd (f_X5_clear (1 :: x0)) fun _ =>
  gx_rt ()
noncomputable def f_X8_clear (x0 : gx_Nm) : gx_M (Unit) :=
  gx_bd (gx_pi x0 1 0) fun _ =>
  gx_rt ()
noncomputable def f_X5_get (x0 : gx_Nm) (x1 : Int32) : gx_M (Int32) :=
  gx_bd (gx_gr x0 0) fun v1 =>
  gx_bd (gx_ia v1 x1) fun v2 =>
  gx_rt v2
noncomputable def f_X5_set (x0 : gx_Nm) (x1 : Int32) (x2 : Int32) : gx_M (Unit) :=
  gx_bd (gx_gr x0 0) fun v1 =>
  gx_bd (gx_is v1 x1 x2) fun _ =>
  gx_rt ()
noncomputable def lb_X7_enter_1 (x0 : gx_Nm) (s2 : Int32) : gx_M ((Int32) ⊕ (Unit)) :=
  if 4 ≤ s2 then
    gx_rt (.inr ())
  else
    gx_bd (gx_ia (14 :: x0) s2) fun v3 =>
    gx_bd (f_X5_add (7 :: x0) v3) fun _ =>
    gx_rt (.inl ((s2 + 1) : Int32))
noncomputable def f_X7_enter (x0 : gx_Nm) (x1 : Int32) (x2 : Int32) (x3 : Int32) (x4 : Int32) (x5 : Int32) (x6 : Int32) : gx_M (Int32) :=
  gx_bd (gx_gi (1 :: x0) 1) fun v1 =>
  gx_bd (f_X5_add (1 :: x0) x1) fun _ =>
  gx_bd (f_X5_add (2 :: x0) x2) fun _ =>
  gx_bd (f_X5_add (3 :: x0) x3) fun _ =>
  gx_bd (f_X5_add (4 :: x0) x4) fun _ =>
  gx_bd (f_X5_add (5 :: x0) x5) fun _ =>
  gx_bd (f_X5_add (6 :: x0) x6) fun _ =>
  gx_bd (gx_lp (lb_X7_enter_1 x0) (0 : Int32)) fun _ =>
  gx_bd (gx_gi (9 :: x0) 1) fun v4 =>
  gx_bd (f_X5_add (8 :: x0) v4) fun _ =>
  gx_bd (f_X5_add (10 :: x0) (-1)) fun _ =>
  gx_bd (f_X5_add (11 :: x0) (-1)) fun _ =>
  gx_bd (
    if x1 < 0 then
      gx_rt ()
    else
      gx_bd (f_X5_get (10 :: x0) x1) fun v5 =>
      gx_bd (f_X5_set (11 :: x0) v1 v5) fun _ =>
      gx_bd (f_X5_set (10 :: x0) x1 v1) fun _ =>
      gx_rt ()) fun _ =>
  gx_rt v1
noncomputable def lb_X7_clear_1 (x0 : gx_Nm) (s1 : Int32) : gx_M ((Int32) ⊕ (Unit)) :=
  if 4 ≤ s1 then
    gx_rt (.inr ())
  else
    gx_bd (gx_is (14 :: x0) s1 0) fun _ =>
    gx_rt (.inl ((s1 + 1) : Int32))
noncomputable def f_X7_clear (x0 : gx_Nm) : gx_M (Unit) :=
  gx_bd (f_X5_clear (1 :: x0)) fun _ =>
  gx_bd (f_X5_clear (2 :: x0)) fun _ =>
  gx_bd (f_X5_clear (3 :: x0)) fun _ =>
  gx_bd (f_X5_clear (4 :: x0)) fun _ =>
  gx_bd (f_X5_clear (5 :: x0)) fun _ =>
  gx_bd (f_X5_clear (6 :: x0)) fun _ =>
  gx_bd (f_X5_clear (7 :: x0)) fun _ =>
  gx_bd (f_X5_clear (8 :: x0)) fun _ =>
  gx_bd (f_X8_clear (9 :: x0)) fun _ =>
  gx_bd (f_X5_clear (10 :: x0)) fun _ =>
  gx_bd (f_X5_clear (11 :: x0)) fun _ =>
  gx_bd (gx_lp (lb_X7_clear_1 x0) (0 : Int32)) fun _ =>
  gx_bd (f_X7_enter x0 (-1) (-1) 0 1 0 0) fun v2 =>
  gx_rt ()
noncomputable def f_X11_pop (x0 : gx_Nm) : gx_M (gx_Nm) :=
  gx_bd (gx_gi x0 1) fun v1 =>
  gx_bd (gx_pi x0 1 (v1 - 1)) fun _ =>
  gx_bd (gx_gr x0 0) fun v2 =>
  gx_bd (gx_gi x0 1) fun v3 =>
  gx_bd (gx_ra v2 v3) fun v4 =>
  gx_rt v4
noncomputable def lb_X11_add_1 (x0 : gx_Nm) (v4 : Int32) (s5 : Int32) : gx_M ((Int32) ⊕ (Unit)) :=
  gx_bd (gx_gi x0 1) fun v6 =>
  if v6 ≤ s5 then
    gx_rt (.inr ())
  else
    gx_bd (gx_gr x0 0) fun v7 =>
    gx_bd (gx_ra v7 s5) fun v8 =>
    gx_bd (gx_rs ((2 * v4).toNatClampNeg :: 0 :: x0) s5 v8) fun _ =>
    gx_rt (.inl ((s5 + 1) : Int32))
noncomputable def f_X11_add (x0 : gx_Nm) (x1 : gx_Nm) : gx_M (Unit) :=
  gx_bd (gx_gi x0 1) fun v1 =>
  gx_bd (gx_gr x0 0) fun v2 =>
  gx_bd (gx_al v2) fun v3 =>
  gx_bd (
    if v1 = v3 then
      gx_bd (gx_gi x0 1) fun v4 =>
      gx_bd (gx_na 108 (2 * v4) ((2 * v4).toNatClampNeg :: 0 :: x0)) fun _ =>
      gx_bd (gx_lp (lb_X11_add_1 x0 v4) (0 : Int32)) fun _ =>
      gx_bd (gx_pr x0 0 ((2 * v4).toNatClampNeg :: 0 :: x0)) fun _ =>
      gx_rt ()
    else
      gx_rt ()) fun _ =>
  gx_bd (gx_gr x0 0) fun v9 =>
  gx_bd (gx_gi x0 1) fun v10 =>
  gx_bd (gx_rs v9 v10 x1) fun _ =>
  gx_bd (gx_gi x0 1) fun v11 =>
  gx_bd (gx_pi x0 1 (v11 + 1)) fun _ =>
  gx_rt ()
noncomputable def lb_X10_clear_1 (x0 : gx_Nm) (_ : Unit) : gx_M ((Unit) ⊕ (Unit)) :=
  gx_bd (gx_gi (0 :: x0) 1) fun v2 =>
  if v2 ≤ 0 then
    gx_rt (.inr ())
  else
    gx_bd (f_X11_pop (0 :: x0)) fun v3 =>
    gx_bd (f_X11_add (1 :: x0) v3) fun _ =>
    gx_rt (.inl ())
noncomputable def f_X10_clear (x0 : gx_Nm) : gx_M (Unit) :=
  gx_bd (gx_lp (lb_X10_clear_1 x0) ()) fun _ =>
  gx_bd (gx_pi x0 2 0) fun _ =>
  gx_rt ()
noncomputable def f_X7_zero (x0 : gx_Nm) (x1 : Int32) : gx_M (Unit) :=
  gx_bd (gx_pi x0 18 x1) fun _ =>
  gx_rt ()
noncomputable def f_X4_add (x0 : gx_Nm) (x1 : Int32) : gx_M (Unit) :=
  gx_bd (gx_gi x0 1) fun v1 =>
  gx_bd (gx_gr x0 0) fun v2 =>
  gx_bd (gx_al v2) fun v3 =>
  gx_bd (
    if v1 = v3 then
      gx_bd (gx_gi x0 1) fun v4 =>
      gx_bd (gx_na 101 (2 * v4) ((2 * v4).toNatClampNeg :: 0 :: x0)) fun _ =>
      gx_bd (gx_gr x0 0) fun v5 =>
      gx_bd (gx_gi x0 1) fun v6 =>
      gx_bd (gx_ac v5 ((2 * v4).toNatClampNeg :: 0 :: x0) v6) fun _ =>
      gx_bd (gx_pr x0 0 ((2 * v4).toNatClampNeg :: 0 :: x0)) fun _ =>
      gx_rt ()
    else
      gx_rt ()) fun _ =>
  gx_bd (gx_gr x0 0) fun v7 =>
  gx_bd (gx_gi x0 1) fun v8 =>
  gx_bd (gx_is v7 v8 x1.toInt8.toInt32.toInt8.toInt32) fun _ =>
  gx_bd (gx_gi x0 1) fun v9 =>
  gx_bd (gx_pi x0 1 (v9 + 1)) fun _ =>
  gx_rt ()
noncomputable def f_X2_clear (x0 : gx_Nm) (x1 : Int32) : gx_M (Unit) :=
  gx_bd (gx_pi x0 4 x1) fun _ =>
  gx_bd (gx_pi x0 5 0) fun _ =>
  gx_bd (gx_pi x0 6 0) fun _ =>
  gx_bd (f_X3_clear (0 :: x0)) fun _ =>
  gx_bd (f_X6_clear (1 :: x0)) fun _ =>
  gx_bd (f_X7_clear (2 :: x0)) fun _ =>
  gx_bd (f_X10_clear (3 :: x0)) fun _ =>
  gx_bd (f_X5_clear (7 :: x0)) fun _ =>
  gx_bd (f_X5_clear (8 :: x0)) fun _ =>
  gx_bd (gx_gi (0 :: 0 :: x0) 1) fun v1 =>
  gx_bd (f_X7_zero (2 :: x0) v1) fun _ =>
  gx_bd (f_X4_add (0 :: 0 :: x0) 0) fun _ =>
  gx_rt ()
noncomputable def lb_X1_init_1 (x0 : gx_Nm) (s1 : Int32) : gx_M ((Int32) ⊕ (Unit)) :=
  if 7 ≤ s1 then
    gx_rt (.inr ())
  else
    gx_bd (gx_gr x0 1) fun v2 =>
    gx_bd (gx_nw 43 23 (s1.toNatClampNeg :: 1 :: x0)) fun _ =>
    gx_bd (gx_gr x0 0) fun v3 =>
    gx_bd (f_X13_init (s1.toNatClampNeg :: 1 :: x0) v3 s1) fun _ =>
    gx_bd (gx_fu (s1.toNatClampNeg :: 1 :: x0) [(0, [0, 1]), (2, (2 :: s1.toNatClampNeg :: 1 :: x0)), (5, (5 :: s1.toNatClampNeg :: 1 :: x0)), (6, (6 :: s1.toNatClampNeg :: 1 :: x0)), (12, (12 :: s1.toNatClampNeg :: 1 :: x0)), (17, (17 :: s1.toNatClampNeg :: 1 :: x0)), (18, (18 :: s1.toNatClampNeg :: 1 :: x0)), (19, (19 :: s1.toNatClampNeg :: 1 :: x0))]) fun _ =>
    gx_bd (gx_rs v2 s1 (s1.toNatClampNeg :: 1 :: x0)) fun _ =>
    gx_rt (.inl ((s1 + 1) : Int32))
noncomputable def f_X1_init (x0 : gx_Nm) : gx_M (Unit) :=
  gx_bd (gx_nw 32 9 (0 :: x0)) fun _ =>
  gx_bd (f_X2_init (0 :: x0)) fun _ =>
  gx_bd (gx_fu (0 :: x0) [(0, (0 :: 0 :: x0)), (1, (1 :: 0 :: x0)), (2, (2 :: 0 :: x0)), (3, (3 :: 0 :: x0)), (7, (7 :: 0 :: x0)), (8, (8 :: 0 :: x0))]) fun _ =>
  gx_bd (gx_pr x0 0 (0 :: x0)) fun _ =>
  gx_bd (gx_na 104 7 (1 :: x0)) fun _ =>
  gx_bd (gx_pr x0 1 (1 :: x0)) fun _ =>
  gx_bd (gx_nw 42 4 (2 :: x0)) fun _ =>
  gx_bd (f_X12_init (2 :: x0)) fun _ =>
  gx_bd (gx_fu (2 :: x0) [(0, (0 :: 2 :: x0)), (1, (1 :: 2 :: x0)), (2, (2 :: 2 :: x0)), (3, (3 :: 2 :: x0))]) fun _ =>
  gx_bd (gx_pr x0 2 (2 :: x0)) fun _ =>
  gx_bd (gx_nw 34 2 (3 :: x0)) fun _ =>
  gx_bd (f_X4_init (3 :: x0) 64) fun _ =>
  gx_bd (gx_fu (3 :: x0) []) fun _ =>
  gx_bd (gx_pr x0 3 (3 :: x0)) fun _ =>
  gx_bd (gx_nw 34 2 (4 :: x0)) fun _ =>
  gx_bd (f_X4_init (4 :: x0) 64) fun _ =>
  gx_bd (gx_fu (4 :: x0) []) fun _ =>
  gx_bd (gx_pr x0 4 (4 :: x0)) fun _ =>
  gx_bd (gx_nw 34 2 (5 :: x0)) fun _ =>
  gx_bd (f_X4_init (5 :: x0) 64) fun _ =>
  gx_bd (gx_fu (5 :: x0) []) fun _ =>
  gx_bd (gx_pr x0 5 (5 :: x0)) fun _ =>
  gx_bd (gx_nw 38 2 (7 :: x0)) fun _ =>
  gx_bd (f_X8_init (7 :: x0)) fun _ =>
  gx_bd (gx_fu (7 :: x0) []) fun _ =>
  gx_bd (gx_pr x0 7 (7 :: x0)) fun _ =>
  gx_bd (gx_lp (lb_X1_init_1 x0) (0 : Int32)) fun _ =>
  gx_bd (gx_gr x0 0) fun v4 =>
  gx_bd (f_X2_clear v4 0) fun _ =>
  gx_rt ()
noncomputable def f_X12_clear (x0 : gx_Nm) : gx_M (Unit) :=
  gx_bd (f_X4_clear (0 :: x0)) fun _ =>
  gx_bd (f_X5_clear (1 :: x0)) fun _ =>
  gx_bd (f_X5_clear (2 :: x0)) fun _ =>
  gx_bd (f_X5_clear (3 :: x0)) fun _ =>
  gx_rt ()
noncomputable def f_X1_forget (x0 : gx_Nm) : gx_M (Unit) :=
  gx_bd (f_X12_clear (2 :: x0)) fun _ =>
  gx_rt ()
noncomputable def f_X10_lost (x0 : gx_Nm) : gx_M (Int32) :=
  gx_bd (gx_gi x0 2) fun v1 =>
  gx_rt v1
noncomputable def f_X12_size (x0 : gx_Nm) : gx_M (Int32) :=
  gx_bd (gx_gi (1 :: x0) 1) fun v1 =>
  gx_bd (gx_gi (2 :: x0) 1) fun v2 =>
  gx_bd (gx_gi (3 :: x0) 1) fun v3 =>
  gx_rt ((v1 / 5) + ((v2 + v3) / 6))
noncomputable def f_X3_many (x0 : gx_Nm) : gx_M (Int32) :=
  gx_bd (gx_gi x0 3) fun v1 =>
  gx_rt v1
noncomputable def f_X1_count (x0 : gx_Nm) (x1 : Int32) : gx_M (Int32) :=
  if x1 = 0 then
    gx_bd (gx_gi (3 :: x0) 1) fun v1 =>
    gx_rt v1
  else
  if x1 = 1 then
    gx_bd (gx_gi x0 6) fun v2 =>
    gx_rt v2
  else
  if x1 = 2 then
    gx_bd (gx_gi (0 :: 3 :: 0 :: x0) 1) fun v3 =>
    gx_rt v3
  else
  if x1 = 3 then
    gx_bd (f_X10_lost (3 :: 0 :: x0)) fun v4 =>
    gx_rt v4
  else
  if x1 = 4 then
    gx_bd (f_X12_size (2 :: x0)) fun v5 =>
    gx_rt v5
  else
  if x1 = 5 then
    gx_bd (f_X3_many (0 :: 0 :: x0)) fun v6 =>
    gx_rt v6
  else
  if x1 = 6 then
    gx_bd (gx_gi (0 :: x0) 5) fun v7 =>
    gx_rt v7
  else
  gx_rt (-1)
noncomputable def f_X1_in (x0 : Int32) (x1 : Int32) (x2 : Int32) : gx_M (Int32) :=
  gx_bd (
    if x0 < x1 then
      gx_rt (0 : Int32)
    else
      if x2 < x0 then
        gx_rt (0 : Int32)
      else
        gx_rt (1 : Int32)) fun j1 =>
  gx_rt j1
noncomputable def f_X1_good (x0 : Int32) : gx_M (Unit ⊕ Nat) :=
  if x0 = 0 then
    gx_bd (gx_ex 1 6) fun _ =>
    gx_rt (.inr 0)
  else
    gx_rt (.inl ())
noncomputable def f_X15_clear (x0 : gx_Nm) : gx_M (Unit) :=
  gx_bd (gx_pi x0 1 0) fun _ =>
  gx_bd (gx_pi x0 2 0) fun _ =>
  gx_bd (gx_pi x0 3 0) fun _ =>
  gx_bd (f_X5_clear (4 :: x0)) fun _ =>
  gx_rt ()
noncomputable def f_X14_clear (x0 : gx_Nm) : gx_M (Unit) :=
  gx_bd (gx_pi x0 0 0) fun _ =>
  gx_bd (gx_pi x0 1 (-1)) fun _ =>
  gx_bd (f_X15_clear (2 :: x0)) fun _ =>
  gx_bd (f_X5_clear (3 :: x0)) fun _ =>
  gx_rt ()
noncomputable def f_X10_leave (x0 : gx_Nm) (x1 : gx_Nm) : gx_M (Unit) :=
  gx_bd (f_X11_add (1 :: x0) x1) fun _ =>
  gx_rt ()
noncomputable def lb_X5_copy_1 (x1 : gx_Nm) (x0 : gx_Nm) (s1 : Int32) : gx_M ((Int32) ⊕ (Unit)) :=
  gx_bd (gx_gi x1 1) fun v2 =>
  if v2 ≤ s1 then
    gx_rt (.inr ())
  else
    gx_bd (gx_gr x1 0) fun v3 =>
    gx_bd (gx_ia v3 s1) fun v4 =>
    gx_bd (f_X5_add x0 v4) fun _ =>
    gx_rt (.inl ((s1 + 1) : Int32))
noncomputable def f_X5_copy (x0 : gx_Nm) (x1 : gx_Nm) : gx_M (Unit) :=
  gx_bd (f_X5_clear x0) fun _ =>
  gx_bd (gx_lp (lb_X5_copy_1 x1 x0) (0 : Int32)) fun _ =>
  gx_rt ()
noncomputable def f_X15_copy (x0 : gx_Nm) (x1 : gx_Nm) : gx_M (Unit) :=
  gx_bd (gx_gi x1 1) fun v1 =>
  gx_bd (gx_pi x0 1 v1) fun _ =>
  gx_bd (gx_gi x1 2) fun v2 =>
  gx_bd (gx_pi x0 2 v2) fun _ =>
  gx_bd (gx_gi x1 3) fun v3 =>
  gx_bd (gx_pi x0 3 v3) fun _ =>
  gx_bd (f_X5_copy (4 :: x0) (4 :: x1)) fun _ =>
  gx_rt ()
noncomputable def f_X13_whole (x0 : gx_Nm) : gx_M (Unit) :=
  gx_bd (gx_gi (5 :: x0) 1) fun v1 =>
  gx_bd (gx_pi x0 10 v1) fun _ =>
  gx_bd (gx_gi (5 :: x0) 3) fun v2 =>
  gx_bd (gx_pi x0 11 v2) fun _ =>
  gx_bd (gx_gi (5 :: x0) 1) fun v3 =>
  gx_bd (gx_pi x0 13 v3) fun _ =>
  gx_bd (f_X5_clear (12 :: x0)) fun _ =>
  gx_bd (gx_pi x0 14 0) fun _ =>
  gx_rt ()
noncomputable def f_X13_forgetReads (x0 : gx_Nm) : gx_M (Unit) :=
  gx_bd (gx_pi x0 21 0) fun _ =>
  gx_bd (gx_pi x0 22 0) fun _ =>
  gx_rt ()
noncomputable def f_X13_rise (x0 : gx_Nm) : gx_M (Unit) :=
  gx_bd (gx_pi x0 7 (0 &&& 1)) fun _ =>
  gx_bd (gx_gi (2 :: x0) 0) fun v1 =>
  gx_bd (gx_pi x0 3 v1) fun _ =>
  gx_bd (gx_gi (2 :: x0) 1) fun v2 =>
  gx_bd (gx_pi x0 4 v2) fun _ =>
  gx_bd (f_X15_copy (5 :: x0) (2 :: 2 :: x0)) fun _ =>
  gx_bd (gx_pi x0 8 0) fun _ =>
  gx_bd (gx_pi x0 9 (-1)) fun _ =>
  gx_bd (f_X13_whole x0) fun _ =>
  gx_bd (gx_pi x0 15 0) fun _ =>
  gx_bd (f_X13_forgetReads x0) fun _ =>
  gx_rt ()
noncomputable def lb_X13_clear_1 (x0 : gx_Nm) (_ : Unit) : gx_M ((Unit) ⊕ (Unit)) :=
  gx_bd (gx_gi (6 :: x0) 1) fun v2 =>
  if v2 ≤ 0 then
    gx_rt (.inr ())
  else
    gx_bd (f_X11_pop (6 :: x0)) fun v3 =>
    gx_bd (f_X10_leave [3, 0, 1] v3) fun _ =>
    gx_rt (.inl ())
noncomputable def f_X13_clear (x0 : gx_Nm) : gx_M (Unit) :=
  gx_bd (f_X14_clear (2 :: x0)) fun _ =>
  gx_bd (gx_lp (lb_X13_clear_1 x0) ()) fun _ =>
  gx_bd (f_X13_rise x0) fun _ =>
  gx_rt ()
noncomputable def lb_X1_nodes_1 (v2 : Int32) (x0 : gx_Nm) (s3 : Int32) : gx_M ((Int32) ⊕ (Unit)) :=
  if v2 ≤ s3 then
    gx_rt (.inr ())
  else
    gx_bd (gx_ra (1 :: x0) s3) fun v4 =>
    gx_bd (f_X13_clear v4) fun _ =>
    gx_rt (.inl ((s3 + 1) : Int32))
noncomputable def f_X1_nodes (x0 : gx_Nm) (x1 : Int32) : gx_M (Unit ⊕ Nat) :=
  gx_bd (f_X1_in x1 1 7) fun v1 =>
  gx_bx (f_X1_good v1) fun _ =>
  gx_bd (f_X2_clear (0 :: x0) x1) fun _ =>
  gx_bd (gx_al (1 :: x0)) fun v2 =>
  gx_bd (gx_lp (lb_X1_nodes_1 v2 x0) (0 : Int32)) fun _ =>
  gx_bd (f_X12_clear (2 :: x0)) fun _ =>
  gx_rt (.inl ())
noncomputable def f_X1_room (x0 : Int32) : gx_M (Unit ⊕ Nat) :=
  if x0 = 0 then
    gx_bd (gx_ex 1 6) fun _ =>
    gx_rt (.inr 3)
  else
    gx_rt (.inl ())
noncomputable def lb_X4_addInt_1 (x0 : gx_Nm) (x1 : Int32) (s1 : Int32) : gx_M ((Int32) ⊕ (Unit)) :=
  if s1 < 0 then
    gx_rt (.inr ())
  else
    gx_bd (f_X4_add x0 (gx_ushr x1 s1)) fun _ =>
    gx_rt (.inl ((s1 + (-8)) : Int32))
noncomputable def f_X4_addInt (x0 : gx_Nm) (x1 : Int32) : gx_M (Unit) :=
  gx_bd (gx_lp (lb_X4_addInt_1 x0 x1) (24 : Int32)) fun _ =>
  gx_rt ()
noncomputable def f_X1_feed (x0 : gx_Nm) (x1 : Int32) (x2 : Int32) (x3 : Int32) (x4 : Int32) (x5 : Int32) : gx_M (Int32 ⊕ Nat) :=
  gx_bd (gx_gi (3 :: x0) 1) fun v1 =>
  gx_bd (gx_gi x0 6) fun v2 =>
  gx_bd (
    if v2 ≤ 0 then
      gx_rt (0 : Int32)
    else
      gx_bd (gx_gr x0 4) fun v3 =>
      gx_bd (gx_gi v3 1) fun v4 =>
      gx_rt (v4 : Int32)) fun j5 =>
  gx_bd (gx_gi x0 6) fun v6 =>
  gx_bd (
    if v6 ≤ 1 then
      gx_rt (0 : Int32)
    else
      gx_bd (gx_gr x0 5) fun v7 =>
      gx_bd (gx_gi v7 1) fun v8 =>
      gx_rt (v8 : Int32)) fun j9 =>
  gx_bd (
    if 2048 < (((v1 + 20) + j5) + j9) then
      gx_rt (0 : Int32)
    else
      gx_rt (1 : Int32)) fun j10 =>
  gx_bx (f_X1_room j10) fun _ =>
  gx_bd (f_X4_addInt (3 :: x0) x1) fun _ =>
  gx_bd (f_X4_addInt (3 :: x0) x2) fun _ =>
  gx_bd (f_X4_addInt (3 :: x0) x3) fun _ =>
  gx_bd (f_X4_addInt (3 :: x0) x4) fun _ =>
  gx_bd (f_X4_addInt (3 :: x0) x5) fun _ =>
  gx_bd (gx_gi (3 :: x0) 1) fun v11 =>
  gx_rt (.inl v11)
noncomputable def lb_X4_addAll_1 (x3 : Int32) (x1 : gx_Nm) (x0 : gx_Nm) (s1 : Int32) : gx_M ((Int32) ⊕ (Unit)) :=
  if x3 ≤ s1 then
    gx_rt (.inr ())
  else
    gx_bd (gx_gr x1 0) fun v2 =>
    gx_bd (gx_ia v2 s1) fun v3 =>
    gx_bd (f_X4_add x0 v3) fun _ =>
    gx_rt (.inl ((s1 + 1) : Int32))
noncomputable def f_X4_addAll (x0 : gx_Nm) (x1 : gx_Nm) (x2 : Int32) (x3 : Int32) : gx_M (Unit) :=
  gx_bd (gx_lp (lb_X4_addAll_1 x3 x1 x0) (x2 : Int32)) fun _ =>
  gx_rt ()
noncomputable def f_X1_end (x0 : gx_Nm) (x1 : Int32) : gx_M (Int32 ⊕ Nat) :=
  gx_bd (f_X1_in x1 0 19) fun v1 =>
  gx_bd (
    if v1 = 0 then
      gx_rt (0 : Int32)
    else
      gx_bd (gx_gi (3 :: x0) 1) fun v2 =>
      if v2 < x1 then
        gx_rt (0 : Int32)
      else
        gx_rt (1 : Int32)) fun j3 =>
  gx_bx (f_X1_good j3) fun _ =>
  gx_bd (gx_gi (3 :: x0) 1) fun v4 =>
  gx_bd (gx_pi (3 :: x0) 1 (v4 - x1)) fun _ =>
  gx_bd (gx_gi x0 6) fun v5 =>
  gx_bd (
    if v5 = 2 then
      gx_bd (gx_gr x0 4) fun v6 =>
      gx_bd (gx_gr x0 5) fun v7 =>
      gx_bd (gx_pr x0 4 v7) fun _ =>
      gx_bd (gx_pr x0 5 v6) fun _ =>
      gx_bd (gx_pi x0 6 1) fun _ =>
      gx_rt ()
    else
      gx_rt ()) fun _ =>
  gx_bd (gx_gi x0 6) fun v8 =>
  gx_bd (
    if v8 = 0 then
      gx_bd (gx_gr x0 4) fun v9 =>
      gx_rt (v9 : gx_Nm)
    else
      gx_bd (gx_gr x0 5) fun v10 =>
      gx_rt (v10 : gx_Nm)) fun j11 =>
  gx_bd (f_X4_clear j11) fun _ =>
  gx_bd (gx_gi (3 :: x0) 1) fun v12 =>
  gx_bd (f_X4_addAll j11 (3 :: x0) 0 v12) fun _ =>
  gx_bd (f_X4_clear (3 :: x0)) fun _ =>
  gx_bd (gx_gi x0 6) fun v13 =>
  gx_bd (gx_pi x0 6 (v13 + 1)) fun _ =>
  gx_bd (gx_gi x0 6) fun v14 =>
  gx_rt (.inl v14)
noncomputable def f_X1_take (x0 : gx_Nm) (x1 : Int32) : gx_M (Unit ⊕ Nat) :=
  gx_bd (gx_gi x0 6) fun v1 =>
  gx_bd (gx_pi x0 6 0) fun _ =>
  gx_bd (
    if v1 = x1 then
      if x1 = 0 then
        if x1 < 2 then
          gx_rt (1 : Int32)
        else
          gx_bd (gx_gr x0 5) fun v2 =>
          gx_bd (gx_gi v2 1) fun v3 =>
          if 64 < v3 then
            gx_rt (0 : Int32)
          else
            gx_rt (1 : Int32)
      else
        gx_bd (gx_gr x0 4) fun v4 =>
        gx_bd (gx_gi v4 1) fun v5 =>
        gx_bd (f_X1_in v5 1 32) fun v6 =>
        if v6 = 0 then
          gx_rt (0 : Int32)
        else
          if x1 < 2 then
            gx_rt (1 : Int32)
          else
            gx_bd (gx_gr x0 5) fun v7 =>
            gx_bd (gx_gi v7 1) fun v8 =>
            if 64 < v8 then
              gx_rt (0 : Int32)
            else
              gx_rt (1 : Int32)
    else
      gx_rt (0 : Int32)) fun j9 =>
  gx_bx (f_X1_good j9) fun _ =>
  gx_rt (.inl ())
noncomputable def f_X12_letters (x0 : gx_Nm) (x1 : gx_Nm) (x2 : gx_Nm) : gx_M (Unit) :=
  gx_bd (gx_gi (0 :: x0) 1) fun v1 =>
  gx_bd (f_X5_add x1 v1) fun _ =>
  gx_bd (gx_gi x2 1) fun v2 =>
  gx_bd (f_X4_addAll (0 :: x0) x2 0 v2) fun _ =>
  gx_bd (gx_gi (0 :: x0) 1) fun v3 =>
  gx_bd (f_X5_add x1 v3) fun _ =>
  gx_rt ()
noncomputable def f_X1_when (x0 : gx_Nm) (x1 : Int32) (x2 : Int32) (x3 : Int32) : gx_M (Unit ⊕ Nat) :=
  gx_bx (f_X1_take x0 1) fun _ =>
  gx_bd (f_X1_in x1 0 3) fun v1 =>
  gx_bd (
    if v1 = 0 then
      gx_rt (0 : Int32)
    else
      gx_bd (f_X1_in x2 0 3) fun v2 =>
      if v2 = 0 then
        gx_rt (0 : Int32)
      else
        gx_rt (1 : Int32)) fun j3 =>
  gx_bx (f_X1_good j3) fun _ =>
  gx_bd (gx_gi (1 :: 2 :: x0) 1) fun v4 =>
  gx_bd (
    if 20 ≤ v4 then
      gx_rt (0 : Int32)
    else
      gx_rt (1 : Int32)) fun j5 =>
  gx_bx (f_X1_room j5) fun _ =>
  gx_bd (gx_gr x0 4) fun v6 =>
  gx_bd (f_X12_letters (2 :: x0) (1 :: 2 :: x0) v6) fun _ =>
  gx_bd (f_X5_add (1 :: 2 :: x0) x1) fun _ =>
  gx_bd (f_X5_add (1 :: 2 :: x0) x2) fun _ =>
  gx_bd (f_X5_add (1 :: 2 :: x0) x3) fun _ =>
  gx_rt (.inl ())
noncomputable def f_X1_branch (x0 : gx_Nm) (x1 : Int32) : gx_M (gx_Nm ⊕ Nat) :=
  gx_bd (f_X1_in x1 0 1) fun v1 =>
  gx_bx (f_X1_good v1) fun _ =>
  gx_bd (
    if x1 = 1 then
      gx_rt ((2 :: 2 :: x0) : gx_Nm)
    else
      gx_rt ((3 :: 2 :: x0) : gx_Nm)) fun j2 =>
  gx_rt (.inl j2)
noncomputable def f_X1_fits (x0 : gx_Nm) : gx_M (Unit ⊕ Nat) :=
  gx_bd (gx_gi x0 1) fun v1 =>
  gx_bd (
    if 36 ≤ v1 then
      gx_rt (0 : Int32)
    else
      gx_rt (1 : Int32)) fun j2 =>
  gx_bx (f_X1_room j2) fun _ =>
  gx_rt (.inl ())
noncomputable def f_X1_step (x0 : gx_Nm) (x1 : gx_Nm) (x2 : Int32) (x3 : Int32) : gx_M (Unit) :=
  gx_bd (f_X5_add x1 x2) fun _ =>
  gx_bd (f_X5_add x1 x3) fun _ =>
  gx_rt ()
noncomputable def f_X1_put (x0 : gx_Nm) (x1 : Int32) (x2 : Int32) : gx_M (Unit ⊕ Nat) :=
  gx_bx (f_X1_take x0 2) fun _ =>
  gx_bx (f_X1_branch x0 x1) fun v1 =>
  gx_bd (f_X1_in x2 0 99) fun v2 =>
  gx_bx (f_X1_good v2) fun _ =>
  gx_bx (f_X1_fits v1) fun _ =>
  gx_bd (gx_gr x0 4) fun v3 =>
  gx_bd (f_X12_letters (2 :: x0) v1 v3) fun _ =>
  gx_bd (gx_gr x0 5) fun v4 =>
  gx_bd (f_X12_letters (2 :: x0) v1 v4) fun _ =>
  gx_bd (f_X1_step x0 v1 0 x2) fun _ =>
  gx_rt (.inl ())
noncomputable def f_X1_erase (x0 : gx_Nm) (x1 : Int32) : gx_M (Unit ⊕ Nat) :=
  gx_bx (f_X1_take x0 2) fun _ =>
  gx_bx (f_X1_branch x0 x1) fun v1 =>
  gx_bx (f_X1_fits v1) fun _ =>
  gx_bd (gx_gr x0 4) fun v2 =>
  gx_bd (f_X12_letters (2 :: x0) v1 v2) fun _ =>
  gx_bd (gx_gr x0 5) fun v3 =>
  gx_bd (f_X12_letters (2 :: x0) v1 v3) fun _ =>
  gx_bd (f_X1_step x0 v1 1 0) fun _ =>
  gx_rt (.inl ())
noncomputable def lb_X1_lease_1 (v1 : gx_Nm) (s3 : Int32) : gx_M ((Int32) ⊕ (Unit)) :=
  if 4 ≤ s3 then
    gx_rt (.inr ())
  else
    gx_bd (f_X5_add v1 0) fun _ =>
    gx_rt (.inl ((s3 + 1) : Int32))
noncomputable def f_X1_lease (x0 : gx_Nm) (x1 : Int32) (x2 : Int32) (x3 : Int32) : gx_M (Unit ⊕ Nat) :=
  gx_bx (f_X1_take x0 0) fun _ =>
  gx_bx (f_X1_branch x0 x1) fun v1 =>
  gx_bd (f_X1_in x2 1 99) fun v2 =>
  gx_bx (f_X1_good v2) fun _ =>
  gx_bx (f_X1_fits v1) fun _ =>
  gx_bd (gx_lp (lb_X1_lease_1 v1) (0 : Int32)) fun _ =>
  gx_bd (
    if x3 = 0 then
      gx_rt (0 : Int32)
    else
      gx_rt (1 : Int32)) fun j4 =>
  gx_bd (f_X1_step x0 v1 (2 + j4) x2) fun _ =>
  gx_rt (.inl ())
noncomputable def f_X1_there (x0 : Int32) : gx_M (Unit ⊕ Nat) :=
  if x0 = 0 then
    gx_bd (gx_ex 1 6) fun _ =>
    gx_rt (.inr 1)
  else
    gx_rt (.inl ())
noncomputable def f_X1_node (x0 : gx_Nm) (x1 : Int32) : gx_M (gx_Nm ⊕ Nat) :=
  gx_bd (gx_gi (0 :: x0) 4) fun v1 =>
  gx_bd (f_X1_in x1 0 (v1 - 1)) fun v2 =>
  gx_bx (f_X1_there v2) fun _ =>
  gx_bd (gx_ra (1 :: x0) x1) fun v3 =>
  gx_rt (.inl v3)
noncomputable def f_X1_up (x0 : gx_Nm) (x1 : Int32) : gx_M (gx_Nm ⊕ Nat) :=
  gx_bx (f_X1_node x0 x1) fun v1 =>
  gx_bd (gx_gi v1 7) fun v2 =>
  gx_bd (
    if v2 = 0 then
      gx_rt (1 : Int32)
    else
      gx_rt (0 : Int32)) fun j3 =>
  gx_bx (f_X1_there j3) fun _ =>
  gx_rt (.inl v1)
noncomputable def f_X1_allowed (x0 : Int32) : gx_M (Unit ⊕ Nat) :=
  if x0 = 0 then
    gx_bd (gx_ex 1 6) fun _ =>
    gx_rt (.inr 2)
  else
    gx_rt (.inl ())
noncomputable def f_X3_fits (x0 : gx_Nm) (x1 : Int32) (x2 : Int32) : gx_M (Int32) :=
  gx_bd (gx_gi x0 3) fun v1 =>
  gx_bd (
    if 1500 < (v1 + x1) then
      gx_rt (0 : Int32)
    else
      gx_bd (gx_gi x0 4) fun v2 =>
      if 40000 < (v2 + x2) then
        gx_rt (0 : Int32)
      else
        gx_rt (1 : Int32)) fun j3 =>
  gx_rt j3
noncomputable def lb_X3_take_1 (x1 : gx_Nm) (x2 : Int32) (x3 : Int32) (x0 : gx_Nm) (s1 : Int32) : gx_M ((Int32) ⊕ (Unit)) :=
  gx_bd (gx_gi x1 1) fun v2 =>
  if v2 ≤ s1 then
    gx_rt (.inr ())
  else
    gx_bd (f_X5_get x1 s1) fun v3 =>
    gx_bd (gx_nz x2) fun _ =>
    gx_bd (
      if x2 = 5 then
        gx_rt (2 : Int32)
      else
        gx_rt (4 : Int32)) fun j4 =>
    gx_bd (
      if j4 ≤ (gx_irem s1 x2) then
        gx_rt (0 : Int32)
      else
        gx_rt (x3 : Int32)) fun j5 =>
    gx_bd (f_X5_add (2 :: x0) (v3 + j5)) fun _ =>
    gx_rt (.inl ((s1 + 1) : Int32))
noncomputable def f_X3_take (x0 : gx_Nm) (x1 : gx_Nm) (x2 : Int32) (x3 : Int32) : gx_M (Unit) :=
  gx_bd (gx_lp (lb_X3_take_1 x1 x2 x3 x0) (0 : Int32)) fun _ =>
  gx_bd (gx_gi (2 :: x0) 1) fun v6 =>
  gx_bd (f_X5_add (1 :: x0) v6) fun _ =>
  gx_rt ()
noncomputable def f_X3_add (x0 : gx_Nm) (x1 : gx_Nm) : gx_M (Int32) :=
  gx_bd (gx_gi (0 :: x0) 1) fun v1 =>
  gx_bd (gx_gi x0 4) fun v2 =>
  gx_bd (gx_gi (0 :: x1) 1) fun v3 =>
  gx_bd (gx_pi x0 4 (v2 + v3)) fun _ =>
  gx_bd (gx_gi (0 :: x1) 1) fun v4 =>
  gx_bd (f_X4_addAll (0 :: x0) (0 :: x1) 0 v4) fun _ =>
  gx_bd (f_X3_take x0 (1 :: x1) 5 v1) fun _ =>
  gx_bd (f_X3_take x0 (2 :: x1) 6 v1) fun _ =>
  gx_bd (f_X3_take x0 (3 :: x1) 6 v1) fun _ =>
  gx_bd (gx_gi x0 3) fun v5 =>
  gx_bd (gx_pi x0 3 (v5 + 1)) fun _ =>
  gx_bd (gx_gi x0 3) fun v6 =>
  gx_rt (v6 - 1)
noncomputable def f_X6_add (x0 : gx_Nm) (x1 : Int32) (x2 : Int32) : gx_M (Int32) :=
  gx_bd (f_X5_add (0 :: x0) x1) fun _ =>
  gx_bd (f_X5_add (1 :: x0) x2) fun _ =>
  gx_bd (gx_gi (0 :: x0) 1) fun v1 =>
  gx_rt (v1 - 1)
noncomputable def f_X15_last (x0 : gx_Nm) : gx_M (Int32) :=
  gx_bd (gx_gi x0 1) fun v1 =>
  gx_bd (gx_gi (4 :: x0) 1) fun v2 =>
  gx_rt (v1 + v2)
noncomputable def f_X15_put (x0 : gx_Nm) (x1 : Int32) (x2 : Int32) : gx_M (Unit) :=
  gx_bd (gx_gi x0 1) fun v1 =>
  gx_bd (gx_pi (4 :: x0) 1 ((x1 - v1) - 1)) fun _ =>
  gx_bd (f_X5_add (4 :: x0) x2) fun _ =>
  gx_rt ()
noncomputable def f_X14_write (x0 : gx_Nm) (x1 : Int32) (x2 : Int32) (x3 : Int32) (x4 : Int32) : gx_M (Unit) :=
  gx_bd (f_X5_add (3 :: x0) x1) fun _ =>
  gx_bd (f_X5_add (3 :: x0) x2) fun _ =>
  gx_bd (f_X5_add (3 :: x0) x3) fun _ =>
  gx_bd (f_X5_add (3 :: x0) x4) fun _ =>
  gx_rt ()
noncomputable def f_X14_writeEntry (x0 : gx_Nm) (x1 : Int32) (x2 : Int32) : gx_M (Unit) :=
  gx_bd (f_X14_write x0 1 x1 x2 0) fun _ =>
  gx_rt ()
noncomputable def f_X13_put (x0 : gx_Nm) (x1 : Int32) (x2 : Int32) : gx_M (Unit) :=
  gx_bd (f_X15_put (5 :: x0) x1 x2) fun _ =>
  gx_bd (f_X14_writeEntry (2 :: x0) x1 x2) fun _ =>
  gx_rt ()
noncomputable def f_X17_init (x0 : gx_Nm) : gx_M (Unit) :=
  gx_bd (gx_na 100 4 (10 :: x0)) fun _ =>
  gx_bd (gx_pr x0 10 (10 :: x0)) fun _ =>
  gx_rt ()
noncomputable def f_X10_take (x0 : gx_Nm) : gx_M (gx_Nm) :=
  gx_bd (gx_gi (1 :: x0) 1) fun v1 =>
  gx_bd (
    if v1 = 0 then
      gx_bd (gx_cs) fun v2 =>
      gx_bd (gx_nw 47 11 (v2 :: 90 :: x0)) fun _ =>
      gx_bd (f_X17_init (v2 :: 90 :: x0)) fun _ =>
      gx_bd (gx_fu (v2 :: 90 :: x0) [(10, (10 :: v2 :: 90 :: x0))]) fun _ =>
      gx_rt ((v2 :: 90 :: x0) : gx_Nm)
    else
      gx_bd (f_X11_pop (1 :: x0)) fun v3 =>
      gx_rt (v3 : gx_Nm)) fun j4 =>
  gx_rt j4
noncomputable def f_X13_message (x0 : gx_Nm) (x1 : Int32) (x2 : Int32) : gx_M (gx_Nm) :=
  gx_bd (f_X10_take [3, 0, 1]) fun v1 =>
  gx_bd (gx_pi v1 0 x1) fun _ =>
  gx_bd (gx_gi x0 1) fun v2 =>
  gx_bd (gx_pi v1 1 v2) fun _ =>
  gx_bd (gx_pi v1 2 x2) fun _ =>
  gx_bd (gx_gi x0 3) fun v3 =>
  gx_bd (gx_pi v1 3 v3) fun _ =>
  gx_bd (gx_pi v1 4 0) fun _ =>
  gx_bd (gx_pi v1 5 0) fun _ =>
  gx_bd (gx_pi v1 6 0) fun _ =>
  gx_bd (gx_pi v1 7 0) fun _ =>
  gx_bd (gx_pi v1 8 0) fun _ =>
  gx_bd (gx_pi v1 9 0) fun _ =>
  gx_rt v1
noncomputable def f_X14_unsynced (x0 : gx_Nm) : gx_M (Int32) :=
  gx_bd (gx_gi (3 :: x0) 1) fun v1 =>
  gx_rt (v1 / 4)
noncomputable def f_X10_send (x0 : gx_Nm) (x1 : gx_Nm) : gx_M (Int32) :=
  gx_bd (gx_gi (0 :: x0) 1) fun v1 =>
  if v1 = 200 then
    gx_bd (gx_gi x0 2) fun v2 =>
    gx_bd (gx_pi x0 2 (v2 + 1)) fun _ =>
    gx_bd (f_X10_leave x0 x1) fun _ =>
    gx_rt 0
  else
    gx_bd (f_X11_add (0 :: x0) x1) fun _ =>
    gx_rt 1
noncomputable def f_X13_send (x0 : gx_Nm) (x1 : gx_Nm) : gx_M (Unit) :=
  gx_bd (f_X14_unsynced (2 :: x0)) fun v1 =>
  gx_bd (
    if v1 ≤ 0 then
      gx_bd (f_X10_send [3, 0, 1] x1) fun v2 =>
      gx_rt ()
    else
      gx_bd (f_X11_add (6 :: x0) x1) fun _ =>
      gx_rt ()) fun _ =>
  gx_rt ()
noncomputable def f_X15_term (x0 : gx_Nm) (x1 : Int32) : gx_M (Int32) :=
  gx_bd (gx_gi x0 1) fun v1 =>
  gx_bd (
    if x1 = v1 then
      gx_bd (gx_gi x0 2) fun v2 =>
      gx_rt (v2 : Int32)
    else
      gx_bd (gx_gi x0 1) fun v3 =>
      gx_bd (f_X5_get (4 :: x0) ((x1 - v3) - 1)) fun v4 =>
      gx_bd (f_X5_get [0, 1, 0, 1] v4) fun v5 =>
      gx_rt (v5 : Int32)) fun j6 =>
  gx_rt j6
noncomputable def f_X15_entry (x0 : gx_Nm) (x1 : Int32) : gx_M (Int32) :=
  gx_bd (gx_gi x0 1) fun v1 =>
  gx_bd (f_X5_get (4 :: x0) ((x1 - v1) - 1)) fun v2 =>
  gx_rt v2
noncomputable def lb_X13_tell_1 (x0 : gx_Nm) (v3 : gx_Nm) (s7 : Int32) : gx_M ((Int32) ⊕ (Unit)) :=
  gx_bd (f_X15_last (5 :: x0)) fun v8 =>
  if v8 < s7 then
    gx_rt (.inr ())
  else
    gx_bd (gx_gi v3 9) fun v9 =>
    if 4 ≤ v9 then
      gx_rt (.inr ())
    else
      gx_bd (gx_gi v3 9) fun v10 =>
      gx_bd (f_X15_entry (5 :: x0) s7) fun v11 =>
      gx_bd (gx_is (10 :: v3) v10 v11) fun _ =>
      gx_bd (gx_gi v3 9) fun v12 =>
      gx_bd (gx_pi v3 9 (v12 + 1)) fun _ =>
      gx_rt (.inl ((s7 + 1) : Int32))
noncomputable def f_X13_tell (x0 : gx_Nm) (x1 : Int32) : gx_M (Unit) :=
  gx_bd (gx_ia (17 :: x0) x1) fun v1 =>
  gx_bd (gx_gi (5 :: x0) 1) fun v2 =>
  if v2 < v1 then
    gx_bd (f_X13_message x0 3 x1) fun v3 =>
    gx_bd (gx_pi v3 4 (v1 - 1)) fun _ =>
    gx_bd (f_X15_term (5 :: x0) (v1 - 1)) fun v4 =>
    gx_bd (gx_pi v3 5 v4) fun _ =>
    gx_bd (gx_gi x0 10) fun v5 =>
    gx_bd (gx_pi v3 6 v5) fun _ =>
    gx_bd (gx_gi x0 16) fun v6 =>
    gx_bd (gx_pi v3 7 v6) fun _ =>
    gx_bd (gx_lp (lb_X13_tell_1 x0 v3) (v1 : Int32)) fun _ =>
    gx_bd (f_X13_send x0 v3) fun _ =>
    gx_rt ()
  else
    gx_bd (f_X13_message x0 5 x1) fun v13 =>
    gx_bd (gx_gi (5 :: x0) 1) fun v14 =>
    gx_bd (gx_pi v13 4 v14) fun _ =>
    gx_bd (gx_gi (5 :: x0) 2) fun v15 =>
    gx_bd (gx_pi v13 5 v15) fun _ =>
    gx_bd (gx_gi (5 :: x0) 3) fun v16 =>
    gx_bd (gx_pi v13 8 v16) fun _ =>
    gx_bd (gx_gi x0 16) fun v17 =>
    gx_bd (gx_pi v13 7 v17) fun _ =>
    gx_bd (f_X13_send x0 v13) fun _ =>
    gx_rt ()
noncomputable def lb_X13_tellAll_1 (x0 : gx_Nm) (s1 : Int32) : gx_M ((Int32) ⊕ (Unit)) :=
  gx_bd (gx_gi [0, 1] 4) fun v2 =>
  if v2 ≤ s1 then
    gx_rt (.inr ())
  else
    gx_bd (gx_gi x0 1) fun v3 =>
    gx_bd (
      if s1 = v3 then
        gx_rt ()
      else
        gx_bd (f_X13_tell x0 s1) fun _ =>
        gx_rt ()) fun _ =>
    gx_rt (.inl ((s1 + 1) : Int32))
noncomputable def f_X13_tellAll (x0 : gx_Nm) : gx_M (Unit) :=
  gx_bd (gx_lp (lb_X13_tellAll_1 x0) (0 : Int32)) fun _ =>
  gx_rt ()
noncomputable def f_X13_add (x0 : gx_Nm) (x1 : Int32) : gx_M (Int32) :=
  gx_bd (gx_gi x0 3) fun v1 =>
  gx_bd (f_X6_add [1, 0, 1] v1 x1) fun v2 =>
  gx_bd (f_X15_last (5 :: x0)) fun v3 =>
  gx_bd (f_X13_put x0 (v3 + 1) v2) fun _ =>
  gx_bd (f_X13_tellAll x0) fun _ =>
  gx_rt (v3 + 1)
noncomputable def f_X1_propose (x0 : gx_Nm) (x1 : Int32) : gx_M (Int32 ⊕ Nat) :=
  gx_bx (f_X1_up x0 x1) fun v1 =>
  gx_bd (gx_gi v1 8) fun v2 =>
  gx_bd (
    if v2 = 2 then
      gx_rt (1 : Int32)
    else
      gx_rt (0 : Int32)) fun j3 =>
  gx_bx (f_X1_allowed j3) fun _ =>
  gx_bd (gx_gi (0 :: 2 :: x0) 1) fun v4 =>
  gx_bd (f_X3_fits (0 :: 0 :: x0) 1 v4) fun v5 =>
  gx_bx (f_X1_room v5) fun _ =>
  gx_bd (f_X3_add (0 :: 0 :: x0) (2 :: x0)) fun v6 =>
  gx_bd (f_X12_clear (2 :: x0)) fun _ =>
  gx_bd (f_X13_add v1 v6) fun v7 =>
  gx_rt (.inl v7)
noncomputable def f_X14_writeTerm (x0 : gx_Nm) (x1 : Int32) (x2 : Int32) : gx_M (Unit) :=
  gx_bd (f_X14_write x0 0 x1 x2 0) fun _ =>
  gx_rt ()
noncomputable def f_X13_setTerm (x0 : gx_Nm) (x1 : Int32) (x2 : Int32) : gx_M (Unit) :=
  gx_bd (gx_pi x0 3 x1) fun _ =>
  gx_bd (gx_pi x0 4 x2) fun _ =>
  gx_bd (f_X14_writeTerm (2 :: x0) x1 x2) fun _ =>
  gx_rt ()
noncomputable def f_X15_lastTerm (x0 : gx_Nm) : gx_M (Int32) :=
  gx_bd (f_X15_last x0) fun v1 =>
  gx_bd (f_X15_term x0 v1) fun v2 =>
  gx_rt v2
noncomputable def lb_X13_isMajority_1 (s1 : Int32 × Int32) : gx_M ((Int32 × Int32) ⊕ (Int32)) :=
  if s1.2 = 0 then
    gx_rt (.inr (s1.1 : Int32))
  else
    gx_rt (.inl (((s1.1 + 1) : Int32), ((s1.2 &&& (s1.2 - 1)) : Int32)))
noncomputable def f_X13_isMajority (x0 : gx_Nm) (x1 : Int32) : gx_M (Int32) :=
  gx_bd (gx_lp lb_X13_isMajority_1 ((0 : Int32), (x1 : Int32))) fun j2 =>
  gx_bd (gx_gi [0, 1] 4) fun v3 =>
  gx_bd (
    if j2 ≤ (v3 / 2) then
      gx_rt (0 : Int32)
    else
      gx_rt (1 : Int32)) fun j4 =>
  gx_rt j4
noncomputable def lb_X5_fit_1 (x0 : gx_Nm) (x1 : Int32) (x2 : Int32) (_ : Unit) : gx_M ((Unit) ⊕ (Unit)) :=
  gx_bd (gx_gi x0 1) fun v2 =>
  if x1 ≤ v2 then
    gx_rt (.inr ())
  else
    gx_bd (f_X5_add x0 x2) fun _ =>
    gx_rt (.inl ())
noncomputable def f_X5_fit (x0 : gx_Nm) (x1 : Int32) (x2 : Int32) : gx_M (Unit) :=
  gx_bd (gx_lp (lb_X5_fit_1 x0 x1 x2) ()) fun _ =>
  gx_rt ()
noncomputable def f_X2_leads (x0 : gx_Nm) (x1 : Int32) (x2 : Int32) : gx_M (Unit) :=
  gx_bd (f_X5_fit (7 :: x0) (x2 + 1) (-1)) fun _ =>
  gx_bd (f_X5_get (7 :: x0) x2) fun v1 =>
  gx_bd (
    if 0 ≤ v1 then
      gx_bd (f_X5_get (7 :: x0) x2) fun v2 =>
      if v2 = x1 then
        gx_rt ()
      else
        gx_bd (gx_gi x0 5) fun v3 =>
        gx_bd (gx_pi x0 5 (v3 + 1)) fun _ =>
        gx_rt ()
    else
      gx_bd (f_X5_set (7 :: x0) x2 x1) fun _ =>
      gx_rt ()) fun _ =>
  gx_rt ()
noncomputable def lb_X3_empty_1 (x0 : gx_Nm) (s1 : Int32) : gx_M ((Int32) ⊕ (Unit)) :=
  if 3 ≤ s1 then
    gx_rt (.inr ())
  else
    gx_bd (gx_gi (2 :: x0) 1) fun v2 =>
    gx_bd (f_X5_add (1 :: x0) v2) fun _ =>
    gx_rt (.inl ((s1 + 1) : Int32))
noncomputable def f_X3_empty (x0 : gx_Nm) : gx_M (Int32) :=
  gx_bd (gx_lp (lb_X3_empty_1 x0) (0 : Int32)) fun _ =>
  gx_bd (gx_gi x0 3) fun v3 =>
  gx_bd (gx_pi x0 3 (v3 + 1)) fun _ =>
  gx_bd (gx_gi x0 3) fun v4 =>
  gx_rt (v4 - 1)
noncomputable def lb_X13_lead_1 (x0 : gx_Nm) (s4 : Int32) : gx_M ((Int32) ⊕ (Unit)) :=
  gx_bd (gx_gi [0, 1] 4) fun v5 =>
  if v5 ≤ s4 then
    gx_rt (.inr ())
  else
    gx_bd (f_X15_last (5 :: x0)) fun v6 =>
    gx_bd (gx_is (17 :: x0) s4 (v6 + 1)) fun _ =>
    gx_bd (gx_is (18 :: x0) s4 0) fun _ =>
    gx_bd (gx_is (19 :: x0) s4 0) fun _ =>
    gx_rt (.inl ((s4 + 1) : Int32))
noncomputable def f_X13_lead (x0 : gx_Nm) : gx_M (Unit) :=
  gx_bd (gx_pi x0 8 2) fun _ =>
  gx_bd (gx_gi x0 1) fun v1 =>
  gx_bd (gx_pi x0 9 v1) fun _ =>
  gx_bd (gx_gi x0 1) fun v2 =>
  gx_bd (gx_gi x0 3) fun v3 =>
  gx_bd (f_X2_leads [0, 1] v2 v3) fun _ =>
  gx_bd (gx_lp (lb_X13_lead_1 x0) (0 : Int32)) fun _ =>
  gx_bd (gx_pi x0 16 0) fun _ =>
  gx_bd (f_X13_forgetReads x0) fun _ =>
  gx_bd (f_X3_empty [0, 0, 1]) fun v7 =>
  gx_bd (f_X13_add x0 v7) fun v8 =>
  gx_rt ()
noncomputable def lb_X13_stand_1 (x0 : gx_Nm) (s4 : Int32) : gx_M ((Int32) ⊕ (Unit)) :=
  gx_bd (gx_gi [0, 1] 4) fun v5 =>
  if v5 ≤ s4 then
    gx_rt (.inr ())
  else
    gx_bd (gx_gi x0 1) fun v6 =>
    gx_bd (
      if s4 = v6 then
        gx_rt ()
      else
        gx_bd (f_X13_message x0 1 s4) fun v7 =>
        gx_bd (f_X15_last (5 :: x0)) fun v8 =>
        gx_bd (gx_pi v7 4 v8) fun _ =>
        gx_bd (f_X15_lastTerm (5 :: x0)) fun v9 =>
        gx_bd (gx_pi v7 5 v9) fun _ =>
        gx_bd (f_X13_send x0 v7) fun _ =>
        gx_rt ()) fun _ =>
    gx_rt (.inl ((s4 + 1) : Int32))
noncomputable def f_X13_stand (x0 : gx_Nm) : gx_M (Unit) :=
  gx_bd (gx_gi x0 3) fun v1 =>
  gx_bd (gx_gi x0 1) fun v2 =>
  gx_bd (f_X13_setTerm x0 (v1 + 1) v2) fun _ =>
  gx_bd (gx_pi x0 8 1) fun _ =>
  gx_bd (gx_pi x0 9 (-1)) fun _ =>
  gx_bd (gx_gi x0 1) fun v3 =>
  gx_bd (gx_pi x0 15 (1 <<< (v3 &&& 31))) fun _ =>
  gx_bd (gx_lp (lb_X13_stand_1 x0) (0 : Int32)) fun _ =>
  gx_bd (gx_gi x0 15) fun v10 =>
  gx_bd (f_X13_isMajority x0 v10) fun v11 =>
  gx_bd (
    if v11 = 0 then
      gx_rt ()
    else
      gx_bd (f_X13_lead x0) fun _ =>
      gx_rt ()) fun _ =>
  gx_rt ()
noncomputable def f_X1_rise (x0 : gx_Nm) (x1 : Int32) : gx_M (Unit ⊕ Nat) :=
  gx_bx (f_X1_up x0 x1) fun v1 =>
  gx_bd (gx_gi v1 8) fun v2 =>
  gx_bd (
    if v2 = 2 then
      gx_rt (0 : Int32)
    else
      gx_rt (1 : Int32)) fun j3 =>
  gx_bx (f_X1_allowed j3) fun _ =>
  gx_bd (gx_gi (0 :: x0) 4) fun v4 =>
  gx_bd (
    if 1 < v4 then
      gx_rt (1 : Int32)
    else
      gx_bd (f_X3_fits (0 :: 0 :: x0) 1 0) fun v5 =>
      if v5 = 0 then
        gx_rt (0 : Int32)
      else
        gx_rt (1 : Int32)) fun j6 =>
  gx_bx (f_X1_room j6) fun _ =>
  gx_bd (f_X13_stand v1) fun _ =>
  gx_rt (.inl ())
noncomputable def f_X1_beat (x0 : gx_Nm) (x1 : Int32) : gx_M (Unit ⊕ Nat) :=
  gx_bx (f_X1_up x0 x1) fun v1 =>
  gx_bd (gx_gi v1 8) fun v2 =>
  gx_bd (
    if v2 = 2 then
      gx_rt (1 : Int32)
    else
      gx_rt (0 : Int32)) fun j3 =>
  gx_bx (f_X1_allowed j3) fun _ =>
  gx_bd (f_X13_tellAll v1) fun _ =>
  gx_rt (.inl ())
noncomputable def lb_X5_shift_1 (x0 : gx_Nm) (x1 : Int32) (s1 : Int32) : gx_M ((Int32) ⊕ (Unit)) :=
  gx_bd (gx_gi x0 1) fun v2 =>
  if v2 ≤ s1 then
    gx_rt (.inr ())
  else
    gx_bd (gx_gr x0 0) fun v3 =>
    gx_bd (gx_gr x0 0) fun v4 =>
    gx_bd (gx_ia v4 s1) fun v5 =>
    gx_bd (gx_is v3 (s1 - x1) v5) fun _ =>
    gx_rt (.inl ((s1 + 1) : Int32))
noncomputable def f_X5_shift (x0 : gx_Nm) (x1 : Int32) : gx_M (Unit) :=
  gx_bd (gx_lp (lb_X5_shift_1 x0 x1) (x1 : Int32)) fun _ =>
  gx_bd (gx_gi x0 1) fun v6 =>
  gx_bd (gx_pi x0 1 (v6 - x1)) fun _ =>
  gx_rt ()
noncomputable def f_X15_snapshot (x0 : gx_Nm) (x1 : Int32) (x2 : Int32) (x3 : Int32) : gx_M (Unit) :=
  gx_bd (gx_gi x0 1) fun v1 =>
  gx_bd (
    gx_bd (
      if x1 ≤ v1 then
        gx_rt false
      else
        gx_bd (f_X15_last x0) fun v2 =>
        if v2 < x1 then
          gx_rt false
        else
          gx_bd (f_X15_term x0 x1) fun v3 =>
          if v3 = x2 then
            gx_rt true
          else
            gx_rt false) fun b4 =>
    if b4 = true then
      gx_bd (gx_gi x0 1) fun v5 =>
      gx_bd (f_X5_shift (4 :: x0) (x1 - v5)) fun _ =>
      gx_rt ()
    else
      gx_bd (f_X5_clear (4 :: x0)) fun _ =>
      gx_rt ()) fun _ =>
  gx_bd (gx_pi x0 1 x1) fun _ =>
  gx_bd (gx_pi x0 2 x2) fun _ =>
  gx_bd (gx_pi x0 3 x3) fun _ =>
  gx_rt ()
noncomputable def lb_X14_keep_1 (x1 : Int32) (x0 : gx_Nm) (s1 : Int32) : gx_M ((Int32) ⊕ (Unit)) :=
  if (x1 * 4) ≤ s1 then
    gx_rt (.inr ())
  else
    gx_bd (f_X5_get (3 :: x0) (s1 + 1)) fun v2 =>
    gx_bd (f_X5_get (3 :: x0) (s1 + 2)) fun v3 =>
    gx_bd (f_X5_get (3 :: x0) s1) fun v4 =>
    gx_bd (
      if v4 = 0 then
        gx_bd (gx_pi x0 0 v2) fun _ =>
        gx_bd (gx_pi x0 1 v3) fun _ =>
        gx_rt ()
      else
      if v4 = 1 then
        gx_bd (f_X15_put (2 :: x0) v2 v3) fun _ =>
        gx_rt ()
      else
      gx_bd (f_X5_get (3 :: x0) (s1 + 3)) fun v5 =>
      gx_bd (f_X15_snapshot (2 :: x0) v2 v3 v5) fun _ =>
      gx_rt ()) fun _ =>
    gx_rt (.inl ((s1 + 4) : Int32))
noncomputable def f_X14_keep (x0 : gx_Nm) (x1 : Int32) : gx_M (Unit) :=
  gx_bd (gx_lp (lb_X14_keep_1 x1 x0) (0 : Int32)) fun _ =>
  gx_bd (f_X5_clear (3 :: x0)) fun _ =>
  gx_rt ()
noncomputable def f_X11_get (x0 : gx_Nm) (x1 : Int32) : gx_M (gx_Nm) :=
  gx_bd (gx_gr x0 0) fun v1 =>
  gx_bd (gx_ra v1 x1) fun v2 =>
  gx_rt v2
noncomputable def f_X2_applies (x0 : gx_Nm) (x1 : Int32) (x2 : Int32) : gx_M (Unit) :=
  gx_bd (gx_gi x0 6) fun v1 =>
  gx_bd (
    if x1 ≤ v1 then
      gx_rt ()
    else
      gx_bd (gx_pi x0 6 x1) fun _ =>
      gx_rt ()) fun _ =>
  gx_bd (f_X5_fit (8 :: x0) (x1 + 1) (-1)) fun _ =>
  gx_bd (f_X5_get (8 :: x0) x1) fun v2 =>
  gx_bd (
    if 0 ≤ v2 then
      gx_bd (f_X5_get (8 :: x0) x1) fun v3 =>
      if v3 = x2 then
        gx_rt ()
      else
        gx_bd (gx_gi x0 5) fun v4 =>
        gx_bd (gx_pi x0 5 (v4 + 1)) fun _ =>
        gx_rt ()
    else
      gx_bd (f_X5_set (8 :: x0) x1 x2) fun _ =>
      gx_rt ()) fun _ =>
  gx_rt ()
noncomputable def f_X3_begin (x0 : gx_Nm) (x1 : Int32) (x2 : Int32) : gx_M (Int32) :=
  gx_bd (f_X5_get (1 :: x0) ((3 * x1) + x2)) fun v1 =>
  gx_rt v1
noncomputable def f_X3_end (x0 : gx_Nm) (x1 : Int32) (x2 : Int32) : gx_M (Int32) :=
  gx_bd (f_X5_get (1 :: x0) (((3 * x1) + x2) + 1)) fun v1 =>
  gx_rt v1
noncomputable def f_X3_get (x0 : gx_Nm) (x1 : Int32) : gx_M (Int32) :=
  gx_bd (f_X5_get (2 :: x0) x1) fun v1 =>
  gx_rt v1
noncomputable def f_X7_changeFrom (x0 : gx_Nm) (x1 : Int32) : gx_M (Int32) :=
  gx_bd (
    if x1 = 0 then
      gx_rt (0 : Int32)
    else
      gx_bd (f_X5_get (8 :: x0) (x1 - 1)) fun v1 =>
      gx_rt (v1 : Int32)) fun j2 =>
  gx_rt j2
noncomputable def f_X8_get (x0 : gx_Nm) (x1 : Int32) : gx_M (gx_Nm) :=
  gx_bd (gx_gr x0 0) fun v1 =>
  gx_bd (gx_ra v1 x1) fun v2 =>
  gx_rt v2
noncomputable def f_X4_get (x0 : gx_Nm) (x1 : Int32) : gx_M (Int32) :=
  gx_bd (gx_gr x0 0) fun v1 =>
  gx_bd (gx_ia v1 x1) fun v2 =>
  gx_rt (v2 &&& 255)
noncomputable def lb_X4_compare_1 (x2 : Int32) (x1 : Int32) (x4 : Int32) (x3 : Int32) (x0 : gx_Nm) (s1 : Int32) : gx_M ((Int32) ⊕ ((Unit) ⊕ (Int32))) :=
  if (x2 - x1) ≤ s1 then
    gx_rt (.inr (.inl ()))
  else
    if (x4 - x3) ≤ s1 then
      gx_rt (.inr (.inl ()))
    else
      gx_bd (gx_gr x0 0) fun v2 =>
      gx_bd (gx_ia v2 (x1 + s1)) fun v3 =>
      gx_bd (gx_gr x0 0) fun v4 =>
      gx_bd (gx_ia v4 (x3 + s1)) fun v5 =>
      if v3 = v5 then
        gx_rt (.inl ((s1 + 1) : Int32))
      else
        gx_bd (f_X4_get x0 (x1 + s1)) fun v6 =>
        gx_bd (f_X4_get x0 (x3 + s1)) fun v7 =>
        gx_rt (.inr (.inr (v6 - v7)))
noncomputable def f_X4_compare (x0 : gx_Nm) (x1 : Int32) (x2 : Int32) (x3 : Int32) (x4 : Int32) : gx_M (Int32) :=
  gx_bd (gx_lp (lb_X4_compare_1 x2 x1 x4 x3 x0) (0 : Int32)) fun j8 => match j8 with
  | .inr r => gx_rt r
  | .inl _ =>
    gx_rt ((x2 - x1) - (x4 - x3))
noncomputable def lb_X7_find_1 (x0 : gx_Nm) (x2 : Int32) (x3 : Int32) (s4 : Int32 × Int32) : gx_M ((Int32 × Int32) ⊕ ((Unit) ⊕ (Option gx_Nm))) :=
  if s4.2 ≤ s4.1 then
    gx_rt (.inr (.inl ()))
  else
    gx_bd (f_X8_get (9 :: x0) (gx_ushr (s4.1 + s4.2) 1)) fun v5 =>
    gx_bd (gx_gi v5 0) fun v6 =>
    gx_bd (gx_gi v5 1) fun v7 =>
    gx_bd (f_X4_compare [0, 0, 0, 1] v6 v7 x2 x3) fun v8 =>
    if v8 = 0 then
      gx_bd (gx_gi v5 2) fun v9 =>
      gx_bd (
        if v9 = 0 then
          gx_rt (none : Option gx_Nm)
        else
          gx_rt (some v5 : Option gx_Nm)) fun j10 =>
      gx_rt (.inr (.inr j10))
    else
      gx_bd (
        if 0 ≤ v8 then
          gx_rt ((s4.1 : Int32), ((gx_ushr (s4.1 + s4.2) 1) : Int32))
        else
          gx_rt ((((gx_ushr (s4.1 + s4.2) 1) + 1) : Int32), (s4.2 : Int32))) fun j11 =>
      gx_rt (.inl ((j11.1 : Int32), (j11.2 : Int32)))
noncomputable def lb_X7_find_2 (x0 : gx_Nm) (x2 : Int32) (x3 : Int32) (s1 : Int32) : gx_M ((Int32) ⊕ ((Unit) ⊕ (Option gx_Nm))) :=
  if s1 < 0 then
    gx_rt (.inr (.inl ()))
  else
    gx_bd (f_X7_changeFrom x0 s1) fun v2 =>
    gx_bd (f_X5_get (8 :: x0) s1) fun v3 =>
    gx_bd (gx_lp (lb_X7_find_1 x0 x2 x3) ((v2 : Int32), (v3 : Int32))) fun j12 => match j12 with
    | .inr r => gx_rt (.inr (.inr r))
    | .inl _ =>
      gx_bd (f_X5_get (1 :: x0) s1) fun v14 =>
      gx_rt (.inl (v14 : Int32))
noncomputable def f_X7_find (x0 : gx_Nm) (x1 : Int32) (x2 : Int32) (x3 : Int32) : gx_M (Option gx_Nm) :=
  gx_bd (gx_lp (lb_X7_find_2 x0 x2 x3) (x1 : Int32)) fun j15 => match j15 with
  | .inr r => gx_rt r
  | .inl _ =>
    gx_rt none
noncomputable def f_X7_holds (x0 : gx_Nm) (x1 : Int32) (x2 : Int32) : gx_M (Int32) :=
  gx_bd (f_X3_get [0, 0, 1] x2) fun v1 =>
  gx_bd (f_X3_get [0, 0, 1] (x2 + 1)) fun v2 =>
  gx_bd (f_X7_find x0 x1 v1 v2) fun v3 =>
  gx_bd (f_X3_get [0, 0, 1] (x2 + 2)) fun v4 =>
  gx_bd (
    if v3 = none then
      gx_rt (0 : Int32)
    else
      if v4 = 0 then
        gx_bd (gx_nn v3) fun v5 =>
        gx_bd (gx_gi v5 5) fun v6 =>
        gx_rt (v6 : Int32)
      else
        if v4 = 1 then
          gx_bd (gx_nn v3) fun v7 =>
          gx_bd (gx_gi v7 6) fun v8 =>
          gx_rt (v8 : Int32)
        else
          if v4 = 2 then
            gx_bd (gx_nn v3) fun v9 =>
            gx_bd (gx_gi v9 7) fun v10 =>
            gx_rt (v10 : Int32)
          else
            gx_bd (gx_nn v3) fun v11 =>
            gx_bd (gx_gi v11 8) fun v12 =>
            gx_rt (v12 : Int32)) fun j13 =>
  gx_bd (f_X3_get [0, 0, 1] (x2 + 4)) fun v14 =>
  gx_bd (f_X3_get [0, 0, 1] (x2 + 3)) fun v15 =>
  gx_bd (
    if v15 = 0 then
      if j13 = v14 then
        gx_rt (1 : Int32)
      else
        gx_rt (0 : Int32)
    else
      if v15 = 1 then
        if j13 = v14 then
          gx_rt (0 : Int32)
        else
          gx_rt (1 : Int32)
      else
        if v15 = 2 then
          if v14 ≤ j13 then
            gx_rt (0 : Int32)
          else
            gx_rt (1 : Int32)
        else
          if j13 ≤ v14 then
            gx_rt (0 : Int32)
          else
            gx_rt (1 : Int32)) fun j16 =>
  gx_rt j16
noncomputable def f_X7_hasLease (x0 : gx_Nm) (x1 : Int32) : gx_M (Int32) :=
  gx_bd (gx_ia (14 :: x0) (x1 >>> (5 &&& 31))) fun v1 =>
  gx_bd (
    if ((gx_ushr v1 (x1 &&& 31)) &&& 1) = 1 then
      gx_rt (1 : Int32)
    else
      gx_rt (0 : Int32)) fun j2 =>
  gx_rt j2
noncomputable def f_X9_copy (x0 : gx_Nm) (x1 : gx_Nm) : gx_M (Unit) :=
  gx_bd (gx_gi x1 0) fun v1 =>
  gx_bd (gx_pi x0 0 v1) fun _ =>
  gx_bd (gx_gi x1 1) fun v2 =>
  gx_bd (gx_pi x0 1 v2) fun _ =>
  gx_bd (gx_gi x1 2) fun v3 =>
  gx_bd (gx_pi x0 2 (v3 &&& 1)) fun _ =>
  gx_bd (gx_gi x1 3) fun v4 =>
  gx_bd (gx_pi x0 3 v4) fun _ =>
  gx_bd (gx_gi x1 4) fun v5 =>
  gx_bd (gx_pi x0 4 v5) fun _ =>
  gx_bd (gx_gi x1 5) fun v6 =>
  gx_bd (gx_pi x0 5 v6) fun _ =>
  gx_bd (gx_gi x1 6) fun v7 =>
  gx_bd (gx_pi x0 6 v7) fun _ =>
  gx_bd (gx_gi x1 7) fun v8 =>
  gx_bd (gx_pi x0 7 v8) fun _ =>
  gx_bd (gx_gi x1 8) fun v9 =>
  gx_bd (gx_pi x0 8 v9) fun _ =>
  gx_rt ()
noncomputable def lb_X7_now_1 (x0 : gx_Nm) (x2 : Int32) (x3 : Int32) (s1 : Int32) : gx_M ((Int32) ⊕ ((Unit) ⊕ (Int32))) :=
  gx_bd (gx_gi (12 :: x0) 1) fun v2 =>
  if v2 ≤ s1 then
    gx_rt (.inr (.inl ()))
  else
    gx_bd (f_X8_get (12 :: x0) s1) fun v3 =>
    gx_bd (gx_gi v3 0) fun v4 =>
    gx_bd (gx_gi v3 1) fun v5 =>
    gx_bd (f_X4_compare [0, 0, 0, 1] v4 v5 x2 x3) fun v6 =>
    if v6 = 0 then
      gx_bd (f_X9_copy (13 :: x0) v3) fun _ =>
      gx_bd (gx_gi v3 2) fun v7 =>
      gx_rt (.inr (.inr v7))
    else
      gx_rt (.inl ((s1 + 1) : Int32))
noncomputable def f_X7_now (x0 : gx_Nm) (x1 : Int32) (x2 : Int32) (x3 : Int32) : gx_M (Int32) :=
  gx_bd (gx_pi (13 :: x0) 0 x2) fun _ =>
  gx_bd (gx_pi (13 :: x0) 1 x3) fun _ =>
  gx_bd (gx_lp (lb_X7_now_1 x0 x2 x3) (0 : Int32)) fun j8 => match j8 with
  | .inr r => gx_rt r
  | .inl _ =>
    gx_bd (f_X7_find x0 x1 x2 x3) fun v10 =>
    gx_bd (
      if v10 = none then
        gx_rt ()
      else
        gx_bd (gx_nn v10) fun v11 =>
        gx_bd (f_X9_copy (13 :: x0) v11) fun _ =>
        gx_rt ()) fun _ =>
    gx_bd (
      if v10 = none then
        gx_rt (0 : Int32)
      else
        gx_rt (1 : Int32)) fun j12 =>
    gx_rt j12
noncomputable def lb_X8_add_1 (x0 : gx_Nm) (v4 : Int32) (s5 : Int32) : gx_M ((Int32) ⊕ (Unit)) :=
  gx_bd (gx_gi x0 1) fun v6 =>
  if v6 ≤ s5 then
    gx_rt (.inr ())
  else
    gx_bd (gx_gr x0 0) fun v7 =>
    gx_bd (gx_ra v7 s5) fun v8 =>
    gx_bd (gx_rs ((2 * v4).toNatClampNeg :: 0 :: x0) s5 v8) fun _ =>
    gx_rt (.inl ((s5 + 1) : Int32))
noncomputable def f_X8_add (x0 : gx_Nm) : gx_M (gx_Nm) :=
  gx_bd (gx_gi x0 1) fun v1 =>
  gx_bd (gx_gr x0 0) fun v2 =>
  gx_bd (gx_al v2) fun v3 =>
  gx_bd (
    if v1 = v3 then
      gx_bd (gx_gi x0 1) fun v4 =>
      gx_bd (gx_na 107 (2 * v4) ((2 * v4).toNatClampNeg :: 0 :: x0)) fun _ =>
      gx_bd (gx_lp (lb_X8_add_1 x0 v4) (0 : Int32)) fun _ =>
      gx_bd (gx_pr x0 0 ((2 * v4).toNatClampNeg :: 0 :: x0)) fun _ =>
      gx_rt ()
    else
      gx_rt ()) fun _ =>
  gx_bd (gx_gr x0 0) fun v9 =>
  gx_bd (gx_gi x0 1) fun v10 =>
  gx_bd (gx_ro v9 v10) fun v11 =>
  gx_bd (
    if v11 = none then
      gx_bd (gx_gr x0 0) fun v12 =>
      gx_bd (gx_gi x0 1) fun v13 =>
      gx_bd (gx_gi x0 1) fun v14 =>
      gx_bd (gx_nw 39 9 (v14.toNatClampNeg :: 90 :: x0)) fun _ =>
      gx_bd (f_X9_init (v14.toNatClampNeg :: 90 :: x0)) fun _ =>
      gx_bd (gx_fu (v14.toNatClampNeg :: 90 :: x0) []) fun _ =>
      gx_bd (gx_rs v12 v13 (v14.toNatClampNeg :: 90 :: x0)) fun _ =>
      gx_rt ()
    else
      gx_rt ()) fun _ =>
  gx_bd (gx_gi x0 1) fun v15 =>
  gx_bd (gx_pi x0 1 (v15 + 1)) fun _ =>
  gx_bd (gx_gr x0 0) fun v16 =>
  gx_bd (gx_gi x0 1) fun v17 =>
  gx_bd (gx_ra v16 (v17 - 1)) fun v18 =>
  gx_rt v18
noncomputable def lb_X7_place_1 (x1 : gx_Nm) (x2 : gx_Nm) (x3 : Int32) (s2 : Int32 × Int32) : gx_M ((Int32 × Int32) ⊕ ((Int32) ⊕ (gx_Nm))) :=
  if s2.2 ≤ s2.1 then
    gx_rt (.inr (.inl (s2.1 : Int32)))
  else
    gx_bd (f_X8_get x1 (gx_ushr (s2.1 + s2.2) 1)) fun v3 =>
    gx_bd (gx_gi v3 0) fun v4 =>
    gx_bd (gx_gi v3 1) fun v5 =>
    gx_bd (gx_gi x2 0) fun v6 =>
    gx_bd (gx_gi x2 1) fun v7 =>
    gx_bd (f_X4_compare [0, 0, 0, 1] v4 v5 v6 v7) fun v8 =>
    if v8 = 0 then
      gx_bd (
        if x3 = 0 then
          gx_rt ()
        else
          gx_bd (f_X9_copy v3 x2) fun _ =>
          gx_rt ()) fun _ =>
      gx_rt (.inr (.inr v3))
    else
      gx_bd (
        if 0 ≤ v8 then
          gx_rt ((s2.1 : Int32), ((gx_ushr (s2.1 + s2.2) 1) : Int32))
        else
          gx_rt ((((gx_ushr (s2.1 + s2.2) 1) + 1) : Int32), (s2.2 : Int32))) fun j9 =>
      gx_rt (.inl ((j9.1 : Int32), (j9.2 : Int32)))
noncomputable def lb_X7_place_2 (j11 : Int32) (x1 : gx_Nm) (s14 : Int32) : gx_M ((Int32) ⊕ (Unit)) :=
  if s14 ≤ j11 then
    gx_rt (.inr ())
  else
    gx_bd (f_X8_get x1 s14) fun v15 =>
    gx_bd (f_X8_get x1 (s14 - 1)) fun v16 =>
    gx_bd (f_X9_copy v15 v16) fun _ =>
    gx_rt (.inl ((s14 + (-1)) : Int32))
noncomputable def f_X7_place (x0 : gx_Nm) (x1 : gx_Nm) (x2 : gx_Nm) (x3 : Int32) : gx_M (gx_Nm) :=
  gx_bd (gx_gi x1 1) fun v1 =>
  gx_bd (gx_lp (lb_X7_place_1 x1 x2 x3) ((0 : Int32), (v1 : Int32))) fun j10 => match j10 with
  | .inr r => gx_rt r
  | .inl j11 =>
    gx_bd (f_X8_add x1) fun v12 =>
    gx_bd (gx_gi x1 1) fun v13 =>
    gx_bd (gx_lp (lb_X7_place_2 j11 x1) ((v13 - 1) : Int32)) fun _ =>
    gx_bd (f_X8_get x1 j11) fun v17 =>
    gx_bd (f_X9_copy v17 x2) fun _ =>
    gx_bd (f_X8_get x1 j11) fun v18 =>
    gx_rt v18
noncomputable def f_X7_put (x0 : gx_Nm) (x1 : Int32) (x2 : Int32) (x3 : Int32) : gx_M (Int32) :=
  gx_bd (
    if x3 = 0 then
      gx_rt false
    else
      gx_bd (f_X7_hasLease x0 x3) fun v1 =>
      if v1 = 0 then
        gx_rt true
      else
        gx_rt false) fun b2 =>
  if b2 = true then
    gx_rt 0
  else
    gx_bd (f_X3_get [0, 0, 1] x2) fun v3 =>
    gx_bd (f_X3_get [0, 0, 1] (x2 + 1)) fun v4 =>
    gx_bd (f_X7_now x0 x1 v3 v4) fun v5 =>
    gx_bd (f_X5_get (3 :: x0) x1) fun v6 =>
    gx_bd (
      if v5 = 0 then
        gx_rt ((v6 + 1) : Int32)
      else
        gx_bd (gx_gi (13 :: x0) 5) fun v7 =>
        gx_rt (v7 : Int32)) fun j8 =>
    gx_bd (gx_pi (13 :: x0) 5 j8) fun _ =>
    gx_bd (
      if v5 = 0 then
        gx_rt (1 : Int32)
      else
        gx_bd (gx_gi (13 :: x0) 7) fun v9 =>
        gx_rt ((v9 + 1) : Int32)) fun j10 =>
    gx_bd (gx_pi (13 :: x0) 7 j10) fun _ =>
    gx_bd (gx_pi (13 :: x0) 2 (1 &&& 1)) fun _ =>
    gx_bd (gx_pi (13 :: x0) 6 (v6 + 1)) fun _ =>
    gx_bd (f_X3_get [0, 0, 1] (x2 + 2)) fun v11 =>
    gx_bd (gx_pi (13 :: x0) 3 v11) fun _ =>
    gx_bd (f_X3_get [0, 0, 1] (x2 + 3)) fun v12 =>
    gx_bd (gx_pi (13 :: x0) 4 v12) fun _ =>
    gx_bd (gx_pi (13 :: x0) 8 x3) fun _ =>
    gx_bd (f_X7_place x0 (12 :: x0) (13 :: x0) 1) fun v13 =>
    gx_bd (gx_pi x0 16 (1 &&& 1)) fun _ =>
    gx_rt 1
noncomputable def f_X7_isIn (x0 : gx_Nm) (x1 : gx_Nm) (x2 : Int32) (x3 : Int32) (x4 : Int32) (x5 : Int32) : gx_M (Int32) :=
  gx_bd (gx_gi x1 0) fun v1 =>
  gx_bd (gx_gi x1 1) fun v2 =>
  gx_bd (f_X4_compare [0, 0, 0, 1] v1 v2 x2 x3) fun v3 =>
  if x4 = x5 then
    gx_bd (
      if v3 = 0 then
        gx_rt (1 : Int32)
      else
        gx_rt (0 : Int32)) fun j4 =>
    gx_rt j4
  else
    if 0 ≤ v3 then
      gx_bd (
        if (x5 - x4) = 1 then
          gx_bd (gx_gr [0, 0, 0, 1] 0) fun v5 =>
          gx_bd (gx_ia v5 x4) fun v6 =>
          if v6 = 0 then
            gx_rt (1 : Int32)
          else
            gx_rt (0 : Int32)
        else
          gx_rt (0 : Int32)) fun j7 =>
      gx_bd (
        if j7 = 0 then
          gx_bd (gx_gi x1 0) fun v8 =>
          gx_bd (gx_gi x1 1) fun v9 =>
          gx_bd (f_X4_compare [0, 0, 0, 1] v8 v9 x4 x5) fun v10 =>
          if 0 ≤ v10 then
            gx_rt (0 : Int32)
          else
            gx_rt (1 : Int32)
        else
          gx_rt (1 : Int32)) fun j11 =>
      gx_rt j11
    else
      gx_rt 0
noncomputable def lb_X7_range_1 (x0 : gx_Nm) (s1 : Int32) (x2 : Int32) (x3 : Int32) (x4 : Int32) (x5 : Int32) (x6 : gx_Nm) (s3 : Int32) : gx_M ((Int32) ⊕ (Unit)) :=
  gx_bd (f_X5_get (8 :: x0) s1) fun v4 =>
  if v4 ≤ s3 then
    gx_rt (.inr ())
  else
    gx_bd (f_X8_get (9 :: x0) s3) fun v5 =>
    gx_bd (f_X7_isIn x0 v5 x2 x3 x4 x5) fun v6 =>
    gx_bd (
      if v6 = 0 then
        gx_rt ()
      else
        gx_bd (f_X7_place x0 x6 v5 0) fun v7 =>
        gx_rt ()) fun _ =>
    gx_rt (.inl ((s3 + 1) : Int32))
noncomputable def lb_X7_range_2 (x0 : gx_Nm) (x2 : Int32) (x3 : Int32) (x4 : Int32) (x5 : Int32) (x6 : gx_Nm) (s1 : Int32) : gx_M ((Int32) ⊕ (Unit)) :=
  if s1 < 0 then
    gx_rt (.inr ())
  else
    gx_bd (f_X7_changeFrom x0 s1) fun v2 =>
    gx_bd (gx_lp (lb_X7_range_1 x0 s1 x2 x3 x4 x5 x6) (v2 : Int32)) fun _ =>
    gx_bd (f_X5_get (1 :: x0) s1) fun v8 =>
    gx_rt (.inl (v8 : Int32))
noncomputable def lb_X7_range_3 (x6 : gx_Nm) (s9 : Int32 × Int32) : gx_M ((Int32 × Int32) ⊕ (Int32)) :=
  gx_bd (gx_gi x6 1) fun v10 =>
  if v10 ≤ s9.2 then
    gx_rt (.inr (s9.1 : Int32))
  else
    gx_bd (f_X8_get x6 s9.2) fun v11 =>
    gx_bd (gx_gi v11 2) fun v12 =>
    gx_bd (
      if v12 = 0 then
        gx_rt (s9.1 : Int32)
      else
        gx_bd (f_X8_get x6 s9.1) fun v13 =>
        gx_bd (f_X8_get x6 s9.2) fun v14 =>
        gx_bd (f_X9_copy v13 v14) fun _ =>
        gx_rt ((s9.1 + 1) : Int32)) fun j15 =>
    gx_rt (.inl ((j15 : Int32), ((s9.2 + 1) : Int32)))
noncomputable def f_X7_range (x0 : gx_Nm) (x1 : Int32) (x2 : Int32) (x3 : Int32) (x4 : Int32) (x5 : Int32) (x6 : gx_Nm) : gx_M (Unit) :=
  gx_bd (f_X8_clear x6) fun _ =>
  gx_bd (gx_lp (lb_X7_range_2 x0 x2 x3 x4 x5 x6) (x1 : Int32)) fun _ =>
  gx_bd (gx_lp (lb_X7_range_3 x6) ((0 : Int32), (0 : Int32))) fun j16 =>
  gx_bd (gx_pi x6 1 j16) fun _ =>
  gx_rt ()
noncomputable def lb_X7_delete_1 (x0 : gx_Nm) (x6 : Int32) (x2 : Int32) (x3 : Int32) (x4 : Int32) (x5 : Int32) (s3 : Int32) : gx_M ((Int32) ⊕ (Unit)) :=
  gx_bd (gx_gi (12 :: x0) 1) fun v4 =>
  if v4 ≤ s3 then
    gx_rt (.inr ())
  else
    gx_bd (f_X8_get (12 :: x0) s3) fun v5 =>
    gx_bd (
      gx_bd (
        if x6 = 0 then
          gx_bd (f_X7_isIn x0 v5 x2 x3 x4 x5) fun v6 =>
          if v6 = 0 then
            gx_rt false
          else
            gx_rt true
        else
          gx_rt true) fun b7 =>
      if b7 = true then
        gx_bd (f_X7_place x0 (17 :: x0) v5 1) fun v8 =>
        gx_rt ()
      else
        gx_rt ()) fun _ =>
    gx_rt (.inl ((s3 + 1) : Int32))
noncomputable def lb_X7_delete_2 (x0 : gx_Nm) (x6 : Int32) (s9 : Int32) : gx_M ((Int32) ⊕ (Unit)) :=
  gx_bd (gx_gi (17 :: x0) 1) fun v10 =>
  if v10 ≤ s9 then
    gx_rt (.inr ())
  else
    gx_bd (f_X8_get (17 :: x0) s9) fun v11 =>
    gx_bd (gx_gi v11 2) fun v12 =>
    gx_bd (
      if v12 = 0 then
        gx_rt ()
      else
        gx_bd (
          if x6 = 0 then
            gx_rt false
          else
            gx_bd (gx_gi v11 8) fun v13 =>
            if v13 = x6 then
              gx_rt false
            else
              gx_rt true) fun b14 =>
        if b14 = true then
          gx_rt ()
        else
          gx_bd (f_X9_copy (13 :: x0) v11) fun _ =>
          gx_bd (gx_pi (13 :: x0) 2 (0 &&& 1)) fun _ =>
          gx_bd (f_X7_place x0 (12 :: x0) (13 :: x0) 1) fun v15 =>
          gx_bd (gx_gi x0 15) fun v16 =>
          gx_bd (gx_pi x0 15 (v16 + 1)) fun _ =>
          gx_bd (gx_pi x0 16 (1 &&& 1)) fun _ =>
          gx_rt ()) fun _ =>
    gx_rt (.inl ((s9 + 1) : Int32))
noncomputable def f_X7_delete (x0 : gx_Nm) (x1 : Int32) (x2 : Int32) (x3 : Int32) (x4 : Int32) (x5 : Int32) (x6 : Int32) : gx_M (Unit) :=
  gx_bd (
    if x6 = 0 then
      gx_bd (f_X7_range x0 x1 x2 x3 x4 x5 (17 :: x0)) fun _ =>
      gx_rt ()
    else
      gx_bd (gx_gi x0 18) fun v1 =>
      gx_bd (gx_gi x0 18) fun v2 =>
      gx_bd (f_X7_range x0 x1 0 0 v1 (v2 + 1) (17 :: x0)) fun _ =>
      gx_rt ()) fun _ =>
  gx_bd (gx_lp (lb_X7_delete_1 x0 x6 x2 x3 x4 x5) (0 : Int32)) fun _ =>
  gx_bd (gx_lp (lb_X7_delete_2 x0 x6) (0 : Int32)) fun _ =>
  gx_rt ()
noncomputable def f_X7_turnLease (x0 : gx_Nm) (x1 : Int32) : gx_M (Unit) :=
  gx_bd (gx_ia (14 :: x0) (x1 >>> (5 &&& 31))) fun v1 =>
  gx_bd (gx_is (14 :: x0) (x1 >>> (5 &&& 31)) (v1 ^^^ (1 <<< ((x1 &&& 31) &&& 31)))) fun _ =>
  gx_rt ()
noncomputable def f_X7_step (x0 : gx_Nm) (x1 : Int32) (x2 : Int32) : gx_M (Int32) :=
  gx_bd (f_X3_get [0, 0, 1] (x2 + 4)) fun v1 =>
  gx_bd (f_X3_get [0, 0, 1] (x2 + 5)) fun v2 =>
  if v1 = 0 then
    gx_bd (f_X7_put x0 x1 x2 v2) fun v3 =>
    gx_rt v3
  else
    if v1 = 1 then
      gx_bd (f_X3_get [0, 0, 1] x2) fun v4 =>
      gx_bd (f_X3_get [0, 0, 1] (x2 + 1)) fun v5 =>
      gx_bd (f_X3_get [0, 0, 1] (x2 + 2)) fun v6 =>
      gx_bd (f_X3_get [0, 0, 1] (x2 + 3)) fun v7 =>
      gx_bd (f_X7_delete x0 x1 v4 v5 v6 v7 0) fun _ =>
      gx_rt 1
    else
      gx_bd (f_X7_hasLease x0 v2) fun v8 =>
      gx_bd (
        if v1 = 2 then
          gx_rt (1 : Int32)
        else
          gx_rt (0 : Int32)) fun j9 =>
      if v8 = j9 then
        gx_rt 0
      else
        gx_bd (
          if v8 = 0 then
            gx_rt ()
          else
            gx_bd (f_X7_delete x0 x1 0 0 0 0 v2) fun _ =>
            gx_rt ()) fun _ =>
        gx_bd (f_X7_turnLease x0 v2) fun _ =>
        gx_rt 1
noncomputable def lb_X7_finish_1 (x0 : gx_Nm) (x1 : Int32) (s2 : Int32 × Int32 × Int32) : gx_M ((Int32 × Int32 × Int32) ⊕ (Int32 × Int32)) :=
  gx_bd (gx_gi (12 :: x0) 1) fun v3 =>
  if v3 ≤ s2.2.2 then
    gx_rt (.inr ((s2.1 : Int32), (s2.2.1 : Int32)))
  else
    gx_bd (f_X8_get (12 :: x0) s2.2.2) fun v4 =>
    gx_bd (gx_gi v4 0) fun v5 =>
    gx_bd (gx_gi v4 1) fun v6 =>
    gx_bd (f_X7_find x0 x1 v5 v6) fun v7 =>
    gx_bd (gx_gi v4 2) fun v8 =>
    gx_bd (
      if v8 = 0 then
        gx_rt (0 : Int32)
      else
        gx_rt (1 : Int32)) fun j9 =>
    gx_bd (
      if v7 = none then
        gx_rt (0 : Int32)
      else
        gx_rt (1 : Int32)) fun j10 =>
    gx_bd (gx_gi v4 2) fun v11 =>
    gx_bd (
      gx_bd (
        if v11 = 0 then
          if v7 = none then
            gx_rt true
          else
            gx_rt false
        else
          gx_rt false) fun b12 =>
      if b12 = true then
        gx_rt (s2.2.1 : Int32)
      else
        gx_bd (f_X8_get (12 :: x0) s2.2.1) fun v13 =>
        gx_bd (f_X9_copy v13 v4) fun _ =>
        gx_rt ((s2.2.1 + 1) : Int32)) fun j14 =>
    gx_rt (.inl (((s2.1 + (j9 - j10)) : Int32), (j14 : Int32), ((s2.2.2 + 1) : Int32)))
noncomputable def lb_X7_finish_2 (x0 : gx_Nm) (x1 : Int32) (s17 : Int32) : gx_M ((Int32) ⊕ (Unit)) :=
  if 4 ≤ s17 then
    gx_rt (.inr ())
  else
    gx_bd (f_X5_get (7 :: x0) ((4 * x1) + s17)) fun v18 =>
    gx_bd (gx_is (14 :: x0) s17 v18) fun _ =>
    gx_rt (.inl ((s17 + 1) : Int32))
noncomputable def lb_X7_finish_3 (x0 : gx_Nm) (s22 : Int32) : gx_M ((Int32) ⊕ (Unit)) :=
  gx_bd (gx_gi (12 :: x0) 1) fun v23 =>
  if v23 ≤ s22 then
    gx_rt (.inr ())
  else
    gx_bd (f_X8_add (9 :: x0)) fun v24 =>
    gx_bd (f_X8_get (12 :: x0) s22) fun v25 =>
    gx_bd (f_X9_copy v24 v25) fun _ =>
    gx_rt (.inl ((s22 + 1) : Int32))
noncomputable def f_X7_finish (x0 : gx_Nm) (x1 : Int32) (x2 : Int32) (x3 : Int32) (x4 : Int32) : gx_M (Int32) :=
  gx_bd (f_X5_get (6 :: x0) x1) fun v1 =>
  gx_bd (gx_lp (lb_X7_finish_1 x0 x1) ((v1 : Int32), (0 : Int32), (0 : Int32))) fun j15 =>
  gx_bd (gx_pi (12 :: x0) 1 j15.2) fun _ =>
  gx_bd (
    if x4 = 0 then
      gx_rt true
    else
      if j15.1 ≤ 200 then
        gx_rt false
      else
        gx_rt true) fun b16 =>
  if b16 = true then
    gx_bd (gx_lp (lb_X7_finish_2 x0 x1) (0 : Int32)) fun _ =>
    gx_bd (f_X5_get (3 :: x0) x1) fun v19 =>
    gx_bd (f_X5_get (6 :: x0) x1) fun v20 =>
    gx_bd (f_X7_enter x0 x1 x2 v19 2 0 v20) fun v21 =>
    gx_rt v21
  else
    gx_bd (gx_lp (lb_X7_finish_3 x0) (0 : Int32)) fun _ =>
    gx_bd (f_X5_get (3 :: x0) x1) fun v26 =>
    gx_bd (gx_gi x0 16) fun v27 =>
    gx_bd (
      if v27 = 0 then
        gx_rt (0 : Int32)
      else
        gx_rt (1 : Int32)) fun j28 =>
    gx_bd (
      if x3 = 0 then
        gx_rt (0 : Int32)
      else
        gx_rt (1 : Int32)) fun j29 =>
    gx_bd (gx_gi x0 15) fun v30 =>
    gx_bd (f_X7_enter x0 x1 x2 (v26 + j28) j29 v30 j15.1) fun v31 =>
    gx_rt v31
noncomputable def lb_X7_apply_1 (x0 : gx_Nm) (x2 : Int32) (s2 : Int32) : gx_M ((Int32) ⊕ ((Unit) ⊕ (Int32))) :=
  if s2 < 0 then
    gx_rt (.inr (.inl ()))
  else
    gx_bd (f_X5_get (2 :: x0) s2) fun v3 =>
    if v3 = x2 then
      gx_rt (.inr (.inr s2))
    else
      gx_bd (f_X5_get (11 :: x0) s2) fun v4 =>
      gx_rt (.inl (v4 : Int32))
noncomputable def lb_X7_apply_2 (x2 : Int32) (x0 : gx_Nm) (x1 : Int32) (s8 : Int32 × Int32) : gx_M ((Int32 × Int32) ⊕ (Int32)) :=
  gx_bd (f_X3_end [0, 0, 1] x2 0) fun v9 =>
  if v9 ≤ s8.2 then
    gx_rt (.inr (s8.1 : Int32))
  else
    gx_bd (
      if s8.1 = 0 then
        gx_rt (0 : Int32)
      else
        gx_bd (f_X7_holds x0 x1 s8.2) fun v10 =>
        if v10 = 0 then
          gx_rt (0 : Int32)
        else
          gx_rt (1 : Int32)) fun j11 =>
    gx_rt (.inl ((j11 : Int32), ((s8.2 + 5) : Int32)))
noncomputable def lb_X7_apply_3 (x0 : gx_Nm) (x1 : Int32) (s13 : Int32) : gx_M ((Int32) ⊕ (Unit)) :=
  if 4 ≤ s13 then
    gx_rt (.inr ())
  else
    gx_bd (f_X5_get (7 :: x0) ((4 * x1) + s13)) fun v14 =>
    gx_bd (gx_is (14 :: x0) s13 v14) fun _ =>
    gx_rt (.inl ((s13 + 1) : Int32))
noncomputable def lb_X7_apply_4 (x2 : Int32) (j15 : Int32) (x0 : gx_Nm) (x1 : Int32) (s17 : Int32 × Int32) : gx_M ((Int32 × Int32) ⊕ (Int32)) :=
  gx_bd (f_X3_end [0, 0, 1] x2 j15) fun v18 =>
  if v18 ≤ s17.2 then
    gx_rt (.inr (s17.1 : Int32))
  else
    if s17.1 = 0 then
      gx_rt (.inr (s17.1 : Int32))
    else
      gx_bd (f_X7_step x0 x1 s17.2) fun v19 =>
      gx_rt (.inl ((v19 : Int32), ((s17.2 + 6) : Int32)))
noncomputable def f_X7_apply (x0 : gx_Nm) (x1 : Int32) (x2 : Int32) : gx_M (Int32) :=
  gx_bd (f_X5_get (10 :: x0) x1) fun v1 =>
  gx_bd (gx_lp (lb_X7_apply_1 x0 x2) (v1 : Int32)) fun j5 => match j5 with
  | .inr r => gx_rt r
  | .inl _ =>
    gx_bd (f_X3_begin [0, 0, 1] x2 0) fun v7 =>
    gx_bd (gx_lp (lb_X7_apply_2 x2 x0 x1) ((1 : Int32), (v7 : Int32))) fun j12 =>
    gx_bd (gx_lp (lb_X7_apply_3 x0 x1) (0 : Int32)) fun _ =>
    gx_bd (f_X8_clear (12 :: x0)) fun _ =>
    gx_bd (gx_pi x0 15 0) fun _ =>
    gx_bd (gx_pi x0 16 (0 &&& 1)) fun _ =>
    gx_bd (
      if j12 = 0 then
        gx_rt (2 : Int32)
      else
        gx_rt (1 : Int32)) fun j15 =>
    gx_bd (f_X3_begin [0, 0, 1] x2 j15) fun v16 =>
    gx_bd (gx_lp (lb_X7_apply_4 x2 j15 x0 x1) ((1 : Int32), (v16 : Int32))) fun j20 =>
    gx_bd (f_X7_finish x0 x1 x2 j12 j20) fun v21 =>
    gx_rt v21
noncomputable def lb_X13_commitTo_1 (x0 : gx_Nm) (x1 : Int32) (_ : Unit) : gx_M ((Unit) ⊕ (Unit)) :=
  gx_bd (gx_gi x0 10) fun v2 =>
  if x1 ≤ v2 then
    gx_rt (.inr ())
  else
    gx_bd (gx_gi x0 10) fun v3 =>
    gx_bd (gx_pi x0 10 (v3 + 1)) fun _ =>
    gx_bd (gx_gi x0 10) fun v4 =>
    gx_bd (f_X15_entry (5 :: x0) v4) fun v5 =>
    gx_bd (gx_gi x0 10) fun v6 =>
    gx_bd (f_X2_applies [0, 1] v6 v5) fun _ =>
    gx_bd (gx_gi x0 11) fun v7 =>
    gx_bd (f_X5_get [1, 1, 0, 1] v5) fun v8 =>
    gx_bd (f_X7_apply [2, 0, 1] v7 v8) fun v9 =>
    gx_bd (gx_pi x0 11 v9) fun _ =>
    gx_bd (gx_gi x0 11) fun v10 =>
    gx_bd (f_X5_add (12 :: x0) v10) fun _ =>
    gx_rt (.inl ())
noncomputable def f_X13_commitTo (x0 : gx_Nm) (x1 : Int32) : gx_M (Unit) :=
  gx_bd (gx_lp (lb_X13_commitTo_1 x0 x1) ()) fun _ =>
  gx_rt ()
noncomputable def lb_X13_lookForCommit_1 (x0 : gx_Nm) (s2 : Int32) (s7 : Int32 × Int32) : gx_M ((Int32 × Int32) ⊕ (Int32)) :=
  gx_bd (gx_gi [0, 1] 4) fun v8 =>
  if v8 ≤ s7.2 then
    gx_rt (.inr (s7.1 : Int32))
  else
    gx_bd (gx_ia (18 :: x0) s7.2) fun v9 =>
    gx_bd (
      if v9 < s2 then
        gx_rt (0 : Int32)
      else
        gx_rt ((1 <<< (s7.2 &&& 31)) : Int32)) fun j10 =>
    gx_rt (.inl (((s7.1 ||| j10) : Int32), ((s7.2 + 1) : Int32)))
noncomputable def lb_X13_lookForCommit_2 (x0 : gx_Nm) (s2 : Int32) : gx_M ((Int32) ⊕ ((Unit) ⊕ (Unit))) :=
  gx_bd (gx_gi x0 10) fun v3 =>
  if s2 ≤ v3 then
    gx_rt (.inr (.inl ()))
  else
    gx_bd (gx_gi (5 :: x0) 1) fun v4 =>
    if s2 ≤ v4 then
      gx_rt (.inr (.inl ()))
    else
      gx_bd (f_X15_term (5 :: x0) s2) fun v5 =>
      gx_bd (gx_gi x0 3) fun v6 =>
      if v5 = v6 then
        gx_bd (gx_lp (lb_X13_lookForCommit_1 x0 s2) ((0 : Int32), (0 : Int32))) fun j11 =>
        gx_bd (f_X13_isMajority x0 j11) fun v12 =>
        if v12 = 0 then
          gx_rt (.inl ((s2 + (-1)) : Int32))
        else
          gx_bd (f_X13_commitTo x0 s2) fun _ =>
          gx_rt (.inr (.inr ()))
      else
        gx_rt (.inr (.inl ()))
noncomputable def f_X13_lookForCommit (x0 : gx_Nm) : gx_M (Unit) :=
  gx_bd (f_X15_last (5 :: x0)) fun v1 =>
  gx_bd (gx_lp (lb_X13_lookForCommit_2 x0) (v1 : Int32)) fun j13 => match j13 with
  | .inr r => gx_rt r
  | .inl _ =>
    gx_rt ()
noncomputable def lb_X13_sync_1 (x0 : gx_Nm) (s2 : Int32 × Int32) : gx_M ((Int32 × Int32) ⊕ (Int32)) :=
  gx_bd (gx_gi (6 :: x0) 1) fun v3 =>
  if v3 ≤ s2.2 then
    gx_rt (.inr (s2.1 : Int32))
  else
    gx_bd (f_X11_get (6 :: x0) s2.2) fun v4 =>
    gx_bd (f_X10_send [3, 0, 1] v4) fun v5 =>
    gx_rt (.inl (((s2.1 + v5) : Int32), ((s2.2 + 1) : Int32)))
noncomputable def f_X13_sync (x0 : gx_Nm) : gx_M (Int32) :=
  gx_bd (f_X14_unsynced (2 :: x0)) fun v1 =>
  gx_bd (f_X14_keep (2 :: x0) v1) fun _ =>
  gx_bd (gx_lp (lb_X13_sync_1 x0) ((0 : Int32), (0 : Int32))) fun j6 =>
  gx_bd (gx_pi (6 :: x0) 1 0) fun _ =>
  gx_bd (gx_gi x0 8) fun v7 =>
  gx_bd (
    if v7 = 2 then
      gx_bd (gx_gi x0 1) fun v8 =>
      gx_bd (f_X15_last (5 :: x0)) fun v9 =>
      gx_bd (gx_is (18 :: x0) v8 v9) fun _ =>
      gx_bd (f_X13_lookForCommit x0) fun _ =>
      gx_rt ()
    else
      gx_rt ()) fun _ =>
  gx_rt j6
noncomputable def f_X1_sync (x0 : gx_Nm) (x1 : Int32) : gx_M (Int32 ⊕ Nat) :=
  gx_bx (f_X1_up x0 x1) fun v1 =>
  gx_bd (f_X13_sync v1) fun v2 =>
  gx_rt (.inl v2)
noncomputable def lb_X13_fall_1 (x0 : gx_Nm) (_ : Unit) : gx_M ((Unit) ⊕ (Unit)) :=
  gx_bd (gx_gi (6 :: x0) 1) fun v2 =>
  if v2 ≤ 0 then
    gx_rt (.inr ())
  else
    gx_bd (f_X11_pop (6 :: x0)) fun v3 =>
    gx_bd (f_X10_leave [3, 0, 1] v3) fun _ =>
    gx_rt (.inl ())
noncomputable def f_X13_fall (x0 : gx_Nm) (x1 : Int32) : gx_M (Unit) :=
  gx_bd (f_X14_keep (2 :: x0) x1) fun _ =>
  gx_bd (gx_lp (lb_X13_fall_1 x0) ()) fun _ =>
  gx_bd (gx_pi x0 7 (1 &&& 1)) fun _ =>
  gx_rt ()
noncomputable def f_X1_crash (x0 : gx_Nm) (x1 : Int32) (x2 : Int32) : gx_M (Unit ⊕ Nat) :=
  gx_bx (f_X1_up x0 x1) fun v1 =>
  gx_bd (f_X14_unsynced (2 :: v1)) fun v2 =>
  gx_bd (f_X1_in x2 0 v2) fun v3 =>
  gx_bx (f_X1_good v3) fun _ =>
  gx_bd (f_X13_fall v1 x2) fun _ =>
  gx_rt (.inl ())
noncomputable def f_X1_start (x0 : gx_Nm) (x1 : Int32) : gx_M (Unit ⊕ Nat) :=
  gx_bx (f_X1_node x0 x1) fun v1 =>
  gx_bd (gx_gi v1 7) fun v2 =>
  gx_bx (f_X1_there v2) fun _ =>
  gx_bd (f_X13_rise v1) fun _ =>
  gx_rt (.inl ())
noncomputable def f_X13_wouldLead (x0 : gx_Nm) (x1 : gx_Nm) : gx_M (Int32) :=
  gx_bd (gx_gi x1 0) fun v1 =>
  gx_bd (
    if v1 = 2 then
      gx_bd (gx_gi x0 8) fun v2 =>
      if v2 = 1 then
        gx_bd (gx_gi x1 3) fun v3 =>
        gx_bd (gx_gi x0 3) fun v4 =>
        if v3 = v4 then
          gx_bd (gx_gi x1 5) fun v5 =>
          if v5 = 1 then
            gx_bd (gx_gi x0 15) fun v6 =>
            gx_bd (gx_gi x1 1) fun v7 =>
            gx_bd (f_X13_isMajority x0 (v6 ||| (1 <<< (v7 &&& 31)))) fun v8 =>
            if v8 = 0 then
              gx_rt (0 : Int32)
            else
              gx_rt (1 : Int32)
          else
            gx_rt (0 : Int32)
        else
          gx_rt (0 : Int32)
      else
        gx_rt (0 : Int32)
    else
      gx_rt (0 : Int32)) fun j9 =>
  gx_rt j9
noncomputable def lb_X11_remove_1 (x0 : gx_Nm) (s3 : Int32) : gx_M ((Int32) ⊕ (Unit)) :=
  gx_bd (gx_gi x0 1) fun v4 =>
  if v4 ≤ (s3 + 1) then
    gx_rt (.inr ())
  else
    gx_bd (gx_gr x0 0) fun v5 =>
    gx_bd (gx_gr x0 0) fun v6 =>
    gx_bd (gx_ra v6 (s3 + 1)) fun v7 =>
    gx_bd (gx_rs v5 s3 v7) fun _ =>
    gx_rt (.inl ((s3 + 1) : Int32))
noncomputable def f_X11_remove (x0 : gx_Nm) (x1 : Int32) : gx_M (gx_Nm) :=
  gx_bd (gx_gr x0 0) fun v1 =>
  gx_bd (gx_ra v1 x1) fun v2 =>
  gx_bd (gx_lp (lb_X11_remove_1 x0) (x1 : Int32)) fun _ =>
  gx_bd (gx_gi x0 1) fun v8 =>
  gx_bd (gx_pi x0 1 (v8 - 1)) fun _ =>
  gx_rt v2
noncomputable def f_X13_follow (x0 : gx_Nm) (x1 : Int32) : gx_M (Unit) :=
  gx_bd (gx_gi x0 8) fun v1 =>
  gx_bd (
    if v1 = 2 then
      gx_bd (f_X13_forgetReads x0) fun _ =>
      gx_rt ()
    else
      gx_rt ()) fun _ =>
  gx_bd (gx_pi x0 8 0) fun _ =>
  gx_bd (gx_pi x0 9 x1) fun _ =>
  gx_rt ()
noncomputable def f_X13_asked (x0 : gx_Nm) (x1 : gx_Nm) : gx_M (Unit) :=
  gx_bd (f_X15_lastTerm (5 :: x0)) fun v1 =>
  gx_bd (gx_gi x1 5) fun v2 =>
  gx_bd (
    if v1 < v2 then
      gx_rt (1 : Int32)
    else
      gx_bd (gx_gi x1 5) fun v3 =>
      if v3 = v1 then
        gx_bd (gx_gi x1 4) fun v4 =>
        gx_bd (f_X15_last (5 :: x0)) fun v5 =>
        if v4 < v5 then
          gx_rt (0 : Int32)
        else
          gx_rt (1 : Int32)
      else
        gx_rt (0 : Int32)) fun j6 =>
  gx_bd (gx_gi x1 3) fun v7 =>
  gx_bd (gx_gi x0 3) fun v8 =>
  gx_bd (
    if v7 = v8 then
      gx_bd (gx_gi x0 4) fun v9 =>
      if v9 = (-1) then
        if j6 = 0 then
          gx_rt (0 : Int32)
        else
          gx_rt (1 : Int32)
      else
        gx_bd (gx_gi x0 4) fun v10 =>
        gx_bd (gx_gi x1 1) fun v11 =>
        if v10 = v11 then
          if j6 = 0 then
            gx_rt (0 : Int32)
          else
            gx_rt (1 : Int32)
        else
          gx_rt (0 : Int32)
    else
      gx_rt (0 : Int32)) fun j12 =>
  gx_bd (
    if j12 = 0 then
      gx_rt ()
    else
      gx_bd (gx_gi x0 4) fun v13 =>
      if v13 = (-1) then
        gx_bd (gx_gi x0 3) fun v14 =>
        gx_bd (gx_gi x1 1) fun v15 =>
        gx_bd (f_X13_setTerm x0 v14 v15) fun _ =>
        gx_rt ()
      else
        gx_rt ()) fun _ =>
  gx_bd (gx_gi x1 1) fun v16 =>
  gx_bd (f_X13_message x0 2 v16) fun v17 =>
  gx_bd (
    if j12 = 0 then
      gx_rt (0 : Int32)
    else
      gx_rt (1 : Int32)) fun j18 =>
  gx_bd (gx_pi v17 5 j18) fun _ =>
  gx_bd (f_X13_send x0 v17) fun _ =>
  gx_rt ()
noncomputable def f_X13_reply (x0 : gx_Nm) (x1 : gx_Nm) (x2 : Int32) (x3 : Int32) (x4 : Int32) : gx_M (Unit) :=
  gx_bd (gx_gi x1 1) fun v1 =>
  gx_bd (f_X13_message x0 4 v1) fun v2 =>
  gx_bd (
    if x2 = 0 then
      gx_rt (0 : Int32)
    else
      gx_rt (1 : Int32)) fun j3 =>
  gx_bd (gx_pi v2 5 j3) fun _ =>
  gx_bd (gx_pi v2 4 x3) fun _ =>
  gx_bd (gx_pi v2 7 x4) fun _ =>
  gx_bd (f_X13_send x0 v2) fun _ =>
  gx_rt ()
noncomputable def f_X13_leads (x0 : gx_Nm) (x1 : gx_Nm) : gx_M (Int32) :=
  gx_bd (gx_gi x1 3) fun v1 =>
  gx_bd (gx_gi x0 3) fun v2 =>
  if v2 ≤ v1 then
    gx_bd (gx_gi x1 1) fun v3 =>
    gx_bd (f_X13_follow x0 v3) fun _ =>
    gx_rt 1
  else
    gx_bd (f_X13_reply x0 x1 0 0 0) fun _ =>
    gx_rt 0
noncomputable def f_X13_reply_2 (x0 : gx_Nm) (x1 : gx_Nm) (x2 : Int32) (x3 : Int32) : gx_M (Unit) :=
  gx_bd (gx_gi x1 7) fun v1 =>
  gx_bd (f_X13_reply x0 x1 x2 x3 v1) fun _ =>
  gx_rt ()
noncomputable def lb_X13_append_1 (x1 : gx_Nm) (x0 : gx_Nm) (s12 : Int32) : gx_M ((Int32) ⊕ (Unit)) :=
  gx_bd (gx_gi x1 9) fun v13 =>
  if v13 ≤ s12 then
    gx_rt (.inr ())
  else
    gx_bd (gx_gi x1 4) fun v14 =>
    gx_bd (gx_ia (10 :: x1) s12) fun v15 =>
    gx_bd (gx_gi (5 :: x0) 1) fun v16 =>
    gx_bd (
      if ((v14 + 1) + s12) ≤ v16 then
        gx_rt (1 : Int32)
      else
        gx_bd (f_X15_last (5 :: x0)) fun v17 =>
        if v17 < ((v14 + 1) + s12) then
          gx_rt (0 : Int32)
        else
          gx_bd (f_X15_term (5 :: x0) ((v14 + 1) + s12)) fun v18 =>
          gx_bd (f_X5_get [0, 1, 0, 1] v15) fun v19 =>
          if v18 = v19 then
            gx_rt (1 : Int32)
          else
            gx_rt (0 : Int32)) fun j20 =>
    gx_bd (
      if j20 = 0 then
        gx_bd (f_X13_put x0 ((v14 + 1) + s12) v15) fun _ =>
        gx_rt ()
      else
        gx_rt ()) fun _ =>
    gx_rt (.inl ((s12 + 1) : Int32))
noncomputable def f_X13_append (x0 : gx_Nm) (x1 : gx_Nm) : gx_M (Unit) :=
  gx_bd (f_X15_last (5 :: x0)) fun v1 =>
  gx_bd (gx_gi x1 4) fun v2 =>
  gx_bd (
    if v1 < v2 then
      gx_rt true
    else
      gx_bd (gx_gi x1 4) fun v3 =>
      gx_bd (gx_gi (5 :: x0) 1) fun v4 =>
      if v3 < v4 then
        gx_rt false
      else
        gx_bd (gx_gi x1 4) fun v5 =>
        gx_bd (f_X15_term (5 :: x0) v5) fun v6 =>
        gx_bd (gx_gi x1 5) fun v7 =>
        if v6 = v7 then
          gx_rt false
        else
          gx_rt true) fun b8 =>
  if b8 = true then
    gx_bd (gx_gi x1 4) fun v9 =>
    gx_bd (
      if v1 ≤ (v9 - 1) then
        gx_rt (v1 : Int32)
      else
        gx_bd (gx_gi x1 4) fun v10 =>
        gx_rt ((v10 - 1) : Int32)) fun j11 =>
    gx_bd (f_X13_reply_2 x0 x1 0 j11) fun _ =>
    gx_rt ()
  else
    gx_bd (gx_lp (lb_X13_append_1 x1 x0) (0 : Int32)) fun _ =>
    gx_bd (gx_gi x1 4) fun v21 =>
    gx_bd (gx_gi x1 9) fun v22 =>
    gx_bd (gx_gi x1 6) fun v23 =>
    gx_bd (
      if (v21 + v22) ≤ v23 then
        gx_rt ((v21 + v22) : Int32)
      else
        gx_bd (gx_gi x1 6) fun v24 =>
        gx_rt (v24 : Int32)) fun j25 =>
    gx_bd (f_X13_commitTo x0 j25) fun _ =>
    gx_bd (f_X13_reply_2 x0 x1 1 (v21 + v22)) fun _ =>
    gx_rt ()
noncomputable def f_X14_writeSnapshot (x0 : gx_Nm) (x1 : Int32) (x2 : Int32) (x3 : Int32) : gx_M (Unit) :=
  gx_bd (f_X14_write x0 2 x1 x2 x3) fun _ =>
  gx_rt ()
noncomputable def f_X13_takeState (x0 : gx_Nm) (x1 : gx_Nm) : gx_M (Unit) :=
  gx_bd (gx_gi x1 4) fun v1 =>
  gx_bd (gx_gi x0 10) fun v2 =>
  gx_bd (
    if v1 ≤ v2 then
      gx_rt ()
    else
      gx_bd (gx_gi x1 4) fun v3 =>
      gx_bd (gx_gi x1 5) fun v4 =>
      gx_bd (gx_gi x1 8) fun v5 =>
      gx_bd (f_X15_snapshot (5 :: x0) v3 v4 v5) fun _ =>
      gx_bd (gx_gi x1 4) fun v6 =>
      gx_bd (gx_gi x1 5) fun v7 =>
      gx_bd (gx_gi x1 8) fun v8 =>
      gx_bd (f_X14_writeSnapshot (2 :: x0) v6 v7 v8) fun _ =>
      gx_bd (f_X13_whole x0) fun _ =>
      gx_rt ()) fun _ =>
  gx_bd (gx_gi x1 4) fun v9 =>
  gx_bd (f_X13_reply_2 x0 x1 1 v9) fun _ =>
  gx_rt ()
noncomputable def f_X7_revision (x0 : gx_Nm) (x1 : Int32) : gx_M (Int32) :=
  gx_bd (f_X5_get (3 :: x0) x1) fun v1 =>
  gx_rt v1
noncomputable def f_X13_answer (x0 : gx_Nm) (x1 : gx_Nm) : gx_M (Unit) :=
  gx_bd (gx_gi x0 10) fun v1 =>
  gx_bd (gx_gi x1 2) fun v2 =>
  gx_bd (
    if v2 ≤ v1 then
      gx_rt ()
    else
      gx_bd (gx_gi [0, 1] 5) fun v3 =>
      gx_bd (gx_pi [0, 1] 5 (v3 + 1)) fun _ =>
      gx_rt ()) fun _ =>
  gx_bd (gx_gi x0 11) fun v4 =>
  gx_bd (gx_gi x1 0) fun v5 =>
  gx_bd (gx_gi x1 1) fun v6 =>
  gx_bd (f_X7_find [2, 0, 1] v4 v5 v6) fun v7 =>
  gx_bd (gx_pi x1 4 (1 &&& 1)) fun _ =>
  gx_bd (
    if v7 = none then
      gx_rt (0 : Int32)
    else
      gx_rt (1 : Int32)) fun j8 =>
  gx_bd (gx_is (5 :: x1) 0 j8) fun _ =>
  gx_bd (
    if v7 = none then
      gx_rt (0 : Int32)
    else
      gx_bd (gx_nn v7) fun v9 =>
      gx_bd (gx_gi v9 6) fun v10 =>
      gx_rt (v10 : Int32)) fun j11 =>
  gx_bd (gx_is (5 :: x1) 1 j11) fun _ =>
  gx_bd (
    if v7 = none then
      gx_rt (0 : Int32)
    else
      gx_bd (gx_nn v7) fun v12 =>
      gx_bd (gx_gi v12 7) fun v13 =>
      gx_rt (v13 : Int32)) fun j14 =>
  gx_bd (gx_is (5 :: x1) 2 j14) fun _ =>
  gx_bd (gx_gi x0 11) fun v15 =>
  gx_bd (f_X7_revision [2, 0, 1] v15) fun v16 =>
  gx_bd (gx_is (5 :: x1) 3 v16) fun _ =>
  gx_rt ()
noncomputable def lb_X13_lookAtReads_1 (x0 : gx_Nm) (v5 : gx_Nm) (s6 : Int32 × Int32) : gx_M ((Int32 × Int32) ⊕ (Int32)) :=
  gx_bd (gx_gi [0, 1] 4) fun v7 =>
  if v7 ≤ s6.2 then
    gx_rt (.inr (s6.1 : Int32))
  else
    gx_bd (gx_ia (19 :: x0) s6.2) fun v8 =>
    gx_bd (gx_gi v5 3) fun v9 =>
    gx_bd (
      if v8 < v9 then
        gx_rt (0 : Int32)
      else
        gx_rt ((1 <<< (s6.2 &&& 31)) : Int32)) fun j10 =>
    gx_rt (.inl (((s6.1 ||| j10) : Int32), ((s6.2 + 1) : Int32)))
noncomputable def lb_X13_lookAtReads_2 (x0 : gx_Nm) (s2 : Int32) : gx_M ((Int32) ⊕ ((Unit) ⊕ (Unit))) :=
  gx_bd (gx_gi x0 21) fun v3 =>
  if v3 ≤ s2 then
    gx_rt (.inr (.inl ()))
  else
    gx_bd (gx_gr x0 20) fun v4 =>
    gx_bd (gx_ra v4 s2) fun v5 =>
    gx_bd (gx_lp (lb_X13_lookAtReads_1 x0 v5) ((0 : Int32), (0 : Int32))) fun j11 =>
    gx_bd (f_X13_isMajority x0 j11) fun v12 =>
    if v12 = 0 then
      gx_rt (.inr (.inr ()))
    else
      gx_bd (f_X13_answer x0 v5) fun _ =>
      gx_bd (gx_pi x0 22 (s2 + 1)) fun _ =>
      gx_rt (.inl ((s2 + 1) : Int32))
noncomputable def f_X13_lookAtReads (x0 : gx_Nm) : gx_M (Unit) :=
  gx_bd (gx_gi x0 22) fun v1 =>
  gx_bd (gx_lp (lb_X13_lookAtReads_2 x0) (v1 : Int32)) fun j13 => match j13 with
  | .inr r => gx_rt r
  | .inl _ =>
    gx_rt ()
noncomputable def f_X13_taken (x0 : gx_Nm) (x1 : gx_Nm) : gx_M (Unit) :=
  gx_bd (gx_gi x1 1) fun v1 =>
  gx_bd (gx_gi x1 7) fun v2 =>
  gx_bd (gx_ia (19 :: x0) v1) fun v3 =>
  gx_bd (
    if v2 ≤ v3 then
      gx_rt ()
    else
      gx_bd (gx_gi x1 7) fun v4 =>
      gx_bd (gx_is (19 :: x0) v1 v4) fun _ =>
      gx_rt ()) fun _ =>
  gx_bd (gx_gi x1 5) fun v5 =>
  gx_bd (
    if v5 = 1 then
      gx_bd (gx_gi x1 4) fun v6 =>
      gx_bd (gx_ia (18 :: x0) v1) fun v7 =>
      gx_bd (
        if v6 ≤ v7 then
          gx_rt ()
        else
          gx_bd (gx_gi x1 4) fun v8 =>
          gx_bd (gx_is (18 :: x0) v1 v8) fun _ =>
          gx_rt ()) fun _ =>
      gx_bd (gx_ia (18 :: x0) v1) fun v9 =>
      gx_bd (gx_ia (17 :: x0) v1) fun v10 =>
      gx_bd (
        if (v9 + 1) ≤ v10 then
          gx_rt ()
        else
          gx_bd (gx_ia (18 :: x0) v1) fun v11 =>
          gx_bd (gx_is (17 :: x0) v1 (v11 + 1)) fun _ =>
          gx_rt ()) fun _ =>
      gx_bd (f_X13_lookForCommit x0) fun _ =>
      gx_bd (gx_gi x1 4) fun v12 =>
      gx_bd (gx_ia (17 :: x0) v1) fun v13 =>
      if v12 < (v13 - 1) then
        gx_rt ()
      else
        gx_bd (gx_ia (17 :: x0) v1) fun v14 =>
        gx_bd (f_X15_last (5 :: x0)) fun v15 =>
        if v15 < v14 then
          gx_rt ()
        else
          gx_bd (f_X13_tell x0 v1) fun _ =>
          gx_rt ()
    else
      gx_bd (gx_ia (18 :: x0) v1) fun v16 =>
      gx_bd (gx_gi x1 4) fun v17 =>
      gx_bd (
        if v16 ≤ v17 then
          gx_bd (gx_gi x1 4) fun v18 =>
          gx_rt ((v18 + 1) : Int32)
        else
          gx_bd (gx_ia (18 :: x0) v1) fun v19 =>
          gx_rt ((v19 + 1) : Int32)) fun j20 =>
      gx_bd (gx_is (17 :: x0) v1 j20) fun _ =>
      gx_bd (f_X13_tell x0 v1) fun _ =>
      gx_rt ()) fun _ =>
  gx_bd (f_X13_lookAtReads x0) fun _ =>
  gx_rt ()
noncomputable def f_X13_receive (x0 : gx_Nm) (x1 : gx_Nm) : gx_M (Unit) :=
  gx_bd (gx_gi x1 3) fun v1 =>
  gx_bd (gx_gi x0 3) fun v2 =>
  gx_bd (
    if v1 ≤ v2 then
      gx_rt ()
    else
      gx_bd (gx_gi x1 3) fun v3 =>
      gx_bd (f_X13_setTerm x0 v3 (-1)) fun _ =>
      gx_bd (f_X13_follow x0 (-1)) fun _ =>
      gx_rt ()) fun _ =>
  gx_bd (gx_gi x1 0) fun v4 =>
  if v4 = 1 then
    gx_bd (f_X13_asked x0 x1) fun _ =>
    gx_rt ()
  else
  if v4 = 2 then
    gx_bd (gx_gi x0 8) fun v5 =>
    if v5 = 1 then
      gx_bd (gx_gi x1 3) fun v6 =>
      gx_bd (gx_gi x0 3) fun v7 =>
      if v6 = v7 then
        gx_bd (gx_gi x1 5) fun v8 =>
        if v8 = 0 then
          gx_rt ()
        else
          gx_bd (gx_gi x0 15) fun v9 =>
          gx_bd (gx_gi x1 1) fun v10 =>
          gx_bd (gx_pi x0 15 (v9 ||| (1 <<< (v10 &&& 31)))) fun _ =>
          gx_bd (gx_gi x0 15) fun v11 =>
          gx_bd (f_X13_isMajority x0 v11) fun v12 =>
          gx_bd (
            if v12 = 0 then
              gx_rt ()
            else
              gx_bd (f_X13_lead x0) fun _ =>
              gx_rt ()) fun _ =>
          gx_rt ()
      else
        gx_rt ()
    else
      gx_rt ()
  else
  if v4 = 3 then
    gx_bd (f_X13_leads x0 x1) fun v13 =>
    gx_bd (
      if v13 = 0 then
        gx_rt ()
      else
        gx_bd (f_X13_append x0 x1) fun _ =>
        gx_rt ()) fun _ =>
    gx_rt ()
  else
  if v4 = 5 then
    gx_bd (f_X13_leads x0 x1) fun v14 =>
    gx_bd (
      if v14 = 0 then
        gx_rt ()
      else
        gx_bd (f_X13_takeState x0 x1) fun _ =>
        gx_rt ()) fun _ =>
    gx_rt ()
  else
  gx_bd (gx_gi x0 8) fun v15 =>
  gx_bd (
    if v15 = 2 then
      gx_bd (gx_gi x1 3) fun v16 =>
      gx_bd (gx_gi x0 3) fun v17 =>
      if v16 = v17 then
        gx_bd (f_X13_taken x0 x1) fun _ =>
        gx_rt ()
      else
        gx_rt ()
    else
      gx_rt ()) fun _ =>
  gx_rt ()
noncomputable def f_X1_deliver (x0 : gx_Nm) (x1 : Int32) (x2 : Int32) : gx_M (Unit ⊕ Nat) :=
  gx_bd (gx_gi (0 :: 3 :: 0 :: x0) 1) fun v1 =>
  gx_bd (f_X1_in x1 0 (v1 - 1)) fun v2 =>
  gx_bx (f_X1_there v2) fun _ =>
  gx_bd (f_X11_get (0 :: 3 :: 0 :: x0) x1) fun v3 =>
  gx_bd (gx_gi v3 2) fun v4 =>
  gx_bd (gx_ra (1 :: x0) v4) fun v5 =>
  gx_bd (gx_gi v5 7) fun v6 =>
  gx_bd (
    if v6 = 0 then
      gx_bd (f_X13_wouldLead v5 v3) fun v7 =>
      if v7 = 0 then
        gx_rt (1 : Int32)
      else
        gx_bd (f_X3_fits (0 :: 0 :: x0) 1 0) fun v8 =>
        if v8 = 0 then
          gx_rt (0 : Int32)
        else
          gx_rt (1 : Int32)
    else
      gx_rt (1 : Int32)) fun j9 =>
  gx_bx (f_X1_room j9) fun _ =>
  gx_bd (
    if x2 = 0 then
      gx_bd (f_X11_remove (0 :: 3 :: 0 :: x0) x1) fun v10 =>
      gx_rt ()
    else
      gx_rt ()) fun _ =>
  gx_bd (gx_gi v5 7) fun v11 =>
  gx_bd (
    if v11 = 0 then
      gx_bd (f_X13_receive v5 v3) fun _ =>
      gx_rt ()
    else
      gx_rt ()) fun _ =>
  gx_bd (
    if x2 = 0 then
      gx_bd (f_X10_leave (3 :: 0 :: x0) v3) fun _ =>
      gx_rt ()
    else
      gx_rt ()) fun _ =>
  gx_rt (.inl ())
noncomputable def f_X1_lose (x0 : gx_Nm) (x1 : Int32) : gx_M (Unit ⊕ Nat) :=
  gx_bd (gx_gi (0 :: 3 :: 0 :: x0) 1) fun v1 =>
  gx_bd (f_X1_in x1 0 (v1 - 1)) fun v2 =>
  gx_bx (f_X1_there v2) fun _ =>
  gx_bd (f_X11_remove (0 :: 3 :: 0 :: x0) x1) fun v3 =>
  gx_bd (f_X10_leave (3 :: 0 :: x0) v3) fun _ =>
  gx_rt (.inl ())
noncomputable def f_X13_snapshot (x0 : gx_Nm) : gx_M (Unit) :=
  gx_bd (gx_gi x0 10) fun v1 =>
  gx_bd (f_X15_term (5 :: x0) v1) fun v2 =>
  gx_bd (gx_gi x0 10) fun v3 =>
  gx_bd (gx_gi x0 11) fun v4 =>
  gx_bd (f_X15_snapshot (5 :: x0) v3 v2 v4) fun _ =>
  gx_bd (gx_gi x0 10) fun v5 =>
  gx_bd (gx_gi x0 11) fun v6 =>
  gx_bd (f_X14_writeSnapshot (2 :: x0) v5 v2 v6) fun _ =>
  gx_rt ()
noncomputable def f_X1_snapshot (x0 : gx_Nm) (x1 : Int32) : gx_M (Int32 ⊕ Nat) :=
  gx_bx (f_X1_up x0 x1) fun v1 =>
  gx_bd (gx_gi v1 10) fun v2 =>
  gx_bd (gx_gi (5 :: v1) 1) fun v3 =>
  gx_bd (
    if v2 ≤ v3 then
      gx_rt (0 : Int32)
    else
      gx_rt (1 : Int32)) fun j4 =>
  gx_bx (f_X1_allowed j4) fun _ =>
  gx_bd (f_X13_snapshot v1) fun _ =>
  gx_bd (gx_gi (5 :: v1) 1) fun v5 =>
  gx_rt (.inl v5)
noncomputable def f_X13_mayRead (x0 : gx_Nm) : gx_M (Int32) :=
  gx_bd (gx_gi x0 8) fun v1 =>
  gx_bd (
    if v1 = 2 then
      gx_bd (gx_gi x0 10) fun v2 =>
      gx_bd (f_X15_term (5 :: x0) v2) fun v3 =>
      gx_bd (gx_gi x0 3) fun v4 =>
      if v3 = v4 then
        gx_rt (1 : Int32)
      else
        gx_rt (0 : Int32)
    else
      gx_rt (0 : Int32)) fun j5 =>
  gx_rt j5
noncomputable def f_X13_readsWaiting (x0 : gx_Nm) : gx_M (Int32) :=
  gx_bd (gx_gi x0 21) fun v1 =>
  gx_bd (gx_gi x0 22) fun v2 =>
  gx_rt (v1 - v2)
noncomputable def f_X13_readsFit (x0 : gx_Nm) : gx_M (Int32) :=
  gx_bd (f_X13_readsWaiting x0) fun v1 =>
  gx_bd (
    if 16 ≤ v1 then
      gx_rt (0 : Int32)
    else
      gx_rt (1 : Int32)) fun j2 =>
  gx_rt j2
noncomputable def f_X18_init (x0 : gx_Nm) : gx_M (Unit) :=
  gx_bd (gx_na 100 4 (5 :: x0)) fun _ =>
  gx_bd (gx_pr x0 5 (5 :: x0)) fun _ =>
  gx_rt ()
noncomputable def lb_X13_read_1 (x0 : gx_Nm) (v4 : Int32) (s5 : Int32) : gx_M ((Int32) ⊕ (Unit)) :=
  gx_bd (gx_gi x0 21) fun v6 =>
  if v6 ≤ s5 then
    gx_rt (.inr ())
  else
    gx_bd (gx_gr x0 20) fun v7 =>
    gx_bd (gx_ra v7 s5) fun v8 =>
    gx_bd (gx_rs ((2 * v4).toNatClampNeg :: 20 :: x0) s5 v8) fun _ =>
    gx_rt (.inl ((s5 + 1) : Int32))
noncomputable def f_X13_read (x0 : gx_Nm) (x1 : Int32) (x2 : Int32) : gx_M (Int32) :=
  gx_bd (gx_gi x0 21) fun v1 =>
  gx_bd (gx_gr x0 20) fun v2 =>
  gx_bd (gx_al v2) fun v3 =>
  gx_bd (
    if v1 = v3 then
      gx_bd (gx_gi x0 21) fun v4 =>
      gx_bd (gx_na 109 (2 * v4) ((2 * v4).toNatClampNeg :: 20 :: x0)) fun _ =>
      gx_bd (gx_lp (lb_X13_read_1 x0 v4) (0 : Int32)) fun _ =>
      gx_bd (gx_pr x0 20 ((2 * v4).toNatClampNeg :: 20 :: x0)) fun _ =>
      gx_rt ()
    else
      gx_rt ()) fun _ =>
  gx_bd (gx_gr x0 20) fun v9 =>
  gx_bd (gx_gi x0 21) fun v10 =>
  gx_bd (gx_ro v9 v10) fun v11 =>
  gx_bd (
    if v11 = none then
      gx_bd (gx_gr x0 20) fun v12 =>
      gx_bd (gx_gi x0 21) fun v13 =>
      gx_bd (gx_gi x0 21) fun v14 =>
      gx_bd (gx_nw 48 6 (v14.toNatClampNeg :: 90 :: x0)) fun _ =>
      gx_bd (f_X18_init (v14.toNatClampNeg :: 90 :: x0)) fun _ =>
      gx_bd (gx_fu (v14.toNatClampNeg :: 90 :: x0) [(5, (5 :: v14.toNatClampNeg :: 90 :: x0))]) fun _ =>
      gx_bd (gx_rs v12 v13 (v14.toNatClampNeg :: 90 :: x0)) fun _ =>
      gx_rt ()
    else
      gx_rt ()) fun _ =>
  gx_bd (gx_gi x0 16) fun v15 =>
  gx_bd (gx_pi x0 16 (v15 + 1)) fun _ =>
  gx_bd (gx_gi x0 1) fun v16 =>
  gx_bd (gx_gi x0 16) fun v17 =>
  gx_bd (gx_is (19 :: x0) v16 v17) fun _ =>
  gx_bd (gx_gr x0 20) fun v18 =>
  gx_bd (gx_gi x0 21) fun v19 =>
  gx_bd (gx_ra v18 v19) fun v20 =>
  gx_bd (gx_gi x0 21) fun v21 =>
  gx_bd (gx_pi x0 21 (v21 + 1)) fun _ =>
  gx_bd (gx_pi v20 0 x1) fun _ =>
  gx_bd (gx_pi v20 1 x2) fun _ =>
  gx_bd (gx_gi [0, 1] 6) fun v22 =>
  gx_bd (gx_pi v20 2 v22) fun _ =>
  gx_bd (gx_gi x0 16) fun v23 =>
  gx_bd (gx_pi v20 3 v23) fun _ =>
  gx_bd (gx_pi v20 4 (0 &&& 1)) fun _ =>
  gx_bd (f_X13_tellAll x0) fun _ =>
  gx_bd (f_X13_lookAtReads x0) fun _ =>
  gx_bd (gx_gi x0 21) fun v24 =>
  gx_rt (v24 - 1)
noncomputable def f_X1_read (x0 : gx_Nm) (x1 : Int32) : gx_M (Int32 ⊕ Nat) :=
  gx_bx (f_X1_take x0 1) fun _ =>
  gx_bx (f_X1_up x0 x1) fun v1 =>
  gx_bd (f_X13_mayRead v1) fun v2 =>
  gx_bx (f_X1_allowed v2) fun _ =>
  gx_bd (f_X13_readsFit v1) fun v3 =>
  gx_bx (f_X1_room v3) fun _ =>
  gx_bd (gx_gi (0 :: 0 :: 0 :: x0) 1) fun v4 =>
  gx_bd (gx_gr x0 4) fun v5 =>
  gx_bd (gx_gr x0 4) fun v6 =>
  gx_bd (gx_gi v6 1) fun v7 =>
  gx_bd (f_X4_addAll (0 :: 0 :: 0 :: x0) v5 0 v7) fun _ =>
  gx_bd (gx_gi (0 :: 0 :: 0 :: x0) 1) fun v8 =>
  gx_bd (f_X13_read v1 v4 v8) fun v9 =>
  gx_rt (.inl v9)
noncomputable def f_X13_isDone (x0 : gx_Nm) (x1 : Int32) : gx_M (Int32) :=
  gx_bd (
    if x1 < 0 then
      gx_rt (0 : Int32)
    else
      gx_bd (gx_gi x0 21) fun v1 =>
      if v1 ≤ x1 then
        gx_rt (0 : Int32)
      else
        gx_bd (gx_gr x0 20) fun v2 =>
        gx_bd (gx_ra v2 x1) fun v3 =>
        gx_bd (gx_gi v3 4) fun v4 =>
        if v4 = 0 then
          gx_rt (0 : Int32)
        else
          gx_rt (1 : Int32)) fun j5 =>
  gx_rt j5
noncomputable def f_X13_answer_2 (x0 : gx_Nm) (x1 : Int32) (x2 : Int32) : gx_M (Int32) :=
  gx_bd (gx_gr x0 20) fun v1 =>
  gx_bd (gx_ra v1 x1) fun v2 =>
  gx_bd (gx_ia (5 :: v2) x2) fun v3 =>
  gx_rt v3
noncomputable def f_X1_answer (x0 : gx_Nm) (x1 : Int32) (x2 : Int32) (x3 : Int32) : gx_M (Int32 ⊕ Nat) :=
  gx_bd (f_X1_in x3 0 3) fun v1 =>
  gx_bx (f_X1_good v1) fun _ =>
  gx_bx (f_X1_up x0 x1) fun v2 =>
  gx_bd (f_X13_isDone v2 x2) fun v3 =>
  gx_bx (f_X1_there v3) fun _ =>
  gx_bd (f_X13_answer_2 v2 x2 x3) fun v4 =>
  gx_rt (.inl v4)
noncomputable def f_X13_compacted (x0 : gx_Nm) : gx_M (Int32) :=
  gx_bd (gx_gi x0 14) fun v1 =>
  gx_rt v1
noncomputable def lb_X7_at_1 (x0 : gx_Nm) (x2 : Int32) (s1 : Int32) : gx_M ((Int32) ⊕ (Int32)) :=
  gx_bd (f_X5_get (3 :: x0) s1) fun v2 =>
  if v2 ≤ x2 then
    gx_rt (.inr (s1 : Int32))
  else
    gx_bd (f_X5_get (1 :: x0) s1) fun v3 =>
    gx_rt (.inl (v3 : Int32))
noncomputable def f_X7_at (x0 : gx_Nm) (x1 : Int32) (x2 : Int32) : gx_M (Int32) :=
  gx_bd (gx_lp (lb_X7_at_1 x0 x2) (x1 : Int32)) fun j4 =>
  gx_rt j4
noncomputable def f_X1_stateAt (x0 : gx_Nm) (x1 : gx_Nm) (x2 : Int32) : gx_M (Int32 ⊕ Nat) :=
  gx_bd (gx_gi x1 11) fun v1 =>
  gx_bd (f_X7_revision (2 :: 0 :: x0) v1) fun v2 =>
  gx_bd (
    if v2 < x2 then
      gx_rt (0 : Int32)
    else
      if x2 = 0 then
        gx_rt (1 : Int32)
      else
        gx_bd (f_X13_compacted x1) fun v3 =>
        if x2 < v3 then
          gx_rt (0 : Int32)
        else
          gx_rt (1 : Int32)) fun j4 =>
  gx_bx (f_X1_allowed j4) fun _ =>
  gx_bd (
    if x2 = 0 then
      gx_bd (gx_gi x1 11) fun v5 =>
      gx_rt (v5 : Int32)
    else
      gx_bd (gx_gi x1 11) fun v6 =>
      gx_bd (f_X7_at (2 :: 0 :: x0) v6 x2) fun v7 =>
      gx_rt (v7 : Int32)) fun j8 =>
  gx_rt (.inl j8)
noncomputable def f_X1_pair (x0 : gx_Nm) (x1 : Int32) (x2 : Int32) (x3 : Int32) : gx_M (Int32 ⊕ Nat) :=
  gx_bx (f_X1_take x0 1) fun _ =>
  gx_bd (f_X1_in x3 0 5) fun v1 =>
  gx_bd (
    if v1 = 0 then
      gx_rt (0 : Int32)
    else
      if x2 < 0 then
        gx_rt (0 : Int32)
      else
        gx_rt (1 : Int32)) fun j2 =>
  gx_bx (f_X1_good j2) fun _ =>
  gx_bx (f_X1_up x0 x1) fun v3 =>
  gx_bx (f_X1_stateAt x0 v3 x2) fun v4 =>
  gx_bd (gx_gi (0 :: 0 :: 0 :: x0) 1) fun v5 =>
  gx_bd (gx_gr x0 4) fun v6 =>
  gx_bd (gx_gr x0 4) fun v7 =>
  gx_bd (gx_gi v7 1) fun v8 =>
  gx_bd (f_X4_addAll (0 :: 0 :: 0 :: x0) v6 0 v8) fun _ =>
  gx_bd (gx_gi (0 :: 0 :: 0 :: x0) 1) fun v9 =>
  gx_bd (f_X7_find (2 :: 0 :: x0) v4 v5 v9) fun v10 =>
  gx_bd (gx_pi (0 :: 0 :: 0 :: x0) 1 v5) fun _ =>
  if v10 = none then
    gx_rt (.inl 0)
  else
    if x3 = 0 then
      gx_rt (.inl 1)
    else
    if x3 = 1 then
      gx_bd (gx_nn v10) fun v11 =>
      gx_bd (gx_gi v11 5) fun v12 =>
      gx_rt (.inl v12)
    else
    if x3 = 2 then
      gx_bd (gx_nn v10) fun v13 =>
      gx_bd (gx_gi v13 6) fun v14 =>
      gx_rt (.inl v14)
    else
    if x3 = 3 then
      gx_bd (gx_nn v10) fun v15 =>
      gx_bd (gx_gi v15 7) fun v16 =>
      gx_rt (.inl v16)
    else
    if x3 = 4 then
      gx_bd (gx_nn v10) fun v17 =>
      gx_bd (gx_gi v17 8) fun v18 =>
      gx_rt (.inl v18)
    else
    gx_bd (gx_nn v10) fun v19 =>
    gx_bd (gx_gi v19 4) fun v20 =>
    gx_bd (gx_nn v10) fun v21 =>
    gx_bd (gx_gi v21 3) fun v22 =>
    gx_rt (.inl (v20 - v22))
noncomputable def f_X1_letter (x0 : gx_Nm) (x1 : Int32) (x2 : Int32) (x3 : Int32) : gx_M (Int32 ⊕ Nat) :=
  gx_bd (f_X1_in x3 0 ((x2 - x1) - 1)) fun v1 =>
  gx_bx (f_X1_there v1) fun _ =>
  gx_bd (f_X4_get (0 :: 0 :: 0 :: x0) (x1 + x3)) fun v2 =>
  gx_rt (.inl v2)
noncomputable def f_X1_range (x0 : gx_Nm) (x1 : Int32) (x2 : Int32) (x3 : Int32) (x4 : Int32) (x5 : Int32) : gx_M (Int32 ⊕ Nat) :=
  gx_bx (f_X1_take x0 2) fun _ =>
  gx_bd (f_X1_in x3 0 3) fun v1 =>
  gx_bd (
    if v1 = 0 then
      gx_rt (0 : Int32)
    else
      if x2 < 0 then
        gx_rt (0 : Int32)
      else
        gx_rt (1 : Int32)) fun j2 =>
  gx_bx (f_X1_good j2) fun _ =>
  gx_bx (f_X1_up x0 x1) fun v3 =>
  gx_bx (f_X1_stateAt x0 v3 x2) fun v4 =>
  gx_bd (gx_gi (0 :: 0 :: 0 :: x0) 1) fun v5 =>
  gx_bd (gx_gr x0 4) fun v6 =>
  gx_bd (gx_gr x0 4) fun v7 =>
  gx_bd (gx_gi v7 1) fun v8 =>
  gx_bd (f_X4_addAll (0 :: 0 :: 0 :: x0) v6 0 v8) fun _ =>
  gx_bd (gx_gi (0 :: 0 :: 0 :: x0) 1) fun v9 =>
  gx_bd (gx_gr x0 5) fun v10 =>
  gx_bd (gx_gr x0 5) fun v11 =>
  gx_bd (gx_gi v11 1) fun v12 =>
  gx_bd (f_X4_addAll (0 :: 0 :: 0 :: x0) v10 0 v12) fun _ =>
  gx_bd (gx_gi (0 :: 0 :: 0 :: x0) 1) fun v13 =>
  gx_bd (f_X7_range (2 :: 0 :: x0) v4 v5 v9 v9 v13 (7 :: x0)) fun _ =>
  gx_bd (gx_pi (0 :: 0 :: 0 :: x0) 1 v5) fun _ =>
  if x3 = 0 then
    gx_bd (gx_gi (7 :: x0) 1) fun v14 =>
    gx_rt (.inl v14)
  else
    gx_bd (gx_gi (7 :: x0) 1) fun v15 =>
    gx_bd (f_X1_in x4 0 (v15 - 1)) fun v16 =>
    gx_bx (f_X1_there v16) fun _ =>
    gx_bd (f_X8_get (7 :: x0) x4) fun v17 =>
    if x3 = 1 then
      gx_bd (gx_gi v17 1) fun v18 =>
      gx_bd (gx_gi v17 0) fun v19 =>
      gx_rt (.inl (v18 - v19))
    else
      if x3 = 2 then
        gx_bd (gx_gi v17 0) fun v20 =>
        gx_bd (gx_gi v17 1) fun v21 =>
        gx_bx (f_X1_letter x0 v20 v21 x5) fun v22 =>
        gx_rt (.inl v22)
      else
        gx_bd (gx_gi v17 3) fun v23 =>
        gx_bd (gx_gi v17 4) fun v24 =>
        gx_bx (f_X1_letter x0 v23 v24 x5) fun v25 =>
        gx_rt (.inl v25)
noncomputable def lb_X7_maker_1 (x0 : gx_Nm) (x2 : Int32) (s2 : Int32) : gx_M ((Int32) ⊕ (Int32)) :=
  if s2 ≤ 0 then
    gx_rt (.inr (s2 : Int32))
  else
    gx_bd (f_X5_get (1 :: x0) s2) fun v3 =>
    gx_bd (f_X5_get (3 :: x0) v3) fun v4 =>
    if v4 = x2 then
      gx_bd (f_X5_get (1 :: x0) s2) fun v5 =>
      gx_rt (.inl (v5 : Int32))
    else
      gx_rt (.inr (s2 : Int32))
noncomputable def f_X7_maker (x0 : gx_Nm) (x1 : Int32) (x2 : Int32) : gx_M (Int32) :=
  gx_bd (f_X7_at x0 x1 x2) fun v1 =>
  gx_bd (gx_lp (lb_X7_maker_1 x0 x2) (v1 : Int32)) fun j6 =>
  gx_rt j6
noncomputable def f_X7_changes (x0 : gx_Nm) (x1 : Int32) : gx_M (Int32) :=
  gx_bd (f_X5_get (8 :: x0) x1) fun v1 =>
  gx_bd (f_X7_changeFrom x0 x1) fun v2 =>
  gx_rt (v1 - v2)
noncomputable def f_X7_change (x0 : gx_Nm) (x1 : Int32) (x2 : Int32) : gx_M (gx_Nm) :=
  gx_bd (f_X7_changeFrom x0 x1) fun v1 =>
  gx_bd (f_X8_get (9 :: x0) (v1 + x2)) fun v2 =>
  gx_rt v2
noncomputable def f_X1_event (x0 : gx_Nm) (x1 : Int32) (x2 : Int32) (x3 : Int32) (x4 : Int32) (x5 : Int32) : gx_M (Int32 ⊕ Nat) :=
  gx_bd (f_X1_in x3 0 3) fun v1 =>
  gx_bx (f_X1_good v1) fun _ =>
  gx_bx (f_X1_up x0 x1) fun v2 =>
  gx_bd (gx_gi v2 11) fun v3 =>
  gx_bd (f_X7_revision (2 :: 0 :: x0) v3) fun v4 =>
  gx_bd (f_X1_in x2 1 v4) fun v5 =>
  gx_bx (f_X1_there v5) fun _ =>
  gx_bd (f_X13_compacted v2) fun v6 =>
  gx_bd (
    if x2 < v6 then
      gx_rt (0 : Int32)
    else
      gx_rt (1 : Int32)) fun j7 =>
  gx_bx (f_X1_allowed j7) fun _ =>
  gx_bd (gx_gi v2 11) fun v8 =>
  gx_bd (f_X7_maker (2 :: 0 :: x0) v8 x2) fun v9 =>
  if x3 = 0 then
    gx_bd (f_X7_changes (2 :: 0 :: x0) v9) fun v10 =>
    gx_rt (.inl v10)
  else
    gx_bd (f_X7_changes (2 :: 0 :: x0) v9) fun v11 =>
    gx_bd (f_X1_in x4 0 (v11 - 1)) fun v12 =>
    gx_bx (f_X1_there v12) fun _ =>
    gx_bd (f_X7_change (2 :: 0 :: x0) v9 x4) fun v13 =>
    if x3 = 1 then
      gx_bd (gx_gi v13 2) fun v14 =>
      gx_bd (
        if v14 = 0 then
          gx_rt (1 : Int32)
        else
          gx_rt (0 : Int32)) fun j15 =>
      gx_rt (.inl j15)
    else
      if x3 = 2 then
        gx_bd (gx_gi v13 1) fun v16 =>
        gx_bd (gx_gi v13 0) fun v17 =>
        gx_rt (.inl (v16 - v17))
      else
        gx_bd (gx_gi v13 0) fun v18 =>
        gx_bd (gx_gi v13 1) fun v19 =>
        gx_bx (f_X1_letter x0 v18 v19 x5) fun v20 =>
        gx_rt (.inl v20)
noncomputable def f_X13_compact (x0 : gx_Nm) (x1 : Int32) : gx_M (Unit) :=
  gx_bd (gx_pi x0 14 x1) fun _ =>
  gx_rt ()
noncomputable def f_X1_compact (x0 : gx_Nm) (x1 : Int32) (x2 : Int32) : gx_M (Unit ⊕ Nat) :=
  gx_bx (f_X1_up x0 x1) fun v1 =>
  gx_bd (f_X13_compacted v1) fun v2 =>
  gx_bd (
    if x2 < v2 then
      gx_rt (0 : Int32)
    else
      gx_bd (gx_gi v1 11) fun v3 =>
      gx_bd (f_X7_revision (2 :: 0 :: x0) v3) fun v4 =>
      if v4 < x2 then
        gx_rt (0 : Int32)
      else
        gx_rt (1 : Int32)) fun j5 =>
  gx_bx (f_X1_allowed j5) fun _ =>
  gx_bd (f_X13_compact v1 x2) fun _ =>
  gx_rt (.inl ())
noncomputable def f_X13_stateAt (x0 : gx_Nm) (x1 : Int32) : gx_M (Int32) :=
  gx_bd (gx_gi x0 13) fun v1 =>
  gx_bd (
    if x1 ≤ v1 then
      gx_rt ((-1) : Int32)
    else
      gx_bd (gx_gi x0 10) fun v2 =>
      if v2 < x1 then
        gx_rt ((-1) : Int32)
      else
        gx_bd (gx_gi x0 13) fun v3 =>
        gx_bd (f_X5_get (12 :: x0) ((x1 - v3) - 1)) fun v4 =>
        gx_rt (v4 : Int32)) fun j5 =>
  gx_rt j5
noncomputable def f_X7_outcome (x0 : gx_Nm) (x1 : Int32) : gx_M (Int32) :=
  gx_bd (f_X5_get (4 :: x0) x1) fun v1 =>
  gx_rt v1
noncomputable def f_X7_deleted (x0 : gx_Nm) (x1 : Int32) : gx_M (Int32) :=
  gx_bd (f_X5_get (5 :: x0) x1) fun v1 =>
  gx_rt v1
noncomputable def f_X1_outcome (x0 : gx_Nm) (x1 : Int32) (x2 : Int32) (x3 : Int32) : gx_M (Int32 ⊕ Nat) :=
  gx_bd (f_X1_in x3 0 2) fun v1 =>
  gx_bx (f_X1_good v1) fun _ =>
  gx_bx (f_X1_up x0 x1) fun v2 =>
  gx_bd (f_X13_stateAt v2 x2) fun v3 =>
  gx_bd (
    if v3 < 0 then
      gx_rt (0 : Int32)
    else
      gx_rt (1 : Int32)) fun j4 =>
  gx_bx (f_X1_there j4) fun _ =>
  gx_bd (
    if x3 = 0 then
      gx_bd (f_X7_outcome (2 :: 0 :: x0) v3) fun v5 =>
      gx_rt (v5 : Int32)
    else
      if x3 = 1 then
        gx_bd (f_X7_revision (2 :: 0 :: x0) v3) fun v6 =>
        gx_rt (v6 : Int32)
      else
        gx_bd (f_X7_deleted (2 :: 0 :: x0) v3) fun v7 =>
        gx_rt (v7 : Int32)) fun j8 =>
  gx_rt (.inl j8)
noncomputable def f_X1_message (x0 : gx_Nm) (x1 : Int32) (x2 : Int32) : gx_M (Int32 ⊕ Nat) :=
  gx_bd (f_X1_in x2 0 8) fun v1 =>
  gx_bx (f_X1_good v1) fun _ =>
  gx_bd (gx_gi (0 :: 3 :: 0 :: x0) 1) fun v2 =>
  gx_bd (f_X1_in x1 0 (v2 - 1)) fun v3 =>
  gx_bx (f_X1_there v3) fun _ =>
  gx_bd (f_X11_get (0 :: 3 :: 0 :: x0) x1) fun v4 =>
  if x2 = 0 then
    gx_bd (gx_gi v4 0) fun v5 =>
    gx_rt (.inl v5)
  else
  if x2 = 1 then
    gx_bd (gx_gi v4 1) fun v6 =>
    gx_rt (.inl v6)
  else
  if x2 = 2 then
    gx_bd (gx_gi v4 2) fun v7 =>
    gx_rt (.inl v7)
  else
  if x2 = 3 then
    gx_bd (gx_gi v4 3) fun v8 =>
    gx_rt (.inl v8)
  else
  if x2 = 4 then
    gx_bd (gx_gi v4 4) fun v9 =>
    gx_rt (.inl v9)
  else
  if x2 = 5 then
    gx_bd (gx_gi v4 5) fun v10 =>
    gx_rt (.inl v10)
  else
  if x2 = 6 then
    gx_bd (gx_gi v4 9) fun v11 =>
    gx_rt (.inl v11)
  else
  if x2 = 7 then
    gx_bd (gx_gi v4 7) fun v12 =>
    gx_rt (.inl v12)
  else
  gx_bd (gx_gi v4 6) fun v13 =>
  gx_rt (.inl v13)
noncomputable def f_X13_waiting (x0 : gx_Nm) : gx_M (Int32) :=
  gx_bd (gx_gi (6 :: x0) 1) fun v1 =>
  gx_rt v1
noncomputable def f_X7_count (x0 : gx_Nm) (x1 : Int32) : gx_M (Int32) :=
  gx_bd (f_X5_get (6 :: x0) x1) fun v1 =>
  gx_rt v1
noncomputable def lb_X7_leases_1 (s3 : Int32 × Int32) : gx_M ((Int32 × Int32) ⊕ (Int32)) :=
  if s3.2 = 0 then
    gx_rt (.inr (s3.1 : Int32))
  else
    gx_rt (.inl (((s3.1 + 1) : Int32), ((s3.2 &&& (s3.2 - 1)) : Int32)))
noncomputable def lb_X7_leases_2 (x0 : gx_Nm) (x1 : Int32) (s1 : Int32 × Int32) : gx_M ((Int32 × Int32) ⊕ (Int32)) :=
  if 4 ≤ s1.2 then
    gx_rt (.inr (s1.1 : Int32))
  else
    gx_bd (f_X5_get (7 :: x0) ((4 * x1) + s1.2)) fun v2 =>
    gx_bd (gx_lp lb_X7_leases_1 ((s1.1 : Int32), (v2 : Int32))) fun j4 =>
    gx_rt (.inl ((j4 : Int32), ((s1.2 + 1) : Int32)))
noncomputable def f_X7_leases (x0 : gx_Nm) (x1 : Int32) : gx_M (Int32) :=
  gx_bd (gx_lp (lb_X7_leases_2 x0 x1) ((0 : Int32), (0 : Int32))) fun j5 =>
  gx_rt j5
noncomputable def f_X1_more (x0 : gx_Nm) (x1 : gx_Nm) (x2 : Int32) : gx_M (Int32) :=
  if x2 = 3 then
    gx_bd (gx_gi x1 8) fun v1 =>
    gx_rt v1
  else
  if x2 = 6 then
    gx_bd (gx_gi x1 10) fun v2 =>
    gx_rt v2
  else
  if x2 = 8 then
    gx_bd (gx_gi x1 11) fun v3 =>
    gx_bd (f_X7_revision (2 :: 0 :: x0) v3) fun v4 =>
    gx_rt v4
  else
  if x2 = 9 then
    gx_bd (f_X13_waiting x1) fun v5 =>
    gx_rt v5
  else
  if x2 = 10 then
    gx_bd (f_X14_unsynced (2 :: x1)) fun v6 =>
    gx_rt v6
  else
  if x2 = 11 then
    gx_bd (gx_gi x1 11) fun v7 =>
    gx_bd (f_X7_count (2 :: 0 :: x0) v7) fun v8 =>
    gx_rt v8
  else
  if x2 = 12 then
    gx_bd (f_X13_readsWaiting x1) fun v9 =>
    gx_rt v9
  else
  gx_bd (gx_gi x1 11) fun v10 =>
  gx_bd (f_X7_leases (2 :: 0 :: x0) v10) fun v11 =>
  gx_rt v11
noncomputable def f_X1_told (x0 : gx_Nm) (x1 : Int32) (x2 : Int32) : gx_M (Int32 ⊕ Nat) :=
  gx_bd (f_X1_in x2 0 14) fun v1 =>
  gx_bx (f_X1_good v1) fun _ =>
  gx_bx (f_X1_node x0 x1) fun v2 =>
  gx_bd (gx_gi v2 7) fun v3 =>
  gx_bd (
    if v3 = 0 then
      gx_rt ((5 :: v2) : gx_Nm)
    else
      gx_rt ((2 :: 2 :: v2) : gx_Nm)) fun j4 =>
  if x2 = 0 then
    gx_bd (gx_gi v2 7) fun v5 =>
    gx_bd (
      if v5 = 0 then
        gx_rt (0 : Int32)
      else
        gx_rt (1 : Int32)) fun j6 =>
    gx_rt (.inl j6)
  else
  if x2 = 1 then
    gx_bd (gx_gi v2 7) fun v7 =>
    gx_bd (
      if v7 = 0 then
        gx_bd (gx_gi v2 3) fun v8 =>
        gx_rt (v8 : Int32)
      else
        gx_bd (gx_gi (2 :: v2) 0) fun v9 =>
        gx_rt (v9 : Int32)) fun j10 =>
    gx_rt (.inl j10)
  else
  if x2 = 2 then
    gx_bd (gx_gi v2 7) fun v11 =>
    gx_bd (
      if v11 = 0 then
        gx_bd (gx_gi v2 4) fun v12 =>
        gx_rt (v12 : Int32)
      else
        gx_bd (gx_gi (2 :: v2) 1) fun v13 =>
        gx_rt (v13 : Int32)) fun j14 =>
    gx_rt (.inl j14)
  else
  if x2 = 4 then
    gx_bd (gx_gi v2 7) fun v15 =>
    gx_bd (
      if v15 = 0 then
        gx_bd (gx_gi v2 9) fun v16 =>
        gx_rt (v16 : Int32)
      else
        gx_rt ((-1) : Int32)) fun j17 =>
    gx_rt (.inl j17)
  else
  if x2 = 5 then
    gx_bd (f_X15_last j4) fun v18 =>
    gx_rt (.inl v18)
  else
  if x2 = 7 then
    gx_bd (gx_gi j4 1) fun v19 =>
    gx_rt (.inl v19)
  else
  if x2 = 13 then
    gx_bd (f_X15_lastTerm j4) fun v20 =>
    gx_rt (.inl v20)
  else
  gx_bd (gx_gi v2 7) fun v21 =>
  gx_bd (
    if v21 = 0 then
      gx_bd (f_X1_more x0 v2 x2) fun v22 =>
      gx_rt (v22 : Int32)
    else
      gx_rt (0 : Int32)) fun j23 =>
  gx_rt (.inl j23)
