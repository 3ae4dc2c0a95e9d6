/-! ===== the methods as functions: the model (printed by gen/fprint.py) ===== -/
noncomputable def f_X16_init (x0 : gx_Nm) : gx_M (Unit) :=
  gx_bd (gx_na 101 2100 (1 :: x0)) fun _ =>
  gx_bd (gx_pr x0 1 (1 :: x0)) fun _ =>
  gx_bd (gx_na 101 2100 (2 :: x0)) fun _ =>
  gx_bd (gx_pr x0 2 (2 :: x0)) fun _ =>
  gx_bd (gx_na 101 2100 (3 :: x0)) fun _ =>
  gx_bd (gx_pr x0 3 (3 :: x0)) fun _ =>
  gx_bd (gx_na 100 1502 (8 :: x0)) fun _ =>
  gx_bd (gx_pr x0 8 (8 :: x0)) fun _ =>
  gx_bd (gx_na 100 1502 (9 :: x0)) fun _ =>
  gx_bd (gx_pr x0 9 (9 :: x0)) fun _ =>
  gx_bd (gx_na 100 1502 (10 :: x0)) fun _ =>
  gx_bd (gx_pr x0 10 (10 :: x0)) fun _ =>
  gx_bd (gx_na 100 1502 (11 :: x0)) fun _ =>
  gx_bd (gx_pr x0 11 (11 :: x0)) fun _ =>
  gx_bd (gx_na 100 24032 (12 :: x0)) fun _ =>
  gx_bd (gx_pr x0 12 (12 :: x0)) fun _ =>
  gx_bd (gx_na 100 24032 (13 :: x0)) fun _ =>
  gx_bd (gx_pr x0 13 (13 :: x0)) fun _ =>
  gx_bd (gx_na 100 24032 (14 :: x0)) fun _ =>
  gx_bd (gx_pr x0 14 (14 :: x0)) fun _ =>
  gx_bd (gx_na 100 24032 (15 :: x0)) fun _ =>
  gx_bd (gx_pr x0 15 (15 :: x0)) fun _ =>
  gx_bd (gx_na 100 24032 (16 :: x0)) fun _ =>
  gx_bd (gx_pr x0 16 (16 :: x0)) fun _ =>
  gx_bd (gx_na 100 24032 (17 :: x0)) fun _ =>
  gx_bd (gx_pr x0 17 (17 :: x0)) fun _ =>
  gx_bd (gx_na 100 24032 (18 :: x0)) fun _ =>
  gx_bd (gx_pr x0 18 (18 :: x0)) fun _ =>
  gx_bd (gx_na 101 44000 (19 :: x0)) fun _ =>
  gx_bd (gx_pr x0 19 (19 :: x0)) fun _ =>
  gx_bd (gx_na 101 4000 (23 :: x0)) fun _ =>
  gx_bd (gx_pr x0 23 (23 :: x0)) fun _ =>
  gx_bd (gx_na 100 24000 (24 :: x0)) fun _ =>
  gx_bd (gx_pr x0 24 (24 :: x0)) fun _ =>
  gx_bd (gx_na 100 24000 (25 :: x0)) fun _ =>
  gx_bd (gx_pr x0 25 (25 :: x0)) fun _ =>
  gx_bd (gx_na 100 24000 (26 :: x0)) fun _ =>
  gx_bd (gx_pr x0 26 (26 :: x0)) fun _ =>
  gx_bd (gx_pi x0 27 1) fun _ =>
  gx_bd (gx_na 100 1502 (28 :: x0)) fun _ =>
  gx_bd (gx_pr x0 28 (28 :: x0)) fun _ =>
  gx_bd (gx_na 102 7 (30 :: x0)) fun _ =>
  gx_bd (gx_pr x0 30 (30 :: x0)) fun _ =>
  gx_bd (gx_na 100 7 (31 :: x0)) fun _ =>
  gx_bd (gx_pr x0 31 (31 :: x0)) fun _ =>
  gx_bd (gx_na 100 7 (32 :: x0)) fun _ =>
  gx_bd (gx_pr x0 32 (32 :: x0)) fun _ =>
  gx_bd (gx_na 100 7 (33 :: x0)) fun _ =>
  gx_bd (gx_pr x0 33 (33 :: x0)) fun _ =>
  gx_bd (gx_na 100 7 (34 :: x0)) fun _ =>
  gx_bd (gx_pr x0 34 (34 :: x0)) fun _ =>
  gx_bd (gx_na 100 7 (35 :: x0)) fun _ =>
  gx_bd (gx_pr x0 35 (35 :: x0)) fun _ =>
  gx_bd (gx_na 100 7 (36 :: x0)) fun _ =>
  gx_bd (gx_pr x0 36 (36 :: x0)) fun _ =>
  gx_bd (gx_n2 105 100 7 1502 (37 :: x0)) fun _ =>
  gx_bd (gx_pr x0 37 (37 :: x0)) fun _ =>
  gx_bd (gx_na 100 7 (38 :: x0)) fun _ =>
  gx_bd (gx_pr x0 38 (38 :: x0)) fun _ =>
  gx_bd (gx_na 100 7 (39 :: x0)) fun _ =>
  gx_bd (gx_pr x0 39 (39 :: x0)) fun _ =>
  gx_bd (gx_na 100 7 (40 :: x0)) fun _ =>
  gx_bd (gx_pr x0 40 (40 :: x0)) fun _ =>
  gx_bd (gx_na 100 7 (41 :: x0)) fun _ =>
  gx_bd (gx_pr x0 41 (41 :: x0)) fun _ =>
  gx_bd (gx_na 100 7 (42 :: x0)) fun _ =>
  gx_bd (gx_pr x0 42 (42 :: x0)) fun _ =>
  gx_bd (gx_na 100 7 (43 :: x0)) fun _ =>
  gx_bd (gx_pr x0 43 (43 :: x0)) fun _ =>
  gx_bd (gx_n2 105 100 7 1502 (44 :: x0)) fun _ =>
  gx_bd (gx_pr x0 44 (44 :: x0)) fun _ =>
  gx_bd (gx_na 100 7 (45 :: x0)) fun _ =>
  gx_bd (gx_pr x0 45 (45 :: x0)) fun _ =>
  gx_bd (gx_na 100 7 (46 :: x0)) fun _ =>
  gx_bd (gx_pr x0 46 (46 :: x0)) fun _ =>
  gx_bd (gx_na 100 7 (47 :: x0)) fun _ =>
  gx_bd (gx_pr x0 47 (47 :: x0)) fun _ =>
  gx_bd (gx_na 100 7 (48 :: x0)) fun _ =>
  gx_bd (gx_pr x0 48 (48 :: x0)) fun _ =>
  gx_bd (gx_na 100 7 (49 :: x0)) fun _ =>
  gx_bd (gx_pr x0 49 (49 :: x0)) fun _ =>
  gx_bd (gx_na 100 7 (50 :: x0)) fun _ =>
  gx_bd (gx_pr x0 50 (50 :: x0)) fun _ =>
  gx_bd (gx_na 100 7 (51 :: x0)) fun _ =>
  gx_bd (gx_pr x0 51 (51 :: x0)) fun _ =>
  gx_bd (gx_na 100 7 (52 :: x0)) fun _ =>
  gx_bd (gx_pr x0 52 (52 :: x0)) fun _ =>
  gx_bd (gx_n2 105 100 7 7 (53 :: x0)) fun _ =>
  gx_bd (gx_pr x0 53 (53 :: x0)) fun _ =>
  gx_bd (gx_n2 105 100 7 7 (54 :: x0)) fun _ =>
  gx_bd (gx_pr x0 54 (54 :: x0)) fun _ =>
  gx_bd (gx_n2 105 100 7 7 (55 :: x0)) fun _ =>
  gx_bd (gx_pr x0 55 (55 :: x0)) fun _ =>
  gx_bd (gx_n2 106 102 7 7 (56 :: x0)) fun _ =>
  gx_bd (gx_pr x0 56 (56 :: x0)) fun _ =>
  gx_bd (gx_na 100 33000 (57 :: x0)) fun _ =>
  gx_bd (gx_pr x0 57 (57 :: x0)) fun _ =>
  gx_bd (gx_na 100 33000 (58 :: x0)) fun _ =>
  gx_bd (gx_pr x0 58 (58 :: x0)) fun _ =>
  gx_bd (gx_na 100 33000 (59 :: x0)) fun _ =>
  gx_bd (gx_pr x0 59 (59 :: x0)) fun _ =>
  gx_bd (gx_na 100 33000 (60 :: x0)) fun _ =>
  gx_bd (gx_pr x0 60 (60 :: x0)) fun _ =>
  gx_bd (gx_na 100 33000 (61 :: x0)) fun _ =>
  gx_bd (gx_pr x0 61 (61 :: x0)) fun _ =>
  gx_bd (gx_na 100 7 (63 :: x0)) fun _ =>
  gx_bd (gx_pr x0 63 (63 :: x0)) fun _ =>
  gx_bd (gx_na 100 33000 (64 :: x0)) fun _ =>
  gx_bd (gx_pr x0 64 (64 :: x0)) fun _ =>
  gx_bd (gx_na 100 33000 (65 :: x0)) fun _ =>
  gx_bd (gx_pr x0 65 (65 :: x0)) fun _ =>
  gx_bd (gx_na 100 33000 (66 :: x0)) fun _ =>
  gx_bd (gx_pr x0 66 (66 :: x0)) fun _ =>
  gx_bd (gx_na 100 33000 (67 :: x0)) fun _ =>
  gx_bd (gx_pr x0 67 (67 :: x0)) fun _ =>
  gx_bd (gx_na 100 33000 (68 :: x0)) fun _ =>
  gx_bd (gx_pr x0 68 (68 :: x0)) fun _ =>
  gx_bd (gx_na 100 33000 (69 :: x0)) fun _ =>
  gx_bd (gx_pr x0 69 (69 :: x0)) fun _ =>
  gx_bd (gx_na 100 33000 (70 :: x0)) fun _ =>
  gx_bd (gx_pr x0 70 (70 :: x0)) fun _ =>
  gx_bd (gx_na 100 33000 (71 :: x0)) fun _ =>
  gx_bd (gx_pr x0 71 (71 :: x0)) fun _ =>
  gx_bd (gx_na 100 33000 (72 :: x0)) fun _ =>
  gx_bd (gx_pr x0 72 (72 :: x0)) fun _ =>
  gx_bd (gx_na 100 33000 (73 :: x0)) fun _ =>
  gx_bd (gx_pr x0 73 (73 :: x0)) fun _ =>
  gx_bd (gx_na 100 132000 (74 :: x0)) fun _ =>
  gx_bd (gx_pr x0 74 (74 :: x0)) fun _ =>
  gx_bd (gx_na 100 201 (77 :: x0)) fun _ =>
  gx_bd (gx_pr x0 77 (77 :: x0)) fun _ =>
  gx_bd (gx_na 100 33000 (79 :: x0)) fun _ =>
  gx_bd (gx_pr x0 79 (79 :: x0)) fun _ =>
  gx_bd (gx_na 100 33000 (80 :: x0)) fun _ =>
  gx_bd (gx_pr x0 80 (80 :: x0)) fun _ =>
  gx_bd (gx_na 100 4200 (82 :: x0)) fun _ =>
  gx_bd (gx_pr x0 82 (82 :: x0)) fun _ =>
  gx_bd (gx_na 100 4200 (83 :: x0)) fun _ =>
  gx_bd (gx_pr x0 83 (83 :: x0)) fun _ =>
  gx_bd (gx_na 100 4200 (84 :: x0)) fun _ =>
  gx_bd (gx_pr x0 84 (84 :: x0)) fun _ =>
  gx_bd (gx_na 100 4200 (85 :: x0)) fun _ =>
  gx_bd (gx_pr x0 85 (85 :: x0)) fun _ =>
  gx_bd (gx_na 100 4200 (86 :: x0)) fun _ =>
  gx_bd (gx_pr x0 86 (86 :: x0)) fun _ =>
  gx_bd (gx_na 102 4200 (87 :: x0)) fun _ =>
  gx_bd (gx_pr x0 87 (87 :: x0)) fun _ =>
  gx_bd (gx_na 100 4200 (88 :: x0)) fun _ =>
  gx_bd (gx_pr x0 88 (88 :: x0)) fun _ =>
  gx_bd (gx_na 100 4200 (89 :: x0)) fun _ =>
  gx_bd (gx_pr x0 89 (89 :: x0)) fun _ =>
  gx_bd (gx_na 100 4200 (90 :: x0)) fun _ =>
  gx_bd (gx_pr x0 90 (90 :: x0)) fun _ =>
  gx_bd (gx_na 100 4200 (91 :: x0)) fun _ =>
  gx_bd (gx_pr x0 91 (91 :: x0)) fun _ =>
  gx_bd (gx_na 101 134400 (92 :: x0)) fun _ =>
  gx_bd (gx_pr x0 92 (92 :: x0)) fun _ =>
  gx_bd (gx_na 100 7 (94 :: x0)) fun _ =>
  gx_bd (gx_pr x0 94 (94 :: x0)) fun _ =>
  gx_bd (gx_na 100 5000 (95 :: x0)) fun _ =>
  gx_bd (gx_pr x0 95 (95 :: x0)) fun _ =>
  gx_bd (gx_na 100 208 (97 :: x0)) fun _ =>
  gx_bd (gx_pr x0 97 (97 :: x0)) fun _ =>
  gx_bd (gx_na 100 208 (98 :: x0)) fun _ =>
  gx_bd (gx_pr x0 98 (98 :: x0)) fun _ =>
  gx_bd (gx_na 100 208 (99 :: x0)) fun _ =>
  gx_bd (gx_pr x0 99 (99 :: x0)) fun _ =>
  gx_bd (gx_na 100 208 (100 :: x0)) fun _ =>
  gx_bd (gx_pr x0 100 (100 :: x0)) fun _ =>
  gx_bd (gx_na 100 208 (101 :: x0)) fun _ =>
  gx_bd (gx_pr x0 101 (101 :: x0)) fun _ =>
  gx_bd (gx_na 100 208 (102 :: x0)) fun _ =>
  gx_bd (gx_pr x0 102 (102 :: x0)) fun _ =>
  gx_bd (gx_na 100 208 (103 :: x0)) fun _ =>
  gx_bd (gx_pr x0 103 (103 :: x0)) fun _ =>
  gx_bd (gx_na 100 208 (104 :: x0)) fun _ =>
  gx_bd (gx_pr x0 104 (104 :: x0)) fun _ =>
  gx_bd (gx_na 102 100 (105 :: x0)) fun _ =>
  gx_bd (gx_pr x0 105 (105 :: x0)) fun _ =>
  gx_bd (gx_na 102 100 (106 :: x0)) fun _ =>
  gx_bd (gx_pr x0 106 (106 :: x0)) fun _ =>
  gx_bd (gx_n2 105 100 8 208 (109 :: x0)) fun _ =>
  gx_bd (gx_pr x0 109 (109 :: x0)) fun _ =>
  gx_bd (gx_na 100 1502 (114 :: x0)) fun _ =>
  gx_bd (gx_pr x0 114 (114 :: x0)) fun _ =>
  gx_bd (gx_na 100 500 (116 :: x0)) fun _ =>
  gx_bd (gx_pr x0 116 (116 :: x0)) fun _ =>
  gx_bd (gx_na 100 500 (117 :: x0)) fun _ =>
  gx_bd (gx_pr x0 117 (117 :: x0)) fun _ =>
  gx_bd (gx_na 102 500 (118 :: x0)) fun _ =>
  gx_bd (gx_pr x0 118 (118 :: x0)) fun _ =>
  gx_bd (gx_n2 105 100 8 208 (119 :: x0)) fun _ =>
  gx_bd (gx_pr x0 119 (119 :: x0)) fun _ =>
  gx_rt ()
noncomputable def f_X16_thrown (x0 : gx_Nm) : gx_M (Int32) :=
  gx_bd (gx_gi x0 0) fun v1 =>
  gx_rt v1
noncomputable def f_X16_clearDraft (x0 : gx_Nm) : gx_M (Unit) :=
  gx_bd (gx_is (9 :: x0) 1501 0) fun _ =>
  gx_bd (gx_is (10 :: x0) 1501 0) fun _ =>
  gx_bd (gx_is (11 :: x0) 1501 0) fun _ =>
  gx_bd (gx_pi x0 22 0) fun _ =>
  gx_rt ()
noncomputable def lb_X16_begin_1 (x0 : gx_Nm) (x1 : Int32) (s8 : Int32) : gx_M ((Int32) ⊕ (Unit)) :=
  gx_bd (gx_ia (36 :: x0) x1) fun v9 =>
  if v9 < s8 then
    gx_rt (.inr ())
  else
    gx_bd (gx_ra (37 :: x0) x1) fun v10 =>
    gx_bd (gx_ra (44 :: x0) x1) fun v11 =>
    gx_bd (gx_ia v11 s8) fun v12 =>
    gx_bd (gx_is v10 s8 v12) fun _ =>
    gx_rt (.inl ((s8 + 1) : Int32))
noncomputable def f_X16_begin (x0 : gx_Nm) (x1 : Int32) : gx_M (Unit) :=
  gx_bd (gx_ia (38 :: x0) x1) fun v1 =>
  gx_bd (gx_is (31 :: x0) x1 v1) fun _ =>
  gx_bd (gx_ia (39 :: x0) x1) fun v2 =>
  gx_bd (gx_is (32 :: x0) x1 v2) fun _ =>
  gx_bd (gx_ia (40 :: x0) x1) fun v3 =>
  gx_bd (gx_is (33 :: x0) x1 v3) fun _ =>
  gx_bd (gx_ia (41 :: x0) x1) fun v4 =>
  gx_bd (gx_is (34 :: x0) x1 v4) fun _ =>
  gx_bd (gx_ia (42 :: x0) x1) fun v5 =>
  gx_bd (gx_is (35 :: x0) x1 v5) fun _ =>
  gx_bd (gx_ia (43 :: x0) x1) fun v6 =>
  gx_bd (gx_is (36 :: x0) x1 v6) fun _ =>
  gx_bd (gx_ia (33 :: x0) x1) fun v7 =>
  gx_bd (gx_lp (lb_X16_begin_1 x0 x1) ((v7 + 1) : Int32)) fun _ =>
  gx_bd (gx_is (45 :: x0) x1 0) fun _ =>
  gx_bd (gx_is (46 :: x0) x1 (-1)) fun _ =>
  gx_bd (gx_ia (33 :: x0) x1) fun v13 =>
  gx_bd (gx_is (47 :: x0) x1 v13) fun _ =>
  gx_bd (gx_ia (35 :: x0) x1) fun v14 =>
  gx_bd (gx_is (48 :: x0) x1 v14) fun _ =>
  gx_bd (gx_ia (33 :: x0) x1) fun v15 =>
  gx_bd (gx_is (49 :: x0) x1 v15) fun _ =>
  gx_bd (gx_is (50 :: x0) x1 0) fun _ =>
  gx_bd (gx_is (51 :: x0) x1 0) fun _ =>
  gx_bd (gx_is (52 :: x0) x1 0) fun _ =>
  gx_bd (gx_is (94 :: x0) x1 0) fun _ =>
  gx_rt ()
noncomputable def lb_X16_nodes_1 (x0 : gx_Nm) (s2 : Int32) : gx_M ((Int32) ⊕ (Unit)) :=
  if 5000 ≤ s2 then
    gx_rt (.inr ())
  else
    gx_bd (gx_is (95 :: x0) s2 (-1)) fun _ =>
    gx_rt (.inl ((s2 + 1) : Int32))
noncomputable def lb_X16_nodes_2 (x0 : gx_Nm) (s3 : Int32) : gx_M ((Int32) ⊕ (Unit)) :=
  if 1500 < s3 then
    gx_rt (.inr ())
  else
    gx_bd (gx_is (28 :: x0) s3 (-1)) fun _ =>
    gx_rt (.inl ((s3 + 1) : Int32))
noncomputable def lb_X16_nodes_3 (x1 : Int32) (x0 : gx_Nm) (s4 : Int32) : gx_M ((Int32) ⊕ (Unit)) :=
  if x1 ≤ s4 then
    gx_rt (.inr ())
  else
    gx_bd (gx_is (30 :: x0) s4 (0 &&& 1)) fun _ =>
    gx_bd (gx_is (38 :: x0) s4 0) fun _ =>
    gx_bd (gx_is (39 :: x0) s4 (-1)) fun _ =>
    gx_bd (gx_is (40 :: x0) s4 0) fun _ =>
    gx_bd (gx_is (41 :: x0) s4 0) fun _ =>
    gx_bd (gx_is (42 :: x0) s4 0) fun _ =>
    gx_bd (gx_is (43 :: x0) s4 0) fun _ =>
    gx_bd (gx_is (63 :: x0) s4 0) fun _ =>
    gx_bd (f_X16_begin x0 s4) fun _ =>
    gx_rt (.inl ((s4 + 1) : Int32))
noncomputable def f_X16_nodes (x0 : gx_Nm) (x1 : Int32) : gx_M (Unit) :=
  gx_bd (
    if x1 < 1 then
      gx_rt true
    else
      if x1 ≤ 7 then
        gx_rt false
      else
        gx_rt true) fun b1 =>
  if b1 = true then
    gx_bd (gx_pi x0 0 1) fun _ =>
    gx_rt ()
  else
    gx_bd (gx_pi x0 0 0) fun _ =>
    gx_bd (gx_pi x0 29 x1) fun _ =>
    gx_bd (gx_pi x0 20 0) fun _ =>
    gx_bd (gx_pi x0 21 0) fun _ =>
    gx_bd (gx_pi x0 27 1) fun _ =>
    gx_bd (gx_is (24 :: x0) 0 (-1)) fun _ =>
    gx_bd (gx_is (26 :: x0) 0 0) fun _ =>
    gx_bd (gx_pi x0 62 0) fun _ =>
    gx_bd (gx_pi x0 75 0) fun _ =>
    gx_bd (gx_pi x0 76 0) fun _ =>
    gx_bd (gx_pi x0 78 0) fun _ =>
    gx_bd (gx_pi x0 81 0) fun _ =>
    gx_bd (gx_pi x0 93 0) fun _ =>
    gx_bd (gx_pi x0 96 0) fun _ =>
    gx_bd (gx_pi x0 115 0) fun _ =>
    gx_bd (f_X16_clearDraft x0) fun _ =>
    gx_bd (gx_lp (lb_X16_nodes_1 x0) (0 : Int32)) fun _ =>
    gx_bd (gx_lp (lb_X16_nodes_2 x0) (0 : Int32)) fun _ =>
    gx_bd (gx_lp (lb_X16_nodes_3 x1 x0) (0 : Int32)) fun _ =>
    gx_rt ()
noncomputable def f_X16_no (x0 : gx_Nm) (x1 : Int32) : gx_M (Int32) :=
  gx_bd (gx_pi x0 0 x1) fun _ =>
  gx_rt 0
noncomputable def lb_X16_feed_1 (x0 : gx_Nm) (x5 : Int32) (x4 : Int32) (x3 : Int32) (x2 : Int32) (x1 : Int32) (s8 : Int32) : gx_M ((Int32) ⊕ (Unit)) :=
  if 20 ≤ s8 then
    gx_rt (.inr ())
  else
    gx_bd (gx_gi x0 4) fun v9 =>
    gx_bd (
      if 4 ≤ s8 then
        if 8 ≤ s8 then
          if 12 ≤ s8 then
            if 16 ≤ s8 then
              gx_rt (x5 : Int32)
            else
              gx_rt (x4 : Int32)
          else
            gx_rt (x3 : Int32)
        else
          gx_rt (x2 : Int32)
      else
        gx_rt (x1 : Int32)) fun j10 =>
    gx_bd (gx_is (1 :: x0) (v9 + s8) (gx_ushr j10 (24 - ((gx_irem s8 4) * 8))).toInt8.toInt32.toInt8.toInt32) fun _ =>
    gx_rt (.inl ((s8 + 1) : Int32))
noncomputable def f_X16_feed (x0 : gx_Nm) (x1 : Int32) (x2 : Int32) (x3 : Int32) (x4 : Int32) (x5 : Int32) : gx_M (Int32) :=
  gx_bd (gx_gi x0 4) fun v1 =>
  gx_bd (gx_gi x0 7) fun v2 =>
  gx_bd (
    if v2 ≤ 0 then
      gx_rt (0 : Int32)
    else
      gx_bd (gx_gi x0 5) fun v3 =>
      gx_rt (v3 : Int32)) fun j4 =>
  gx_bd (gx_gi x0 7) fun v5 =>
  gx_bd (
    if v5 ≤ 1 then
      gx_rt (0 : Int32)
    else
      gx_bd (gx_gi x0 6) fun v6 =>
      gx_rt (v6 : Int32)) fun j7 =>
  if (((v1 + 20) + j4) + j7) ≤ 2048 then
    gx_bd (gx_pi x0 0 0) fun _ =>
    gx_bd (gx_lp (lb_X16_feed_1 x0 x5 x4 x3 x2 x1) (0 : Int32)) fun _ =>
    gx_bd (gx_gi x0 4) fun v11 =>
    gx_bd (gx_pi x0 4 (v11 + 20)) fun _ =>
    gx_bd (gx_gi x0 4) fun v12 =>
    gx_rt v12
  else
    gx_bd (f_X16_no x0 1) fun v13 =>
    gx_rt v13
noncomputable def lb_X16_end_1 (x0 : gx_Nm) (s6 : Int32) : gx_M ((Int32) ⊕ (Unit)) :=
  gx_bd (gx_gi x0 6) fun v7 =>
  if v7 ≤ s6 then
    gx_rt (.inr ())
  else
    gx_bd (gx_ia (3 :: x0) s6) fun v8 =>
    gx_bd (gx_is (2 :: x0) s6 v8.toInt8.toInt32) fun _ =>
    gx_rt (.inl ((s6 + 1) : Int32))
noncomputable def lb_X16_end_2 (x0 : gx_Nm) (j11 : gx_Nm) (s12 : Int32) : gx_M ((Int32) ⊕ (Unit)) :=
  gx_bd (gx_gi x0 4) fun v13 =>
  if v13 ≤ s12 then
    gx_rt (.inr ())
  else
    gx_bd (gx_ia (1 :: x0) s12) fun v14 =>
    gx_bd (gx_is j11 s12 v14.toInt8.toInt32) fun _ =>
    gx_rt (.inl ((s12 + 1) : Int32))
noncomputable def f_X16_end (x0 : gx_Nm) (x1 : Int32) : gx_M (Int32) :=
  gx_bd (
    if x1 < 0 then
      gx_rt true
    else
      if 19 < x1 then
        gx_rt true
      else
        gx_bd (gx_gi x0 4) fun v1 =>
        if x1 ≤ v1 then
          gx_rt false
        else
          gx_rt true) fun b2 =>
  if b2 = true then
    gx_bd (f_X16_no x0 1) fun v3 =>
    gx_rt v3
  else
    gx_bd (gx_pi x0 0 0) fun _ =>
    gx_bd (gx_gi x0 4) fun v4 =>
    gx_bd (gx_pi x0 4 (v4 - x1)) fun _ =>
    gx_bd (gx_gi x0 7) fun v5 =>
    gx_bd (
      if v5 = 2 then
        gx_bd (gx_lp (lb_X16_end_1 x0) (0 : Int32)) fun _ =>
        gx_bd (gx_gi x0 6) fun v9 =>
        gx_bd (gx_pi x0 5 v9) fun _ =>
        gx_bd (gx_pi x0 7 1) fun _ =>
        gx_rt ()
      else
        gx_rt ()) fun _ =>
    gx_bd (gx_gi x0 7) fun v10 =>
    gx_bd (
      if v10 = 0 then
        gx_rt ((2 :: x0) : gx_Nm)
      else
        gx_rt ((3 :: x0) : gx_Nm)) fun j11 =>
    gx_bd (gx_lp (lb_X16_end_2 x0 j11) (0 : Int32)) fun _ =>
    gx_bd (gx_gi x0 7) fun v15 =>
    gx_bd (
      if v15 = 0 then
        gx_bd (gx_gi x0 4) fun v16 =>
        gx_bd (gx_pi x0 5 v16) fun _ =>
        gx_rt ()
      else
        gx_bd (gx_gi x0 4) fun v17 =>
        gx_bd (gx_pi x0 6 v17) fun _ =>
        gx_rt ()) fun _ =>
    gx_bd (gx_gi x0 7) fun v18 =>
    gx_bd (gx_pi x0 7 (v18 + 1)) fun _ =>
    gx_bd (gx_pi x0 4 0) fun _ =>
    gx_bd (gx_gi x0 7) fun v19 =>
    gx_rt v19
noncomputable def f_X16_taken (x0 : gx_Nm) : gx_M (Int32) :=
  gx_bd (gx_gi x0 7) fun v1 =>
  gx_bd (gx_pi x0 7 0) fun _ =>
  gx_rt v1
noncomputable def f_X16_isKey (x0 : Int32) : gx_M (Int32) :=
  gx_bd (
    if x0 < 1 then
      gx_rt (0 : Int32)
    else
      if 32 < x0 then
        gx_rt (0 : Int32)
      else
        gx_rt (1 : Int32)) fun j1 =>
  gx_rt j1
noncomputable def lb_X16_keep_1 (x2 : Int32) (x0 : gx_Nm) (x1 : gx_Nm) (s1 : Int32) : gx_M ((Int32) ⊕ (Unit)) :=
  if x2 ≤ s1 then
    gx_rt (.inr ())
  else
    gx_bd (gx_gi x0 22) fun v2 =>
    gx_bd (gx_ia x1 s1) fun v3 =>
    gx_bd (gx_is (23 :: x0) (v2 + s1) v3.toInt8.toInt32) fun _ =>
    gx_rt (.inl ((s1 + 1) : Int32))
noncomputable def f_X16_keep (x0 : gx_Nm) (x1 : gx_Nm) (x2 : Int32) : gx_M (Int32) :=
  gx_bd (gx_lp (lb_X16_keep_1 x2 x0 x1) (0 : Int32)) fun _ =>
  gx_bd (gx_gi x0 22) fun v4 =>
  gx_bd (gx_pi x0 22 (v4 + x2)) fun _ =>
  gx_bd (gx_gi x0 22) fun v5 =>
  gx_rt (v5 - x2)
noncomputable def f_X16_part (x0 : gx_Nm) (x1 : Int32) (x2 : Int32) (x3 : Int32) (x4 : Int32) (x5 : Int32) (x6 : Int32) : gx_M (Unit) :=
  gx_bd (gx_is (12 :: x0) x1 x2) fun _ =>
  gx_bd (gx_is (13 :: x0) x1 x3) fun _ =>
  gx_bd (gx_is (14 :: x0) x1 x4) fun _ =>
  gx_bd (gx_is (16 :: x0) x1 x5) fun _ =>
  gx_bd (gx_is (18 :: x0) x1 x6) fun _ =>
  gx_bd (f_X16_keep x0 (2 :: x0) x5) fun v1 =>
  gx_bd (gx_is (15 :: x0) x1 v1) fun _ =>
  gx_bd (f_X16_keep x0 (3 :: x0) x6) fun v2 =>
  gx_bd (gx_is (17 :: x0) x1 v2) fun _ =>
  gx_rt ()
noncomputable def f_X16_when (x0 : gx_Nm) (x1 : Int32) (x2 : Int32) (x3 : Int32) : gx_M (Unit) :=
  gx_bd (f_X16_taken x0) fun v1 =>
  gx_bd (
    if v1 = 1 then
      gx_bd (gx_gi x0 5) fun v2 =>
      gx_bd (f_X16_isKey v2) fun v3 =>
      if v3 = 0 then
        gx_rt true
      else
        if x1 < 0 then
          gx_rt true
        else
          if 3 < x1 then
            gx_rt true
          else
            if x2 < 0 then
              gx_rt true
            else
              if x2 ≤ 3 then
                gx_rt false
              else
                gx_rt true
    else
      gx_rt true) fun b4 =>
  if b4 = true then
    gx_bd (gx_pi x0 0 1) fun _ =>
    gx_rt ()
  else
    gx_bd (gx_ia (9 :: x0) 1501) fun v5 =>
    gx_bd (
      if v5 = 4 then
        gx_rt (2 : Int32)
      else
        gx_rt (0 : Int32)) fun j6 =>
    gx_bd (gx_pi x0 0 j6) fun _ =>
    gx_bd (gx_gi x0 0) fun v7 =>
    if v7 = 0 then
      gx_bd (gx_ia (9 :: x0) 1501) fun v8 =>
      gx_bd (gx_gi x0 5) fun v9 =>
      gx_bd (f_X16_part x0 (24016 + v8) x1 x2 x3 v9 0) fun _ =>
      gx_bd (gx_ia (9 :: x0) 1501) fun v10 =>
      gx_bd (gx_is (9 :: x0) 1501 (v10 + 1)) fun _ =>
      gx_rt ()
    else
      gx_rt ()
noncomputable def f_X16_step (x0 : gx_Nm) (x1 : Int32) (x2 : Int32) (x3 : Int32) (x4 : Int32) (x5 : Int32) : gx_M (Unit) :=
  gx_bd (
    if x1 = 1 then
      gx_bd (gx_ia (10 :: x0) 1501) fun v1 =>
      gx_rt (v1 : Int32)
    else
      gx_bd (gx_ia (11 :: x0) 1501) fun v2 =>
      gx_rt (v2 : Int32)) fun j3 =>
  gx_bd (
    if j3 = 6 then
      gx_rt (2 : Int32)
    else
      gx_rt (0 : Int32)) fun j4 =>
  gx_bd (gx_pi x0 0 j4) fun _ =>
  gx_bd (gx_gi x0 0) fun v5 =>
  if v5 = 0 then
    gx_bd (
      if x1 = 1 then
        gx_rt (4 : Int32)
      else
        gx_rt (10 : Int32)) fun j6 =>
    gx_bd (f_X16_part x0 ((24016 + j6) + j3) x2 0 x3 x4 x5) fun _ =>
    gx_bd (
      if x1 = 1 then
        gx_bd (gx_ia (10 :: x0) 1501) fun v7 =>
        gx_bd (gx_is (10 :: x0) 1501 (v7 + 1)) fun _ =>
        gx_rt ()
      else
        gx_bd (gx_ia (11 :: x0) 1501) fun v8 =>
        gx_bd (gx_is (11 :: x0) 1501 (v8 + 1)) fun _ =>
        gx_rt ()) fun _ =>
    gx_rt ()
  else
    gx_rt ()
noncomputable def f_X16_put (x0 : gx_Nm) (x1 : Int32) (x2 : Int32) : gx_M (Unit) :=
  gx_bd (f_X16_taken x0) fun v1 =>
  gx_bd (
    if v1 = 2 then
      gx_bd (gx_gi x0 5) fun v2 =>
      gx_bd (f_X16_isKey v2) fun v3 =>
      if v3 = 0 then
        gx_rt true
      else
        gx_bd (gx_gi x0 6) fun v4 =>
        if 64 < v4 then
          gx_rt true
        else
          if x1 < 0 then
            gx_rt true
          else
            if 1 < x1 then
              gx_rt true
            else
              if x2 < 0 then
                gx_rt true
              else
                if x2 ≤ 99 then
                  gx_rt false
                else
                  gx_rt true
    else
      gx_rt true) fun b5 =>
  if b5 = true then
    gx_bd (gx_pi x0 0 1) fun _ =>
    gx_rt ()
  else
    gx_bd (gx_gi x0 5) fun v6 =>
    gx_bd (gx_gi x0 6) fun v7 =>
    gx_bd (f_X16_step x0 x1 0 x2 v6 v7) fun _ =>
    gx_rt ()
noncomputable def f_X16_erase (x0 : gx_Nm) (x1 : Int32) : gx_M (Unit) :=
  gx_bd (f_X16_taken x0) fun v1 =>
  gx_bd (
    if v1 = 2 then
      gx_bd (gx_gi x0 5) fun v2 =>
      gx_bd (f_X16_isKey v2) fun v3 =>
      if v3 = 0 then
        gx_rt true
      else
        gx_bd (gx_gi x0 6) fun v4 =>
        if 64 < v4 then
          gx_rt true
        else
          if x1 < 0 then
            gx_rt true
          else
            if x1 ≤ 1 then
              gx_rt false
            else
              gx_rt true
    else
      gx_rt true) fun b5 =>
  if b5 = true then
    gx_bd (gx_pi x0 0 1) fun _ =>
    gx_rt ()
  else
    gx_bd (gx_gi x0 5) fun v6 =>
    gx_bd (gx_gi x0 6) fun v7 =>
    gx_bd (f_X16_step x0 x1 1 0 v6 v7) fun _ =>
    gx_rt ()
noncomputable def f_X16_lease (x0 : gx_Nm) (x1 : Int32) (x2 : Int32) (x3 : Int32) : gx_M (Unit) :=
  gx_bd (f_X16_taken x0) fun v1 =>
  gx_bd (
    if v1 = 0 then
      if x1 < 0 then
        gx_rt true
      else
        if 1 < x1 then
          gx_rt true
        else
          if x2 < 1 then
            gx_rt true
          else
            if x2 ≤ 99 then
              gx_rt false
            else
              gx_rt true
    else
      gx_rt true) fun b2 =>
  if b2 = true then
    gx_bd (gx_pi x0 0 1) fun _ =>
    gx_rt ()
  else
    gx_bd (
      if x3 = 0 then
        gx_rt (2 : Int32)
      else
        gx_rt (3 : Int32)) fun j3 =>
    gx_bd (f_X16_step x0 x1 j3 x2 0 0) fun _ =>
    gx_rt ()
noncomputable def f_X16_forget (x0 : gx_Nm) : gx_M (Unit) :=
  gx_bd (gx_pi x0 0 0) fun _ =>
  gx_bd (f_X16_clearDraft x0) fun _ =>
  gx_rt ()
noncomputable def f_X16_up (x0 : gx_Nm) (x1 : Int32) : gx_M (Int32) :=
  gx_bd (
    if x1 < 0 then
      gx_rt (0 : Int32)
    else
      gx_bd (gx_gi x0 29) fun v1 =>
      if v1 ≤ x1 then
        gx_rt (0 : Int32)
      else
        gx_bd (gx_ia (30 :: x0) x1) fun v2 =>
        if v2 = 0 then
          gx_rt (1 : Int32)
        else
          gx_rt (0 : Int32)) fun j3 =>
  gx_rt j3
noncomputable def lb_X16_fromDraft_1 (x0 : gx_Nm) (v1 : Int32) (s6 : Int32) : gx_M ((Int32) ⊕ (Unit)) :=
  if 16 ≤ s6 then
    gx_rt (.inr ())
  else
    gx_bd (gx_ia (12 :: x0) (24016 + s6)) fun v7 =>
    gx_bd (gx_is (12 :: x0) ((16 * v1) + s6) v7) fun _ =>
    gx_bd (gx_ia (13 :: x0) (24016 + s6)) fun v8 =>
    gx_bd (gx_is (13 :: x0) ((16 * v1) + s6) v8) fun _ =>
    gx_bd (gx_ia (14 :: x0) (24016 + s6)) fun v9 =>
    gx_bd (gx_is (14 :: x0) ((16 * v1) + s6) v9) fun _ =>
    gx_bd (gx_ia (16 :: x0) (24016 + s6)) fun v10 =>
    gx_bd (gx_is (16 :: x0) ((16 * v1) + s6) v10) fun _ =>
    gx_bd (gx_ia (18 :: x0) (24016 + s6)) fun v11 =>
    gx_bd (gx_is (18 :: x0) ((16 * v1) + s6) v11) fun _ =>
    gx_bd (gx_gi x0 21) fun v12 =>
    gx_bd (gx_ia (15 :: x0) (24016 + s6)) fun v13 =>
    gx_bd (gx_is (15 :: x0) ((16 * v1) + s6) (v12 + v13)) fun _ =>
    gx_bd (gx_gi x0 21) fun v14 =>
    gx_bd (gx_ia (17 :: x0) (24016 + s6)) fun v15 =>
    gx_bd (gx_is (17 :: x0) ((16 * v1) + s6) (v14 + v15)) fun _ =>
    gx_rt (.inl ((s6 + 1) : Int32))
noncomputable def lb_X16_fromDraft_2 (x0 : gx_Nm) (s16 : Int32) : gx_M ((Int32) ⊕ (Unit)) :=
  gx_bd (gx_gi x0 22) fun v17 =>
  if v17 ≤ s16 then
    gx_rt (.inr ())
  else
    gx_bd (gx_gi x0 21) fun v18 =>
    gx_bd (gx_ia (23 :: x0) s16) fun v19 =>
    gx_bd (gx_is (19 :: x0) (v18 + s16) v19.toInt8.toInt32) fun _ =>
    gx_rt (.inl ((s16 + 1) : Int32))
noncomputable def f_X16_fromDraft (x0 : gx_Nm) (x1 : Int32) : gx_M (Int32) :=
  gx_bd (gx_gi x0 20) fun v1 =>
  gx_bd (gx_gi x0 20) fun v2 =>
  gx_bd (gx_pi x0 20 (v2 + 1)) fun _ =>
  gx_bd (gx_is (8 :: x0) v1 x1) fun _ =>
  gx_bd (gx_ia (9 :: x0) 1501) fun v3 =>
  gx_bd (gx_is (9 :: x0) v1 v3) fun _ =>
  gx_bd (gx_ia (10 :: x0) 1501) fun v4 =>
  gx_bd (gx_is (10 :: x0) v1 v4) fun _ =>
  gx_bd (gx_ia (11 :: x0) 1501) fun v5 =>
  gx_bd (gx_is (11 :: x0) v1 v5) fun _ =>
  gx_bd (gx_lp (lb_X16_fromDraft_1 x0 v1) (0 : Int32)) fun _ =>
  gx_bd (gx_lp (lb_X16_fromDraft_2 x0) (0 : Int32)) fun _ =>
  gx_bd (gx_gi x0 21) fun v20 =>
  gx_bd (gx_gi x0 22) fun v21 =>
  gx_bd (gx_pi x0 21 (v20 + v21)) fun _ =>
  gx_bd (f_X16_clearDraft x0) fun _ =>
  gx_rt v1
noncomputable def f_X16_record (x0 : gx_Nm) (x1 : Int32) (x2 : Int32) (x3 : Int32) (x4 : Int32) (x5 : Int32) : gx_M (Unit) :=
  gx_bd (gx_gi x0 62) fun v1 =>
  gx_bd (gx_is (57 :: x0) v1 x1) fun _ =>
  gx_bd (gx_gi x0 62) fun v2 =>
  gx_bd (gx_is (58 :: x0) v2 x2) fun _ =>
  gx_bd (gx_gi x0 62) fun v3 =>
  gx_bd (gx_is (59 :: x0) v3 x3) fun _ =>
  gx_bd (gx_gi x0 62) fun v4 =>
  gx_bd (gx_is (60 :: x0) v4 x4) fun _ =>
  gx_bd (gx_gi x0 62) fun v5 =>
  gx_bd (gx_is (61 :: x0) v5 x5) fun _ =>
  gx_bd (gx_gi x0 62) fun v6 =>
  gx_bd (gx_pi x0 62 (v6 + 1)) fun _ =>
  gx_bd (gx_ia (63 :: x0) x1) fun v7 =>
  gx_bd (gx_is (63 :: x0) x1 (v7 + 1)) fun _ =>
  gx_rt ()
noncomputable def f_X16_add (x0 : gx_Nm) (x1 : Int32) (x2 : Int32) (x3 : Int32) : gx_M (Unit) :=
  gx_bd (gx_ra (37 :: x0) x1) fun v1 =>
  gx_bd (gx_is v1 x2 x3) fun _ =>
  gx_bd (gx_is (36 :: x0) x1 x2) fun _ =>
  gx_bd (f_X16_record x0 x1 1 x2 x3 0) fun _ =>
  gx_rt ()
noncomputable def f_X16_message (x0 : gx_Nm) (x1 : Int32) (x2 : Int32) (x3 : Int32) : gx_M (Int32) :=
  gx_bd (gx_gi x0 75) fun v1 =>
  gx_bd (gx_gi x0 75) fun v2 =>
  gx_bd (gx_pi x0 75 (v2 + 1)) fun _ =>
  gx_bd (gx_is (64 :: x0) v1 x1) fun _ =>
  gx_bd (gx_is (65 :: x0) v1 x2) fun _ =>
  gx_bd (gx_is (66 :: x0) v1 x3) fun _ =>
  gx_bd (gx_ia (31 :: x0) x2) fun v3 =>
  gx_bd (gx_is (67 :: x0) v1 v3) fun _ =>
  gx_bd (gx_is (68 :: x0) v1 0) fun _ =>
  gx_bd (gx_is (69 :: x0) v1 0) fun _ =>
  gx_bd (gx_is (70 :: x0) v1 0) fun _ =>
  gx_bd (gx_is (71 :: x0) v1 0) fun _ =>
  gx_bd (gx_is (72 :: x0) v1 0) fun _ =>
  gx_rt v1
noncomputable def f_X16_toNet (x0 : gx_Nm) (x1 : Int32) : gx_M (Int32) :=
  gx_bd (gx_gi x0 78) fun v1 =>
  if v1 = 200 then
    gx_bd (gx_gi x0 76) fun v2 =>
    gx_bd (gx_pi x0 76 (v2 + 1)) fun _ =>
    gx_rt 0
  else
    gx_bd (gx_gi x0 78) fun v3 =>
    gx_bd (gx_is (77 :: x0) v3 x1) fun _ =>
    gx_bd (gx_gi x0 78) fun v4 =>
    gx_bd (gx_pi x0 78 (v4 + 1)) fun _ =>
    gx_rt 1
noncomputable def f_X16_send (x0 : gx_Nm) (x1 : Int32) : gx_M (Unit) :=
  gx_bd (gx_ia (65 :: x0) x1) fun v1 =>
  gx_bd (gx_ia (63 :: x0) v1) fun v2 =>
  gx_bd (
    if v2 ≤ 0 then
      gx_bd (f_X16_toNet x0 x1) fun v3 =>
      gx_rt ()
    else
      gx_bd (gx_gi x0 81) fun v4 =>
      gx_bd (gx_is (79 :: x0) v4 x1) fun _ =>
      gx_bd (gx_gi x0 81) fun v5 =>
      gx_bd (gx_is (80 :: x0) v5 v1) fun _ =>
      gx_bd (gx_gi x0 81) fun v6 =>
      gx_bd (gx_pi x0 81 (v6 + 1)) fun _ =>
      gx_rt ()) fun _ =>
  gx_rt ()
noncomputable def f_X16_termAt (x0 : gx_Nm) (x1 : Int32) (x2 : Int32) : gx_M (Int32) :=
  gx_bd (gx_ia (33 :: x0) x1) fun v1 =>
  gx_bd (
    if x2 = v1 then
      gx_bd (gx_ia (34 :: x0) x1) fun v2 =>
      gx_rt (v2 : Int32)
    else
      gx_bd (gx_ra (37 :: x0) x1) fun v3 =>
      gx_bd (gx_ia v3 x2) fun v4 =>
      gx_bd (gx_ia (8 :: x0) v4) fun v5 =>
      gx_rt (v5 : Int32)) fun j6 =>
  gx_rt j6
noncomputable def lb_X16_append_1 (x0 : gx_Nm) (x1 : Int32) (v4 : Int32) (s6 : Int32) : gx_M ((Int32) ⊕ (Unit)) :=
  gx_bd (gx_ia (36 :: x0) x1) fun v7 =>
  if v7 < s6 then
    gx_rt (.inr ())
  else
    gx_bd (gx_ia (70 :: x0) v4) fun v8 =>
    if 4 ≤ v8 then
      gx_rt (.inr ())
    else
      gx_bd (gx_ia (70 :: x0) v4) fun v9 =>
      gx_bd (gx_ra (37 :: x0) x1) fun v10 =>
      gx_bd (gx_ia v10 s6) fun v11 =>
      gx_bd (gx_is (74 :: x0) ((4 * v4) + v9) v11) fun _ =>
      gx_bd (gx_ia (70 :: x0) v4) fun v12 =>
      gx_bd (gx_is (70 :: x0) v4 (v12 + 1)) fun _ =>
      gx_rt (.inl ((s6 + 1) : Int32))
noncomputable def f_X16_append (x0 : gx_Nm) (x1 : Int32) (x2 : Int32) : gx_M (Unit) :=
  gx_bd (gx_ra (53 :: x0) x1) fun v1 =>
  gx_bd (gx_ia v1 x2) fun v2 =>
  gx_bd (gx_ia (33 :: x0) x1) fun v3 =>
  if v3 < v2 then
    gx_bd (f_X16_message x0 3 x1 x2) fun v4 =>
    gx_bd (gx_is (68 :: x0) v4 (v2 - 1)) fun _ =>
    gx_bd (f_X16_termAt x0 x1 (v2 - 1)) fun v5 =>
    gx_bd (gx_is (69 :: x0) v4 v5) fun _ =>
    gx_bd (gx_lp (lb_X16_append_1 x0 x1 v4) (v2 : Int32)) fun _ =>
    gx_bd (gx_ia (51 :: x0) x1) fun v13 =>
    gx_bd (gx_is (71 :: x0) v4 v13) fun _ =>
    gx_bd (gx_ia (47 :: x0) x1) fun v14 =>
    gx_bd (gx_is (72 :: x0) v4 v14) fun _ =>
    gx_bd (f_X16_send x0 v4) fun _ =>
    gx_rt ()
  else
    gx_bd (f_X16_message x0 5 x1 x2) fun v15 =>
    gx_bd (gx_ia (33 :: x0) x1) fun v16 =>
    gx_bd (gx_is (68 :: x0) v15 v16) fun _ =>
    gx_bd (gx_ia (34 :: x0) x1) fun v17 =>
    gx_bd (gx_is (69 :: x0) v15 v17) fun _ =>
    gx_bd (gx_ia (35 :: x0) x1) fun v18 =>
    gx_bd (gx_is (73 :: x0) v15 v18) fun _ =>
    gx_bd (gx_ia (51 :: x0) x1) fun v19 =>
    gx_bd (gx_is (71 :: x0) v15 v19) fun _ =>
    gx_bd (f_X16_send x0 v15) fun _ =>
    gx_rt ()
noncomputable def lb_X16_appendAll_1 (x0 : gx_Nm) (x1 : Int32) (s1 : Int32) : gx_M ((Int32) ⊕ (Unit)) :=
  gx_bd (gx_gi x0 29) fun v2 =>
  if v2 ≤ s1 then
    gx_rt (.inr ())
  else
    gx_bd (
      if s1 = x1 then
        gx_rt ()
      else
        gx_bd (f_X16_append x0 x1 s1) fun _ =>
        gx_rt ()) fun _ =>
    gx_rt (.inl ((s1 + 1) : Int32))
noncomputable def f_X16_appendAll (x0 : gx_Nm) (x1 : Int32) : gx_M (Unit) :=
  gx_bd (gx_lp (lb_X16_appendAll_1 x0 x1) (0 : Int32)) fun _ =>
  gx_rt ()
noncomputable def f_X16_propose (x0 : gx_Nm) (x1 : Int32) : gx_M (Int32) :=
  gx_bd (f_X16_up x0 x1) fun v1 =>
  if v1 = 0 then
    gx_bd (f_X16_no x0 2) fun v2 =>
    gx_rt v2
  else
    gx_bd (gx_ia (45 :: x0) x1) fun v3 =>
    if v3 = 2 then
      gx_bd (gx_gi x0 20) fun v4 =>
      gx_bd (
        if v4 = 1500 then
          gx_rt true
        else
          gx_bd (gx_gi x0 21) fun v5 =>
          gx_bd (gx_gi x0 22) fun v6 =>
          if (v5 + v6) ≤ 40000 then
            gx_rt false
          else
            gx_rt true) fun b7 =>
      if b7 = true then
        gx_bd (f_X16_no x0 3) fun v8 =>
        gx_rt v8
      else
        gx_bd (gx_pi x0 0 0) fun _ =>
        gx_bd (gx_ia (36 :: x0) x1) fun v9 =>
        gx_bd (gx_ia (31 :: x0) x1) fun v10 =>
        gx_bd (f_X16_fromDraft x0 v10) fun v11 =>
        gx_bd (f_X16_add x0 x1 (v9 + 1) v11) fun _ =>
        gx_bd (f_X16_appendAll x0 x1) fun _ =>
        gx_bd (gx_ia (36 :: x0) x1) fun v12 =>
        gx_rt v12
    else
      gx_bd (f_X16_no x0 1) fun v13 =>
      gx_rt v13
noncomputable def f_X16_vote (x0 : gx_Nm) (x1 : Int32) (x2 : Int32) (x3 : Int32) : gx_M (Unit) :=
  gx_bd (gx_is (31 :: x0) x1 x2) fun _ =>
  gx_bd (gx_is (32 :: x0) x1 x3) fun _ =>
  gx_bd (f_X16_record x0 x1 0 x2 x3 0) fun _ =>
  gx_rt ()
noncomputable def f_X16_empty (x0 : gx_Nm) (x1 : Int32) : gx_M (Int32) :=
  gx_bd (gx_gi x0 20) fun v1 =>
  gx_bd (gx_gi x0 20) fun v2 =>
  gx_bd (gx_pi x0 20 (v2 + 1)) fun _ =>
  gx_bd (gx_is (8 :: x0) v1 x1) fun _ =>
  gx_bd (gx_is (9 :: x0) v1 0) fun _ =>
  gx_bd (gx_is (10 :: x0) v1 0) fun _ =>
  gx_bd (gx_is (11 :: x0) v1 0) fun _ =>
  gx_rt v1
noncomputable def lb_X16_lead_1 (x0 : gx_Nm) (x1 : Int32) (s7 : Int32) : gx_M ((Int32) ⊕ (Unit)) :=
  gx_bd (gx_gi x0 29) fun v8 =>
  if v8 ≤ s7 then
    gx_rt (.inr ())
  else
    gx_bd (gx_ra (53 :: x0) x1) fun v9 =>
    gx_bd (gx_ia (36 :: x0) x1) fun v10 =>
    gx_bd (gx_is v9 s7 (v10 + 1)) fun _ =>
    gx_bd (gx_ra (54 :: x0) x1) fun v11 =>
    gx_bd (gx_is v11 s7 0) fun _ =>
    gx_bd (gx_ra (55 :: x0) x1) fun v12 =>
    gx_bd (gx_is v12 s7 0) fun _ =>
    gx_rt (.inl ((s7 + 1) : Int32))
noncomputable def f_X16_lead (x0 : gx_Nm) (x1 : Int32) : gx_M (Unit) :=
  gx_bd (gx_is (45 :: x0) x1 2) fun _ =>
  gx_bd (gx_is (46 :: x0) x1 x1) fun _ =>
  gx_bd (gx_ia (31 :: x0) x1) fun v1 =>
  gx_bd (gx_ia (95 :: x0) v1) fun v2 =>
  gx_bd (
    if 0 ≤ v2 then
      gx_bd (gx_ia (31 :: x0) x1) fun v3 =>
      gx_bd (gx_ia (95 :: x0) v3) fun v4 =>
      if v4 = x1 then
        gx_rt ()
      else
        gx_bd (gx_gi x0 96) fun v5 =>
        gx_bd (gx_pi x0 96 (v5 + 1)) fun _ =>
        gx_rt ()
    else
      gx_bd (gx_ia (31 :: x0) x1) fun v6 =>
      gx_bd (gx_is (95 :: x0) v6 x1) fun _ =>
      gx_rt ()) fun _ =>
  gx_bd (gx_lp (lb_X16_lead_1 x0 x1) (0 : Int32)) fun _ =>
  gx_bd (gx_is (51 :: x0) x1 0) fun _ =>
  gx_bd (gx_is (52 :: x0) x1 0) fun _ =>
  gx_bd (gx_is (94 :: x0) x1 0) fun _ =>
  gx_bd (gx_ia (36 :: x0) x1) fun v13 =>
  gx_bd (gx_ia (31 :: x0) x1) fun v14 =>
  gx_bd (f_X16_empty x0 v14) fun v15 =>
  gx_bd (f_X16_add x0 x1 (v13 + 1) v15) fun _ =>
  gx_bd (f_X16_appendAll x0 x1) fun _ =>
  gx_rt ()
noncomputable def lb_X16_rise_1 (x0 : gx_Nm) (x1 : Int32) (s8 : Int32) : gx_M ((Int32) ⊕ (Unit)) :=
  gx_bd (gx_gi x0 29) fun v9 =>
  if v9 ≤ s8 then
    gx_rt (.inr ())
  else
    gx_bd (gx_ra (56 :: x0) x1) fun v10 =>
    gx_bd (
      if s8 = x1 then
        gx_rt (1 : Int32)
      else
        gx_rt (0 : Int32)) fun j11 =>
    gx_bd (gx_is v10 s8 (j11 &&& 1)) fun _ =>
    gx_rt (.inl ((s8 + 1) : Int32))
noncomputable def lb_X16_rise_2 (x0 : gx_Nm) (x1 : Int32) (s12 : Int32) : gx_M ((Int32) ⊕ (Unit)) :=
  gx_bd (gx_gi x0 29) fun v13 =>
  if v13 ≤ s12 then
    gx_rt (.inr ())
  else
    gx_bd (
      if s12 = x1 then
        gx_rt ()
      else
        gx_bd (f_X16_message x0 1 x1 s12) fun v14 =>
        gx_bd (gx_ia (36 :: x0) x1) fun v15 =>
        gx_bd (gx_is (68 :: x0) v14 v15) fun _ =>
        gx_bd (gx_ia (36 :: x0) x1) fun v16 =>
        gx_bd (f_X16_termAt x0 x1 v16) fun v17 =>
        gx_bd (gx_is (69 :: x0) v14 v17) fun _ =>
        gx_bd (f_X16_send x0 v14) fun _ =>
        gx_rt ()) fun _ =>
    gx_rt (.inl ((s12 + 1) : Int32))
noncomputable def f_X16_rise (x0 : gx_Nm) (x1 : Int32) : gx_M (Unit) :=
  gx_bd (f_X16_up x0 x1) fun v1 =>
  gx_bd (
    if v1 = 0 then
      gx_rt (2 : Int32)
    else
      gx_bd (gx_ia (45 :: x0) x1) fun v2 =>
      if v2 = 2 then
        gx_rt (1 : Int32)
      else
        gx_bd (gx_gi x0 29) fun v3 =>
        if v3 = 1 then
          gx_bd (gx_gi x0 20) fun v4 =>
          if v4 = 1500 then
            gx_rt (3 : Int32)
          else
            gx_rt (0 : Int32)
        else
          gx_rt (0 : Int32)) fun j5 =>
  gx_bd (gx_pi x0 0 j5) fun _ =>
  gx_bd (gx_gi x0 0) fun v6 =>
  if v6 = 0 then
    gx_bd (gx_ia (31 :: x0) x1) fun v7 =>
    gx_bd (f_X16_vote x0 x1 (v7 + 1) x1) fun _ =>
    gx_bd (gx_is (46 :: x0) x1 (-1)) fun _ =>
    gx_bd (gx_is (45 :: x0) x1 1) fun _ =>
    gx_bd (gx_lp (lb_X16_rise_1 x0 x1) (0 : Int32)) fun _ =>
    gx_bd (gx_lp (lb_X16_rise_2 x0 x1) (0 : Int32)) fun _ =>
    gx_bd (gx_gi x0 29) fun v18 =>
    gx_bd (
      if v18 = 1 then
        gx_bd (f_X16_lead x0 x1) fun _ =>
        gx_rt ()
      else
        gx_rt ()) fun _ =>
    gx_rt ()
  else
    gx_rt ()
noncomputable def f_X16_beat (x0 : gx_Nm) (x1 : Int32) : gx_M (Unit) :=
  gx_bd (f_X16_up x0 x1) fun v1 =>
  gx_bd (
    if v1 = 0 then
      gx_rt (2 : Int32)
    else
      gx_bd (gx_ia (45 :: x0) x1) fun v2 =>
      if v2 = 2 then
        gx_rt (0 : Int32)
      else
        gx_rt (1 : Int32)) fun j3 =>
  gx_bd (gx_pi x0 0 j3) fun _ =>
  gx_bd (gx_gi x0 0) fun v4 =>
  gx_bd (
    if v4 = 0 then
      gx_bd (f_X16_appendAll x0 x1) fun _ =>
      gx_rt ()
    else
      gx_rt ()) fun _ =>
  gx_rt ()
noncomputable def f_X16_onDisk (x0 : gx_Nm) (x1 : Int32) : gx_M (Unit) :=
  gx_bd (gx_ia (57 :: x0) x1) fun v1 =>
  gx_bd (gx_ia (58 :: x0) x1) fun v2 =>
  gx_bd (
    if v2 = 0 then
      gx_bd (gx_ia (59 :: x0) x1) fun v3 =>
      gx_bd (gx_is (38 :: x0) v1 v3) fun _ =>
      gx_bd (gx_ia (60 :: x0) x1) fun v4 =>
      gx_bd (gx_is (39 :: x0) v1 v4) fun _ =>
      gx_rt ()
    else
      gx_bd (gx_ia (58 :: x0) x1) fun v5 =>
      if v5 = 1 then
        gx_bd (gx_ra (44 :: x0) v1) fun v6 =>
        gx_bd (gx_ia (59 :: x0) x1) fun v7 =>
        gx_bd (gx_ia (60 :: x0) x1) fun v8 =>
        gx_bd (gx_is v6 v7 v8) fun _ =>
        gx_bd (gx_ia (59 :: x0) x1) fun v9 =>
        gx_bd (gx_is (43 :: x0) v1 v9) fun _ =>
        gx_rt ()
      else
        gx_bd (gx_ia (59 :: x0) x1) fun v10 =>
        gx_bd (gx_ia (40 :: x0) v1) fun v11 =>
        gx_bd (
          if v10 = v11 then
            gx_bd (gx_ia (41 :: x0) v1) fun v12 =>
            gx_rt (v12 : Int32)
          else
            gx_bd (gx_ia (40 :: x0) v1) fun v13 =>
            if v10 ≤ v13 then
              gx_rt ((-1) : Int32)
            else
              gx_bd (gx_ia (43 :: x0) v1) fun v14 =>
              if v14 < v10 then
                gx_rt ((-1) : Int32)
              else
                gx_bd (gx_ra (44 :: x0) v1) fun v15 =>
                gx_bd (gx_ia v15 v10) fun v16 =>
                gx_bd (gx_ia (8 :: x0) v16) fun v17 =>
                gx_rt (v17 : Int32)) fun j18 =>
        gx_bd (gx_ia (60 :: x0) x1) fun v19 =>
        gx_bd (
          if j18 = v19 then
            gx_rt ()
          else
            gx_bd (gx_is (43 :: x0) v1 v10) fun _ =>
            gx_rt ()) fun _ =>
        gx_bd (gx_is (40 :: x0) v1 v10) fun _ =>
        gx_bd (gx_ia (60 :: x0) x1) fun v20 =>
        gx_bd (gx_is (41 :: x0) v1 v20) fun _ =>
        gx_bd (gx_ia (61 :: x0) x1) fun v21 =>
        gx_bd (gx_is (42 :: x0) v1 v21) fun _ =>
        gx_rt ()) fun _ =>
  gx_rt ()
noncomputable def lb_X16_toDisk_1 (x0 : gx_Nm) (x1 : Int32) (x2 : Int32) (s1 : Int32 × Int32 × Int32) : gx_M ((Int32 × Int32 × Int32) ⊕ (Int32)) :=
  gx_bd (gx_gi x0 62) fun v2 =>
  if v2 ≤ s1.2.2 then
    gx_rt (.inr (s1.2.1 : Int32))
  else
    gx_bd (gx_ia (57 :: x0) s1.2.2) fun v3 =>
    gx_bd (
      if v3 = x1 then
        gx_bd (
          if x2 ≤ s1.1 then
            gx_rt ()
          else
            gx_bd (f_X16_onDisk x0 s1.2.2) fun _ =>
            gx_rt ()) fun _ =>
        gx_rt (((s1.1 + 1) : Int32), (s1.2.1 : Int32))
      else
        gx_bd (gx_ia (57 :: x0) s1.2.2) fun v4 =>
        gx_bd (gx_is (57 :: x0) s1.2.1 v4) fun _ =>
        gx_bd (gx_ia (58 :: x0) s1.2.2) fun v5 =>
        gx_bd (gx_is (58 :: x0) s1.2.1 v5) fun _ =>
        gx_bd (gx_ia (59 :: x0) s1.2.2) fun v6 =>
        gx_bd (gx_is (59 :: x0) s1.2.1 v6) fun _ =>
        gx_bd (gx_ia (60 :: x0) s1.2.2) fun v7 =>
        gx_bd (gx_is (60 :: x0) s1.2.1 v7) fun _ =>
        gx_bd (gx_ia (61 :: x0) s1.2.2) fun v8 =>
        gx_bd (gx_is (61 :: x0) s1.2.1 v8) fun _ =>
        gx_rt ((s1.1 : Int32), ((s1.2.1 + 1) : Int32))) fun j9 =>
    gx_rt (.inl ((j9.1 : Int32), (j9.2 : Int32), ((s1.2.2 + 1) : Int32)))
noncomputable def f_X16_toDisk (x0 : gx_Nm) (x1 : Int32) (x2 : Int32) : gx_M (Unit) :=
  gx_bd (gx_lp (lb_X16_toDisk_1 x0 x1 x2) ((0 : Int32), (0 : Int32), (0 : Int32))) fun j10 =>
  gx_bd (gx_pi x0 62 j10) fun _ =>
  gx_bd (gx_is (63 :: x0) x1 0) fun _ =>
  gx_rt ()
noncomputable def lb_X16_extend_1 (x0 : gx_Nm) (x1 : Int32) (x2 : Int32) (s1 : Int32) : gx_M ((Int32) ⊕ ((Unit) ⊕ (Int32))) :=
  gx_bd (gx_gi x0 27) fun v2 =>
  if v2 ≤ s1 then
    gx_rt (.inr (.inl ()))
  else
    gx_bd (gx_ia (24 :: x0) s1) fun v3 =>
    if v3 = x1 then
      gx_bd (gx_ia (25 :: x0) s1) fun v4 =>
      if v4 = x2 then
        gx_rt (.inr (.inr s1))
      else
        gx_rt (.inl ((s1 + 1) : Int32))
    else
      gx_rt (.inl ((s1 + 1) : Int32))
noncomputable def f_X16_extend (x0 : gx_Nm) (x1 : Int32) (x2 : Int32) : gx_M (Int32) :=
  gx_bd (gx_lp (lb_X16_extend_1 x0 x1 x2) (1 : Int32)) fun j5 => match j5 with
  | .inr r => gx_rt r
  | .inl _ =>
    gx_bd (gx_gi x0 27) fun v7 =>
    gx_bd (gx_is (24 :: x0) v7 x1) fun _ =>
    gx_bd (gx_gi x0 27) fun v8 =>
    gx_bd (gx_is (25 :: x0) v8 x2) fun _ =>
    gx_bd (gx_gi x0 27) fun v9 =>
    gx_bd (gx_ia (26 :: x0) x1) fun v10 =>
    gx_bd (gx_is (26 :: x0) v9 (v10 + 1)) fun _ =>
    gx_bd (gx_gi x0 27) fun v11 =>
    gx_bd (gx_pi x0 27 (v11 + 1)) fun _ =>
    gx_bd (gx_gi x0 27) fun v12 =>
    gx_rt (v12 - 1)
noncomputable def lb_X16_applyTo_1 (x2 : Int32) (x0 : gx_Nm) (x1 : Int32) (s3 : Int32) : gx_M ((Int32) ⊕ (Unit)) :=
  if x2 < s3 then
    gx_rt (.inr ())
  else
    gx_bd (gx_ra (37 :: x0) x1) fun v4 =>
    gx_bd (gx_ia v4 s3) fun v5 =>
    gx_bd (gx_ia (28 :: x0) s3) fun v6 =>
    gx_bd (
      if 0 ≤ v6 then
        gx_bd (gx_ia (28 :: x0) s3) fun v7 =>
        if v7 = v5 then
          gx_rt ()
        else
          gx_bd (gx_gi x0 96) fun v8 =>
          gx_bd (gx_pi x0 96 (v8 + 1)) fun _ =>
          gx_rt ()
      else
        gx_bd (gx_is (28 :: x0) s3 v5) fun _ =>
        gx_rt ()) fun _ =>
    gx_bd (gx_ia (48 :: x0) x1) fun v9 =>
    gx_bd (f_X16_extend x0 v9 v5) fun v10 =>
    gx_bd (gx_is (48 :: x0) x1 v10) fun _ =>
    gx_rt (.inl ((s3 + 1) : Int32))
noncomputable def f_X16_applyTo (x0 : gx_Nm) (x1 : Int32) (x2 : Int32) : gx_M (Unit) :=
  gx_bd (gx_ia (47 :: x0) x1) fun v1 =>
  if v1 < x2 then
    gx_bd (gx_ia (47 :: x0) x1) fun v2 =>
    gx_bd (gx_lp (lb_X16_applyTo_1 x2 x0 x1) ((v2 + 1) : Int32)) fun _ =>
    gx_bd (gx_is (47 :: x0) x1 x2) fun _ =>
    gx_bd (gx_gi x0 115) fun v11 =>
    gx_bd (gx_pi x0 115 (gx_max v11 x2)) fun _ =>
    gx_rt ()
  else
    gx_rt ()
noncomputable def lb_X16_lookForCommit_1 (x0 : gx_Nm) (x1 : Int32) (s2 : Int32) (s7 : Int32 × Int32) : gx_M ((Int32 × Int32) ⊕ (Int32)) :=
  gx_bd (gx_gi x0 29) fun v8 =>
  if v8 ≤ s7.2 then
    gx_rt (.inr (s7.1 : Int32))
  else
    gx_bd (
      if s7.2 = x1 then
        gx_bd (gx_ia (52 :: x0) x1) fun v9 =>
        gx_rt (v9 : Int32)
      else
        gx_bd (gx_ra (54 :: x0) x1) fun v10 =>
        gx_bd (gx_ia v10 s7.2) fun v11 =>
        gx_rt (v11 : Int32)) fun j12 =>
    gx_bd (
      if j12 < s2 then
        gx_rt (s7.1 : Int32)
      else
        gx_rt ((s7.1 + 1) : Int32)) fun j13 =>
    gx_rt (.inl ((j13 : Int32), ((s7.2 + 1) : Int32)))
noncomputable def lb_X16_lookForCommit_2 (x0 : gx_Nm) (x1 : Int32) (s2 : Int32) : gx_M ((Int32) ⊕ ((Unit) ⊕ (Unit))) :=
  gx_bd (gx_ia (47 :: x0) x1) fun v3 =>
  if s2 ≤ v3 then
    gx_rt (.inr (.inl ()))
  else
    gx_bd (gx_ia (33 :: x0) x1) fun v4 =>
    if s2 ≤ v4 then
      gx_rt (.inr (.inl ()))
    else
      gx_bd (f_X16_termAt x0 x1 s2) fun v5 =>
      gx_bd (gx_ia (31 :: x0) x1) fun v6 =>
      if v5 = v6 then
        gx_bd (gx_lp (lb_X16_lookForCommit_1 x0 x1 s2) ((0 : Int32), (0 : Int32))) fun j14 =>
        gx_bd (gx_gi x0 29) fun v15 =>
        if v15 < (2 * j14) then
          gx_bd (f_X16_applyTo x0 x1 s2) fun _ =>
          gx_rt (.inr (.inr ()))
        else
          gx_rt (.inl ((s2 + (-1)) : Int32))
      else
        gx_rt (.inl ((s2 + (-1)) : Int32))
noncomputable def f_X16_lookForCommit (x0 : gx_Nm) (x1 : Int32) : gx_M (Unit) :=
  gx_bd (gx_ia (36 :: x0) x1) fun v1 =>
  gx_bd (gx_lp (lb_X16_lookForCommit_2 x0 x1) (v1 : Int32)) fun j16 => match j16 with
  | .inr r => gx_rt r
  | .inl _ =>
    gx_rt ()
noncomputable def lb_X16_sync_1 (x0 : gx_Nm) (x1 : Int32) (s4 : Int32 × Int32 × Int32) : gx_M ((Int32 × Int32 × Int32) ⊕ (Int32 × Int32)) :=
  gx_bd (gx_gi x0 81) fun v5 =>
  if v5 ≤ s4.2.2 then
    gx_rt (.inr ((s4.1 : Int32), (s4.2.1 : Int32)))
  else
    gx_bd (gx_ia (80 :: x0) s4.2.2) fun v6 =>
    gx_bd (
      if v6 = x1 then
        gx_bd (gx_ia (79 :: x0) s4.2.2) fun v7 =>
        gx_bd (f_X16_toNet x0 v7) fun v8 =>
        if v8 = 0 then
          gx_rt ((s4.1 : Int32), (s4.2.1 : Int32))
        else
          gx_rt (((s4.1 + 1) : Int32), (s4.2.1 : Int32))
      else
        gx_bd (gx_ia (79 :: x0) s4.2.2) fun v9 =>
        gx_bd (gx_is (79 :: x0) s4.2.1 v9) fun _ =>
        gx_bd (gx_ia (80 :: x0) s4.2.2) fun v10 =>
        gx_bd (gx_is (80 :: x0) s4.2.1 v10) fun _ =>
        gx_rt ((s4.1 : Int32), ((s4.2.1 + 1) : Int32))) fun j11 =>
    gx_rt (.inl ((j11.1 : Int32), (j11.2 : Int32), ((s4.2.2 + 1) : Int32)))
noncomputable def f_X16_sync (x0 : gx_Nm) (x1 : Int32) : gx_M (Int32) :=
  gx_bd (f_X16_up x0 x1) fun v1 =>
  if v1 = 0 then
    gx_bd (f_X16_no x0 1) fun v2 =>
    gx_rt v2
  else
    gx_bd (gx_pi x0 0 0) fun _ =>
    gx_bd (gx_ia (63 :: x0) x1) fun v3 =>
    gx_bd (f_X16_toDisk x0 x1 v3) fun _ =>
    gx_bd (gx_lp (lb_X16_sync_1 x0 x1) ((0 : Int32), (0 : Int32), (0 : Int32))) fun j12 =>
    gx_bd (gx_pi x0 81 j12.2) fun _ =>
    gx_bd (gx_ia (36 :: x0) x1) fun v13 =>
    gx_bd (gx_is (52 :: x0) x1 v13) fun _ =>
    gx_bd (gx_ia (45 :: x0) x1) fun v14 =>
    gx_bd (
      if v14 = 2 then
        gx_bd (f_X16_lookForCommit x0 x1) fun _ =>
        gx_rt ()
      else
        gx_rt ()) fun _ =>
    gx_rt j12.1
noncomputable def lb_X16_leave_1 (x0 : gx_Nm) (x1 : Int32) (s2 : Int32) : gx_M ((Int32) ⊕ (Unit)) :=
  gx_bd (gx_gi x0 93) fun v3 =>
  if v3 ≤ s2 then
    gx_rt (.inr ())
  else
    gx_bd (gx_ia (82 :: x0) s2) fun v4 =>
    gx_bd (
      if v4 = x1 then
        gx_bd (gx_is (82 :: x0) s2 (-1)) fun _ =>
        gx_rt ()
      else
        gx_rt ()) fun _ =>
    gx_rt (.inl ((s2 + 1) : Int32))
noncomputable def f_X16_leave (x0 : gx_Nm) (x1 : Int32) (x2 : Int32) : gx_M (Unit) :=
  gx_bd (gx_ia (45 :: x0) x1) fun v1 =>
  gx_bd (
    if v1 = 2 then
      gx_bd (gx_lp (lb_X16_leave_1 x0 x1) (0 : Int32)) fun _ =>
      gx_rt ()
    else
      gx_rt ()) fun _ =>
  gx_bd (gx_is (45 :: x0) x1 x2) fun _ =>
  gx_rt ()
noncomputable def lb_X16_crash_1 (x0 : gx_Nm) (x1 : Int32) (s5 : Int32 × Int32) : gx_M ((Int32 × Int32) ⊕ (Int32)) :=
  gx_bd (gx_gi x0 81) fun v6 =>
  if v6 ≤ s5.2 then
    gx_rt (.inr (s5.1 : Int32))
  else
    gx_bd (gx_ia (80 :: x0) s5.2) fun v7 =>
    gx_bd (
      if v7 = x1 then
        gx_rt (s5.1 : Int32)
      else
        gx_bd (gx_ia (79 :: x0) s5.2) fun v8 =>
        gx_bd (gx_is (79 :: x0) s5.1 v8) fun _ =>
        gx_bd (gx_ia (80 :: x0) s5.2) fun v9 =>
        gx_bd (gx_is (80 :: x0) s5.1 v9) fun _ =>
        gx_rt ((s5.1 + 1) : Int32)) fun j10 =>
    gx_rt (.inl ((j10 : Int32), ((s5.2 + 1) : Int32)))
noncomputable def f_X16_crash (x0 : gx_Nm) (x1 : Int32) (x2 : Int32) : gx_M (Unit) :=
  gx_bd (f_X16_up x0 x1) fun v1 =>
  gx_bd (
    if v1 = 0 then
      gx_rt (2 : Int32)
    else
      if x2 < 0 then
        gx_rt (1 : Int32)
      else
        gx_bd (gx_ia (63 :: x0) x1) fun v2 =>
        if x2 ≤ v2 then
          gx_rt (0 : Int32)
        else
          gx_rt (1 : Int32)) fun j3 =>
  gx_bd (gx_pi x0 0 j3) fun _ =>
  gx_bd (gx_gi x0 0) fun v4 =>
  if v4 = 0 then
    gx_bd (f_X16_toDisk x0 x1 x2) fun _ =>
    gx_bd (gx_lp (lb_X16_crash_1 x0 x1) ((0 : Int32), (0 : Int32))) fun j11 =>
    gx_bd (gx_pi x0 81 j11) fun _ =>
    gx_bd (f_X16_leave x0 x1 0) fun _ =>
    gx_bd (gx_is (30 :: x0) x1 (1 &&& 1)) fun _ =>
    gx_rt ()
  else
    gx_rt ()
noncomputable def f_X16_start (x0 : gx_Nm) (x1 : Int32) : gx_M (Unit) :=
  gx_bd (
    if x1 < 0 then
      gx_rt (1 : Int32)
    else
      gx_bd (gx_gi x0 29) fun v1 =>
      if v1 ≤ x1 then
        gx_rt (1 : Int32)
      else
        gx_bd (gx_ia (30 :: x0) x1) fun v2 =>
        if v2 = 0 then
          gx_rt (1 : Int32)
        else
          gx_rt (0 : Int32)) fun j3 =>
  gx_bd (gx_pi x0 0 j3) fun _ =>
  gx_bd (gx_gi x0 0) fun v4 =>
  if v4 = 0 then
    gx_bd (gx_is (30 :: x0) x1 (0 &&& 1)) fun _ =>
    gx_bd (f_X16_begin x0 x1) fun _ =>
    gx_rt ()
  else
    gx_rt ()
noncomputable def lb_X16_grants_1 (x0 : gx_Nm) (x1 : Int32) (s1 : Int32 × Int32) : gx_M ((Int32 × Int32) ⊕ (Int32)) :=
  gx_bd (gx_gi x0 29) fun v2 =>
  if v2 ≤ s1.2 then
    gx_rt (.inr (s1.1 : Int32))
  else
    gx_bd (gx_ra (56 :: x0) x1) fun v3 =>
    gx_bd (gx_ia v3 s1.2) fun v4 =>
    gx_bd (
      if v4 = 0 then
        gx_rt (s1.1 : Int32)
      else
        gx_rt ((s1.1 + 1) : Int32)) fun j5 =>
    gx_rt (.inl ((j5 : Int32), ((s1.2 + 1) : Int32)))
noncomputable def f_X16_grants (x0 : gx_Nm) (x1 : Int32) : gx_M (Int32) :=
  gx_bd (gx_lp (lb_X16_grants_1 x0 x1) ((0 : Int32), (0 : Int32))) fun j6 =>
  gx_rt j6
noncomputable def lb_X16_drop_1 (x0 : gx_Nm) (s2 : Int32) : gx_M ((Int32) ⊕ (Unit)) :=
  gx_bd (gx_gi x0 78) fun v3 =>
  if v3 ≤ s2 then
    gx_rt (.inr ())
  else
    gx_bd (gx_ia (77 :: x0) (s2 + 1)) fun v4 =>
    gx_bd (gx_is (77 :: x0) s2 v4) fun _ =>
    gx_rt (.inl ((s2 + 1) : Int32))
noncomputable def f_X16_drop (x0 : gx_Nm) (x1 : Int32) : gx_M (Unit) :=
  gx_bd (gx_gi x0 78) fun v1 =>
  gx_bd (gx_pi x0 78 (v1 - 1)) fun _ =>
  gx_bd (gx_lp (lb_X16_drop_1 x0) (x1 : Int32)) fun _ =>
  gx_rt ()
noncomputable def f_X16_newer (x0 : gx_Nm) (x1 : Int32) (x2 : Int32) : gx_M (Unit) :=
  gx_bd (f_X16_vote x0 x1 x2 (-1)) fun _ =>
  gx_bd (f_X16_leave x0 x1 0) fun _ =>
  gx_bd (gx_is (46 :: x0) x1 (-1)) fun _ =>
  gx_rt ()
noncomputable def f_X16_asked (x0 : gx_Nm) (x1 : Int32) (x2 : Int32) : gx_M (Unit) :=
  gx_bd (gx_ia (69 :: x0) x2) fun v1 =>
  gx_bd (gx_ia (36 :: x0) x1) fun v2 =>
  gx_bd (f_X16_termAt x0 x1 v2) fun v3 =>
  gx_bd (
    if v3 < v1 then
      gx_rt (1 : Int32)
    else
      gx_bd (gx_ia (69 :: x0) x2) fun v4 =>
      gx_bd (gx_ia (36 :: x0) x1) fun v5 =>
      gx_bd (f_X16_termAt x0 x1 v5) fun v6 =>
      if v4 = v6 then
        gx_bd (gx_ia (68 :: x0) x2) fun v7 =>
        gx_bd (gx_ia (36 :: x0) x1) fun v8 =>
        if v7 < v8 then
          gx_rt (0 : Int32)
        else
          gx_rt (1 : Int32)
      else
        gx_rt (0 : Int32)) fun j9 =>
  gx_bd (gx_ia (67 :: x0) x2) fun v10 =>
  gx_bd (gx_ia (31 :: x0) x1) fun v11 =>
  gx_bd (
    if v10 = v11 then
      gx_bd (gx_ia (32 :: x0) x1) fun v12 =>
      if v12 = (-1) then
        if j9 = 0 then
          gx_rt (0 : Int32)
        else
          gx_rt (1 : Int32)
      else
        gx_bd (gx_ia (32 :: x0) x1) fun v13 =>
        gx_bd (gx_ia (65 :: x0) x2) fun v14 =>
        if v13 = v14 then
          if j9 = 0 then
            gx_rt (0 : Int32)
          else
            gx_rt (1 : Int32)
        else
          gx_rt (0 : Int32)
    else
      gx_rt (0 : Int32)) fun j15 =>
  gx_bd (
    if j15 = 0 then
      gx_rt ()
    else
      gx_bd (gx_ia (32 :: x0) x1) fun v16 =>
      if v16 = (-1) then
        gx_bd (gx_ia (31 :: x0) x1) fun v17 =>
        gx_bd (gx_ia (65 :: x0) x2) fun v18 =>
        gx_bd (f_X16_vote x0 x1 v17 v18) fun _ =>
        gx_rt ()
      else
        gx_rt ()) fun _ =>
  gx_bd (gx_ia (65 :: x0) x2) fun v19 =>
  gx_bd (f_X16_message x0 2 x1 v19) fun v20 =>
  gx_bd (
    if j15 = 0 then
      gx_rt (0 : Int32)
    else
      gx_rt (1 : Int32)) fun j21 =>
  gx_bd (gx_is (69 :: x0) v20 j21) fun _ =>
  gx_bd (f_X16_send x0 v20) fun _ =>
  gx_rt ()
noncomputable def f_X16_answered (x0 : gx_Nm) (x1 : Int32) (x2 : Int32) : gx_M (Unit) :=
  gx_bd (gx_ia (45 :: x0) x1) fun v1 =>
  if v1 = 1 then
    gx_bd (gx_ia (67 :: x0) x2) fun v2 =>
    gx_bd (gx_ia (31 :: x0) x1) fun v3 =>
    if v2 = v3 then
      gx_bd (gx_ia (69 :: x0) x2) fun v4 =>
      if v4 = 0 then
        gx_rt ()
      else
        gx_bd (gx_ra (56 :: x0) x1) fun v5 =>
        gx_bd (gx_ia (65 :: x0) x2) fun v6 =>
        gx_bd (gx_is v5 v6 (1 &&& 1)) fun _ =>
        gx_bd (f_X16_grants x0 x1) fun v7 =>
        gx_bd (gx_gi x0 29) fun v8 =>
        gx_bd (
          if (2 * v7) ≤ v8 then
            gx_rt ()
          else
            gx_bd (f_X16_lead x0 x1) fun _ =>
            gx_rt ()) fun _ =>
        gx_rt ()
    else
      gx_rt ()
  else
    gx_rt ()
noncomputable def f_X16_taken_2 (x0 : gx_Nm) (x1 : Int32) (x2 : Int32) (x3 : Int32) (x4 : Int32) (x5 : Int32) : gx_M (Unit) :=
  gx_bd (f_X16_message x0 4 x1 x2) fun v1 =>
  gx_bd (gx_is (68 :: x0) v1 x4) fun _ =>
  gx_bd (
    if x3 = 0 then
      gx_rt (0 : Int32)
    else
      gx_rt (1 : Int32)) fun j2 =>
  gx_bd (gx_is (69 :: x0) v1 j2) fun _ =>
  gx_bd (gx_is (71 :: x0) v1 x5) fun _ =>
  gx_bd (f_X16_send x0 v1) fun _ =>
  gx_rt ()
noncomputable def lb_X16_appended_1 (x0 : gx_Nm) (x2 : Int32) (x1 : Int32) (v4 : Int32) (s12 : Int32) : gx_M ((Int32) ⊕ (Unit)) :=
  gx_bd (gx_ia (70 :: x0) x2) fun v13 =>
  if v13 ≤ s12 then
    gx_rt (.inr ())
  else
    gx_bd (gx_ia (74 :: x0) ((4 * x2) + s12)) fun v14 =>
    gx_bd (gx_ia (33 :: x0) x1) fun v15 =>
    gx_bd (
      if ((v4 + 1) + s12) ≤ v15 then
        gx_rt ()
      else
        gx_bd (gx_ia (36 :: x0) x1) fun v16 =>
        gx_bd (
          if v16 < ((v4 + 1) + s12) then
            gx_rt false
          else
            gx_bd (gx_ra (37 :: x0) x1) fun v17 =>
            gx_bd (gx_ia v17 ((v4 + 1) + s12)) fun v18 =>
            gx_bd (gx_ia (8 :: x0) v18) fun v19 =>
            gx_bd (gx_ia (8 :: x0) v14) fun v20 =>
            if v19 = v20 then
              gx_rt true
            else
              gx_rt false) fun b21 =>
        if b21 = true then
          gx_rt ()
        else
          gx_bd (f_X16_add x0 x1 ((v4 + 1) + s12) v14) fun _ =>
          gx_rt ()) fun _ =>
    gx_rt (.inl ((s12 + 1) : Int32))
noncomputable def f_X16_appended (x0 : gx_Nm) (x1 : Int32) (x2 : Int32) : gx_M (Unit) :=
  gx_bd (gx_ia (65 :: x0) x2) fun v1 =>
  gx_bd (gx_ia (67 :: x0) x2) fun v2 =>
  gx_bd (gx_ia (31 :: x0) x1) fun v3 =>
  if v3 ≤ v2 then
    gx_bd (f_X16_leave x0 x1 0) fun _ =>
    gx_bd (gx_is (46 :: x0) x1 v1) fun _ =>
    gx_bd (gx_ia (68 :: x0) x2) fun v4 =>
    gx_bd (gx_ia (36 :: x0) x1) fun v5 =>
    gx_bd (
      if v5 < v4 then
        gx_rt true
      else
        gx_bd (gx_ia (33 :: x0) x1) fun v6 =>
        if v4 < v6 then
          gx_rt false
        else
          gx_bd (f_X16_termAt x0 x1 v4) fun v7 =>
          gx_bd (gx_ia (69 :: x0) x2) fun v8 =>
          if v7 = v8 then
            gx_rt false
          else
            gx_rt true) fun b9 =>
    if b9 = true then
      gx_bd (gx_ia (36 :: x0) x1) fun v10 =>
      gx_bd (gx_ia (71 :: x0) x2) fun v11 =>
      gx_bd (f_X16_taken_2 x0 x1 v1 0 (gx_min (v4 - 1) v10) v11) fun _ =>
      gx_rt ()
    else
      gx_bd (gx_lp (lb_X16_appended_1 x0 x2 x1 v4) (0 : Int32)) fun _ =>
      gx_bd (gx_ia (72 :: x0) x2) fun v22 =>
      gx_bd (gx_ia (70 :: x0) x2) fun v23 =>
      gx_bd (f_X16_applyTo x0 x1 (gx_min v22 (v4 + v23))) fun _ =>
      gx_bd (gx_ia (70 :: x0) x2) fun v24 =>
      gx_bd (gx_ia (71 :: x0) x2) fun v25 =>
      gx_bd (f_X16_taken_2 x0 x1 v1 1 (v4 + v24) v25) fun _ =>
      gx_rt ()
  else
    gx_bd (f_X16_taken_2 x0 x1 v1 0 0 0) fun _ =>
    gx_rt ()
noncomputable def f_X16_field (x0 : gx_Nm) (x1 : Int32) : gx_M (gx_Nm) :=
  if x1 = 0 then
    gx_rt (97 :: x0)
  else
  if x1 = 1 then
    gx_rt (98 :: x0)
  else
  if x1 = 2 then
    gx_rt (99 :: x0)
  else
  if x1 = 3 then
    gx_rt (100 :: x0)
  else
  if x1 = 4 then
    gx_rt (101 :: x0)
  else
  if x1 = 5 then
    gx_rt (102 :: x0)
  else
  if x1 = 6 then
    gx_rt (103 :: x0)
  else
  gx_rt (104 :: x0)
noncomputable def lb_X16_remember_1 (x0 : gx_Nm) (s1 : Int32) (s2 : Int32) : gx_M ((Int32) ⊕ (Unit)) :=
  gx_bd (gx_gi x0 107) fun v3 =>
  if v3 ≤ s2 then
    gx_rt (.inr ())
  else
    gx_bd (gx_ra (109 :: x0) s1) fun v4 =>
    gx_bd (f_X16_field x0 s1) fun v5 =>
    gx_bd (gx_ia v5 s2) fun v6 =>
    gx_bd (gx_is v4 s2 v6) fun _ =>
    gx_rt (.inl ((s2 + 1) : Int32))
noncomputable def lb_X16_remember_2 (x0 : gx_Nm) (s1 : Int32) : gx_M ((Int32) ⊕ (Unit)) :=
  if 8 ≤ s1 then
    gx_rt (.inr ())
  else
    gx_bd (gx_lp (lb_X16_remember_1 x0 s1) (0 : Int32)) fun _ =>
    gx_rt (.inl ((s1 + 1) : Int32))
noncomputable def lb_X16_remember_3 (x0 : gx_Nm) (s8 : Int32) : gx_M ((Int32) ⊕ (Unit)) :=
  if 100 ≤ s8 then
    gx_rt (.inr ())
  else
    gx_bd (gx_ia (105 :: x0) s8) fun v9 =>
    gx_bd (gx_is (106 :: x0) s8 (v9 &&& 1)) fun _ =>
    gx_rt (.inl ((s8 + 1) : Int32))
noncomputable def f_X16_remember (x0 : gx_Nm) : gx_M (Unit) :=
  gx_bd (gx_lp (lb_X16_remember_2 x0) (0 : Int32)) fun _ =>
  gx_bd (gx_gi x0 107) fun v7 =>
  gx_bd (gx_pi x0 110 v7) fun _ =>
  gx_bd (gx_lp (lb_X16_remember_3 x0) (0 : Int32)) fun _ =>
  gx_rt ()
noncomputable def lb_X16_compare_1 (x2 : Int32) (x5 : Int32) (x0 : gx_Nm) (x1 : Int32) (x3 : gx_Nm) (x4 : Int32) (s1 : Int32) : gx_M ((Int32) ⊕ ((Unit) ⊕ (Int32))) :=
  if x2 ≤ s1 then
    gx_rt (.inr (.inl ()))
  else
    if x5 ≤ s1 then
      gx_rt (.inr (.inl ()))
    else
      gx_bd (gx_ia x0 (x1 + s1)) fun v2 =>
      gx_bd (gx_ia x3 (x4 + s1)) fun v3 =>
      if (v2 &&& 255) = (v3 &&& 255) then
        gx_rt (.inl ((s1 + 1) : Int32))
      else
        gx_rt (.inr (.inr ((v2 &&& 255) - (v3 &&& 255))))
noncomputable def f_X16_compare (x0 : gx_Nm) (x1 : Int32) (x2 : Int32) (x3 : gx_Nm) (x4 : Int32) (x5 : Int32) : gx_M (Int32) :=
  gx_bd (gx_lp (lb_X16_compare_1 x2 x5 x0 x1 x3 x4) (0 : Int32)) fun j4 => match j4 with
  | .inr r => gx_rt r
  | .inl _ =>
    gx_rt (x2 - x5)
noncomputable def lb_X16_findPair_1 (x0 : gx_Nm) (x1 : gx_Nm) (x2 : Int32) (x3 : Int32) (s1 : Int32) : gx_M ((Int32) ⊕ ((Unit) ⊕ (Int32))) :=
  gx_bd (gx_gi x0 107) fun v2 =>
  if v2 ≤ s1 then
    gx_rt (.inr (.inl ()))
  else
    gx_bd (gx_ia (97 :: x0) s1) fun v3 =>
    gx_bd (gx_ia (98 :: x0) s1) fun v4 =>
    gx_bd (f_X16_compare (19 :: x0) v3 v4 x1 x2 x3) fun v5 =>
    if v5 = 0 then
      gx_rt (.inr (.inr s1))
    else
      gx_rt (.inl ((s1 + 1) : Int32))
noncomputable def f_X16_findPair (x0 : gx_Nm) (x1 : gx_Nm) (x2 : Int32) (x3 : Int32) : gx_M (Int32) :=
  gx_bd (gx_lp (lb_X16_findPair_1 x0 x1 x2 x3) (0 : Int32)) fun j6 => match j6 with
  | .inr r => gx_rt r
  | .inl _ =>
    gx_rt (-1)
noncomputable def f_X16_holds (x0 : gx_Nm) (x1 : Int32) : gx_M (Int32) :=
  gx_bd (gx_ia (15 :: x0) x1) fun v1 =>
  gx_bd (gx_ia (16 :: x0) x1) fun v2 =>
  gx_bd (f_X16_findPair x0 (19 :: x0) v1 v2) fun v3 =>
  gx_bd (
    if 0 ≤ v3 then
      gx_bd (gx_ia (12 :: x0) x1) fun v4 =>
      if v4 = 0 then
        gx_bd (gx_ia (101 :: x0) v3) fun v5 =>
        gx_rt (v5 : Int32)
      else
        gx_bd (gx_ia (12 :: x0) x1) fun v6 =>
        if v6 = 1 then
          gx_bd (gx_ia (102 :: x0) v3) fun v7 =>
          gx_rt (v7 : Int32)
        else
          gx_bd (gx_ia (12 :: x0) x1) fun v8 =>
          if v8 = 2 then
            gx_bd (gx_ia (103 :: x0) v3) fun v9 =>
            gx_rt (v9 : Int32)
          else
            gx_bd (gx_ia (104 :: x0) v3) fun v10 =>
            gx_rt (v10 : Int32)
    else
      gx_rt (0 : Int32)) fun j11 =>
  gx_bd (gx_ia (13 :: x0) x1) fun v12 =>
  if v12 = 0 then
    gx_bd (gx_ia (14 :: x0) x1) fun v13 =>
    gx_bd (
      if j11 = v13 then
        gx_rt (1 : Int32)
      else
        gx_rt (0 : Int32)) fun j14 =>
    gx_rt j14
  else
  if v12 = 1 then
    gx_bd (gx_ia (14 :: x0) x1) fun v15 =>
    gx_bd (
      if j11 = v15 then
        gx_rt (0 : Int32)
      else
        gx_rt (1 : Int32)) fun j16 =>
    gx_rt j16
  else
  if v12 = 2 then
    gx_bd (gx_ia (14 :: x0) x1) fun v17 =>
    gx_bd (
      if v17 ≤ j11 then
        gx_rt (0 : Int32)
      else
        gx_rt (1 : Int32)) fun j18 =>
    gx_rt j18
  else
  gx_bd (gx_ia (14 :: x0) x1) fun v19 =>
  gx_bd (
    if j11 ≤ v19 then
      gx_rt (0 : Int32)
    else
      gx_rt (1 : Int32)) fun j20 =>
  gx_rt j20
noncomputable def lb_X16_puts_1 (x0 : gx_Nm) (x1 : Int32) (s5 : Int32) : gx_M ((Int32) ⊕ (Int32)) :=
  if s5 ≤ 0 then
    gx_rt (.inr (s5 : Int32))
  else
    gx_bd (gx_ia (97 :: x0) (s5 - 1)) fun v6 =>
    gx_bd (gx_ia (98 :: x0) (s5 - 1)) fun v7 =>
    gx_bd (gx_ia (15 :: x0) x1) fun v8 =>
    gx_bd (gx_ia (16 :: x0) x1) fun v9 =>
    gx_bd (f_X16_compare (19 :: x0) v6 v7 (19 :: x0) v8 v9) fun v10 =>
    if v10 ≤ 0 then
      gx_rt (.inr (s5 : Int32))
    else
      gx_rt (.inl ((s5 + (-1)) : Int32))
noncomputable def lb_X16_puts_2 (j11 : Int32) (x0 : gx_Nm) (s12 : Int32) (s14 : Int32) : gx_M ((Int32) ⊕ (Unit)) :=
  if s14 ≤ j11 then
    gx_rt (.inr ())
  else
    gx_bd (f_X16_field x0 s12) fun v15 =>
    gx_bd (f_X16_field x0 s12) fun v16 =>
    gx_bd (gx_ia v16 (s14 - 1)) fun v17 =>
    gx_bd (gx_is v15 s14 v17) fun _ =>
    gx_rt (.inl ((s14 + (-1)) : Int32))
noncomputable def lb_X16_puts_3 (x0 : gx_Nm) (j11 : Int32) (s12 : Int32) : gx_M ((Int32) ⊕ (Unit)) :=
  if 8 ≤ s12 then
    gx_rt (.inr ())
  else
    gx_bd (gx_gi x0 107) fun v13 =>
    gx_bd (gx_lp (lb_X16_puts_2 j11 x0 s12) (v13 : Int32)) fun _ =>
    gx_rt (.inl ((s12 + 1) : Int32))
noncomputable def f_X16_puts (x0 : gx_Nm) (x1 : Int32) (x2 : Int32) : gx_M (Int32) :=
  gx_bd (gx_ia (15 :: x0) x1) fun v1 =>
  gx_bd (gx_ia (16 :: x0) x1) fun v2 =>
  gx_bd (f_X16_findPair x0 (19 :: x0) v1 v2) fun v3 =>
  gx_bd (
    if 0 ≤ v3 then
      gx_rt (v3 : Int32)
    else
      gx_bd (gx_gi x0 107) fun v4 =>
      gx_bd (gx_lp (lb_X16_puts_1 x0 x1) (v4 : Int32)) fun j11 =>
      gx_bd (gx_lp (lb_X16_puts_3 x0 j11) (0 : Int32)) fun _ =>
      gx_bd (gx_gi x0 107) fun v18 =>
      gx_bd (gx_pi x0 107 (v18 + 1)) fun _ =>
      gx_bd (gx_ia (15 :: x0) x1) fun v19 =>
      gx_bd (gx_is (97 :: x0) j11 v19) fun _ =>
      gx_bd (gx_ia (16 :: x0) x1) fun v20 =>
      gx_bd (gx_is (98 :: x0) j11 v20) fun _ =>
      gx_bd (gx_gi x0 108) fun v21 =>
      gx_bd (gx_is (101 :: x0) j11 (v21 + 1)) fun _ =>
      gx_bd (gx_is (103 :: x0) j11 0) fun _ =>
      gx_rt (j11 : Int32)) fun j22 =>
  gx_bd (gx_ia (17 :: x0) x1) fun v23 =>
  gx_bd (gx_is (99 :: x0) j22 v23) fun _ =>
  gx_bd (gx_ia (18 :: x0) x1) fun v24 =>
  gx_bd (gx_is (100 :: x0) j22 v24) fun _ =>
  gx_bd (gx_gi x0 108) fun v25 =>
  gx_bd (gx_is (102 :: x0) j22 (v25 + 1)) fun _ =>
  gx_bd (gx_ia (103 :: x0) j22) fun v26 =>
  gx_bd (gx_is (103 :: x0) j22 (v26 + 1)) fun _ =>
  gx_bd (gx_is (104 :: x0) j22 x2) fun _ =>
  gx_rt 1
noncomputable def f_X16_inRange (x0 : gx_Nm) (x1 : Int32) (x2 : gx_Nm) (x3 : Int32) (x4 : Int32) (x5 : gx_Nm) (x6 : Int32) (x7 : Int32) : gx_M (Int32) :=
  gx_bd (gx_ia (97 :: x0) x1) fun v1 =>
  gx_bd (gx_ia (98 :: x0) x1) fun v2 =>
  gx_bd (f_X16_compare (19 :: x0) v1 v2 x2 x3 x4) fun v3 =>
  if x7 = 0 then
    gx_bd (
      if v3 = 0 then
        gx_rt (1 : Int32)
      else
        gx_rt (0 : Int32)) fun j4 =>
    gx_rt j4
  else
    if 0 ≤ v3 then
      gx_bd (
        if x7 = 1 then
          gx_bd (gx_ia x5 x6) fun v5 =>
          if v5 = 0 then
            gx_rt (1 : Int32)
          else
            gx_bd (gx_ia (97 :: x0) x1) fun v6 =>
            gx_bd (gx_ia (98 :: x0) x1) fun v7 =>
            gx_bd (f_X16_compare (19 :: x0) v6 v7 x5 x6 x7) fun v8 =>
            if 0 ≤ v8 then
              gx_rt (0 : Int32)
            else
              gx_rt (1 : Int32)
        else
          gx_bd (gx_ia (97 :: x0) x1) fun v9 =>
          gx_bd (gx_ia (98 :: x0) x1) fun v10 =>
          gx_bd (f_X16_compare (19 :: x0) v9 v10 x5 x6 x7) fun v11 =>
          if 0 ≤ v11 then
            gx_rt (0 : Int32)
          else
            gx_rt (1 : Int32)) fun j12 =>
      gx_rt j12
    else
      gx_rt 0
noncomputable def lb_X16_remove_1 (x0 : gx_Nm) (s1 : Int32) (s2 : Int32) : gx_M ((Int32) ⊕ (Unit)) :=
  gx_bd (gx_gi x0 107) fun v3 =>
  if (v3 - 1) ≤ s2 then
    gx_rt (.inr ())
  else
    gx_bd (f_X16_field x0 s1) fun v4 =>
    gx_bd (f_X16_field x0 s1) fun v5 =>
    gx_bd (gx_ia v5 (s2 + 1)) fun v6 =>
    gx_bd (gx_is v4 s2 v6) fun _ =>
    gx_rt (.inl ((s2 + 1) : Int32))
noncomputable def lb_X16_remove_2 (x0 : gx_Nm) (x1 : Int32) (s1 : Int32) : gx_M ((Int32) ⊕ (Unit)) :=
  if 8 ≤ s1 then
    gx_rt (.inr ())
  else
    gx_bd (gx_lp (lb_X16_remove_1 x0 s1) (x1 : Int32)) fun _ =>
    gx_rt (.inl ((s1 + 1) : Int32))
noncomputable def f_X16_remove (x0 : gx_Nm) (x1 : Int32) : gx_M (Unit) :=
  gx_bd (gx_lp (lb_X16_remove_2 x0 x1) (0 : Int32)) fun _ =>
  gx_bd (gx_gi x0 107) fun v7 =>
  gx_bd (gx_pi x0 107 (v7 - 1)) fun _ =>
  gx_rt ()
noncomputable def f_X16_gone (x0 : gx_Nm) (x1 : Int32) : gx_M (Unit) :=
  gx_bd (f_X16_remove x0 x1) fun _ =>
  gx_bd (gx_gi x0 112) fun v1 =>
  gx_bd (gx_pi x0 112 (v1 + 1)) fun _ =>
  gx_bd (gx_pi x0 113 (1 &&& 1)) fun _ =>
  gx_rt ()
noncomputable def lb_X16_does_1 (x0 : gx_Nm) (x1 : Int32) (s7 : Int32) : gx_M ((Int32) ⊕ (Unit)) :=
  if s7 < 0 then
    gx_rt (.inr ())
  else
    gx_bd (gx_ia (15 :: x0) x1) fun v8 =>
    gx_bd (gx_ia (16 :: x0) x1) fun v9 =>
    gx_bd (gx_ia (17 :: x0) x1) fun v10 =>
    gx_bd (gx_ia (18 :: x0) x1) fun v11 =>
    gx_bd (f_X16_inRange x0 s7 (19 :: x0) v8 v9 (19 :: x0) v10 v11) fun v12 =>
    gx_bd (
      if v12 = 0 then
        gx_rt ()
      else
        gx_bd (f_X16_gone x0 s7) fun _ =>
        gx_rt ()) fun _ =>
    gx_rt (.inl ((s7 + (-1)) : Int32))
noncomputable def lb_X16_does_2 (x0 : gx_Nm) (v1 : Int32) (s16 : Int32) : gx_M ((Int32) ⊕ (Unit)) :=
  if s16 < 0 then
    gx_rt (.inr ())
  else
    gx_bd (gx_ia (104 :: x0) s16) fun v17 =>
    gx_bd (
      if v17 = v1 then
        gx_bd (f_X16_gone x0 s16) fun _ =>
        gx_rt ()
      else
        gx_rt ()) fun _ =>
    gx_rt (.inl ((s16 + (-1)) : Int32))
noncomputable def f_X16_does (x0 : gx_Nm) (x1 : Int32) : gx_M (Int32) :=
  gx_bd (gx_ia (14 :: x0) x1) fun v1 =>
  gx_bd (gx_ia (12 :: x0) x1) fun v2 =>
  if v2 = 0 then
    gx_bd (
      if v1 = 0 then
        gx_rt false
      else
        gx_bd (gx_ia (105 :: x0) v1) fun v3 =>
        if v3 = 0 then
          gx_rt true
        else
          gx_rt false) fun b4 =>
    if b4 = true then
      gx_rt 0
    else
      gx_bd (gx_pi x0 113 (1 &&& 1)) fun _ =>
      gx_bd (f_X16_puts x0 x1 v1) fun v5 =>
      gx_rt v5
  else
  if v2 = 1 then
    gx_bd (gx_gi x0 107) fun v6 =>
    gx_bd (gx_lp (lb_X16_does_1 x0 x1) ((v6 - 1) : Int32)) fun _ =>
    gx_rt 1
  else
  if v2 = 2 then
    gx_bd (gx_ia (105 :: x0) v1) fun v13 =>
    if v13 = 0 then
      gx_bd (gx_is (105 :: x0) v1 (1 &&& 1)) fun _ =>
      gx_rt 1
    else
      gx_rt 0
  else
  gx_bd (gx_ia (105 :: x0) v1) fun v14 =>
  if v14 = 0 then
    gx_rt 0
  else
    gx_bd (gx_is (105 :: x0) v1 (0 &&& 1)) fun _ =>
    gx_bd (gx_gi x0 107) fun v15 =>
    gx_bd (gx_lp (lb_X16_does_2 x0 v1) ((v15 - 1) : Int32)) fun _ =>
    gx_rt 1
noncomputable def lb_X16_back_1 (x0 : gx_Nm) (s2 : Int32) (s3 : Int32) : gx_M ((Int32) ⊕ (Unit)) :=
  gx_bd (gx_gi x0 107) fun v4 =>
  if v4 ≤ s3 then
    gx_rt (.inr ())
  else
    gx_bd (f_X16_field x0 s2) fun v5 =>
    gx_bd (gx_ra (109 :: x0) s2) fun v6 =>
    gx_bd (gx_ia v6 s3) fun v7 =>
    gx_bd (gx_is v5 s3 v7) fun _ =>
    gx_rt (.inl ((s3 + 1) : Int32))
noncomputable def lb_X16_back_2 (x0 : gx_Nm) (s2 : Int32) : gx_M ((Int32) ⊕ (Unit)) :=
  if 8 ≤ s2 then
    gx_rt (.inr ())
  else
    gx_bd (gx_lp (lb_X16_back_1 x0 s2) (0 : Int32)) fun _ =>
    gx_rt (.inl ((s2 + 1) : Int32))
noncomputable def lb_X16_back_3 (x0 : gx_Nm) (s8 : Int32) : gx_M ((Int32) ⊕ (Unit)) :=
  if 100 ≤ s8 then
    gx_rt (.inr ())
  else
    gx_bd (gx_ia (106 :: x0) s8) fun v9 =>
    gx_bd (gx_is (105 :: x0) s8 (v9 &&& 1)) fun _ =>
    gx_rt (.inl ((s8 + 1) : Int32))
noncomputable def f_X16_back (x0 : gx_Nm) : gx_M (Unit) :=
  gx_bd (gx_gi x0 110) fun v1 =>
  gx_bd (gx_pi x0 107 v1) fun _ =>
  gx_bd (gx_lp (lb_X16_back_2 x0) (0 : Int32)) fun _ =>
  gx_bd (gx_lp (lb_X16_back_3 x0) (0 : Int32)) fun _ =>
  gx_rt ()
noncomputable def lb_X16_apply_1 (x0 : gx_Nm) (x1 : Int32) (s1 : Int32 × Int32) : gx_M ((Int32 × Int32) ⊕ (Int32)) :=
  gx_bd (gx_ia (9 :: x0) x1) fun v2 =>
  if v2 ≤ s1.2 then
    gx_rt (.inr (s1.1 : Int32))
  else
    gx_bd (
      if s1.1 = 0 then
        gx_rt (0 : Int32)
      else
        gx_bd (f_X16_holds x0 ((16 * x1) + s1.2)) fun v3 =>
        if v3 = 0 then
          gx_rt (0 : Int32)
        else
          gx_rt (1 : Int32)) fun j4 =>
    gx_rt (.inl ((j4 : Int32), ((s1.2 + 1) : Int32)))
noncomputable def lb_X16_apply_2 (j10 : Int32) (x0 : gx_Nm) (x1 : Int32) (j7 : Int32) (s11 : Int32 × Int32) : gx_M ((Int32 × Int32) ⊕ (Int32)) :=
  if j10 ≤ s11.2 then
    gx_rt (.inr (s11.1 : Int32))
  else
    if s11.1 = 0 then
      gx_rt (.inr (s11.1 : Int32))
    else
      gx_bd (f_X16_does x0 (((16 * x1) + j7) + s11.2)) fun v12 =>
      gx_rt (.inl ((v12 : Int32), ((s11.2 + 1) : Int32)))
noncomputable def f_X16_apply (x0 : gx_Nm) (x1 : Int32) : gx_M (Unit) :=
  gx_bd (f_X16_remember x0) fun _ =>
  gx_bd (gx_pi x0 112 0) fun _ =>
  gx_bd (gx_pi x0 113 (0 &&& 1)) fun _ =>
  gx_bd (gx_lp (lb_X16_apply_1 x0 x1) ((1 : Int32), (0 : Int32))) fun j5 =>
  gx_bd (
    if j5 = 0 then
      gx_rt (0 : Int32)
    else
      gx_rt (1 : Int32)) fun j6 =>
  gx_bd (gx_pi x0 111 j6) fun _ =>
  gx_bd (
    if j5 = 0 then
      gx_rt (10 : Int32)
    else
      gx_rt (4 : Int32)) fun j7 =>
  gx_bd (
    if j5 = 0 then
      gx_bd (gx_ia (11 :: x0) x1) fun v8 =>
      gx_rt (v8 : Int32)
    else
      gx_bd (gx_ia (10 :: x0) x1) fun v9 =>
      gx_rt (v9 : Int32)) fun j10 =>
  gx_bd (gx_lp (lb_X16_apply_2 j10 x0 x1 j7) ((1 : Int32), (0 : Int32))) fun j13 =>
  gx_bd (
    if j13 = 0 then
      gx_rt true
    else
      gx_bd (gx_gi x0 107) fun v14 =>
      if v14 ≤ 200 then
        gx_rt false
      else
        gx_rt true) fun b15 =>
  if b15 = true then
    gx_bd (f_X16_back x0) fun _ =>
    gx_bd (gx_pi x0 111 2) fun _ =>
    gx_bd (gx_pi x0 112 0) fun _ =>
    gx_rt ()
  else
    gx_bd (gx_gi x0 113) fun v16 =>
    gx_bd (
      if v16 = 0 then
        gx_rt ()
      else
        gx_bd (gx_gi x0 108) fun v17 =>
        gx_bd (gx_pi x0 108 (v17 + 1)) fun _ =>
        gx_rt ()) fun _ =>
    gx_rt ()
noncomputable def lb_X16_store_1 (x0 : gx_Nm) (s2 : Int32) : gx_M ((Int32) ⊕ (Unit)) :=
  if s2 ≤ 0 then
    gx_rt (.inr ())
  else
    gx_bd (gx_ia (26 :: x0) s2) fun v3 =>
    gx_bd (gx_ia (25 :: x0) s2) fun v4 =>
    gx_bd (gx_is (114 :: x0) v3 v4) fun _ =>
    gx_bd (gx_ia (24 :: x0) s2) fun v5 =>
    gx_rt (.inl (v5 : Int32))
noncomputable def lb_X16_store_2 (x0 : gx_Nm) (s6 : Int32) : gx_M ((Int32) ⊕ (Unit)) :=
  if 100 ≤ s6 then
    gx_rt (.inr ())
  else
    gx_bd (gx_is (105 :: x0) s6 (0 &&& 1)) fun _ =>
    gx_rt (.inl ((s6 + 1) : Int32))
noncomputable def lb_X16_store_3 (v1 : Int32) (x2 : Int32) (x3 : Int32) (x0 : gx_Nm) (s7 : Int32) : gx_M ((Int32) ⊕ ((Unit) ⊕ (Unit))) :=
  if v1 < s7 then
    gx_rt (.inr (.inl ()))
  else
    if x2 < s7 then
      gx_rt (.inr (.inl ()))
    else
      gx_bd (
        if x3 < 0 then
          gx_rt false
        else
          gx_bd (gx_gi x0 108) fun v8 =>
          if v8 = x3 then
            gx_rt true
          else
            gx_rt false) fun b9 =>
      if b9 = true then
        gx_bd (f_X16_remember x0) fun _ =>
        gx_bd (gx_gi x0 108) fun v10 =>
        gx_bd (gx_ia (114 :: x0) s7) fun v11 =>
        gx_bd (f_X16_apply x0 v11) fun _ =>
        gx_bd (gx_gi x0 108) fun v12 =>
        if v12 = v10 then
          gx_rt (.inl ((s7 + 1) : Int32))
        else
          gx_bd (gx_gi x0 110) fun v13 =>
          gx_bd (gx_pi x0 107 v13) fun _ =>
          gx_bd (f_X16_back x0) fun _ =>
          gx_bd (gx_pi x0 108 v10) fun _ =>
          gx_rt (.inr (.inr ()))
      else
        gx_bd (gx_ia (114 :: x0) s7) fun v14 =>
        gx_bd (f_X16_apply x0 v14) fun _ =>
        gx_rt (.inl ((s7 + 1) : Int32))
noncomputable def f_X16_store (x0 : gx_Nm) (x1 : Int32) (x2 : Int32) (x3 : Int32) : gx_M (Unit) :=
  gx_bd (gx_ia (26 :: x0) x1) fun v1 =>
  gx_bd (gx_lp (lb_X16_store_1 x0) (x1 : Int32)) fun _ =>
  gx_bd (gx_pi x0 107 0) fun _ =>
  gx_bd (gx_pi x0 108 0) fun _ =>
  gx_bd (gx_lp (lb_X16_store_2 x0) (0 : Int32)) fun _ =>
  gx_bd (gx_pi x0 111 1) fun _ =>
  gx_bd (gx_pi x0 112 0) fun _ =>
  gx_bd (gx_lp (lb_X16_store_3 v1 x2 x3 x0) (1 : Int32)) fun j15 => match j15 with
  | .inr r => gx_rt r
  | .inl _ =>
    gx_rt ()
noncomputable def f_X16_now (x0 : gx_Nm) (x1 : Int32) : gx_M (Unit) :=
  gx_bd (gx_ia (48 :: x0) x1) fun v1 =>
  gx_bd (f_X16_store x0 v1 1501 (-1)) fun _ =>
  gx_rt ()
noncomputable def lb_X16_lookAtReads_1 (x0 : gx_Nm) (x1 : Int32) (s1 : Int32) (s5 : Int32 × Int32) : gx_M ((Int32 × Int32) ⊕ (Int32)) :=
  gx_bd (gx_gi x0 29) fun v6 =>
  if v6 ≤ s5.2 then
    gx_rt (.inr (s5.1 : Int32))
  else
    gx_bd (
      if s5.2 = x1 then
        gx_rt ((s5.1 + 1) : Int32)
      else
        gx_bd (gx_ra (55 :: x0) x1) fun v7 =>
        gx_bd (gx_ia v7 s5.2) fun v8 =>
        gx_bd (gx_ia (85 :: x0) s1) fun v9 =>
        if v8 < v9 then
          gx_rt (s5.1 : Int32)
        else
          gx_rt ((s5.1 + 1) : Int32)) fun j10 =>
    gx_rt (.inl ((j10 : Int32), ((s5.2 + 1) : Int32)))
noncomputable def lb_X16_lookAtReads_2 (x0 : gx_Nm) (x1 : Int32) (s1 : Int32) : gx_M ((Int32) ⊕ (Unit)) :=
  gx_bd (gx_gi x0 93) fun v2 =>
  if v2 ≤ s1 then
    gx_rt (.inr ())
  else
    gx_bd (gx_ia (82 :: x0) s1) fun v3 =>
    gx_bd (
      if v3 = x1 then
        gx_bd (gx_ia (87 :: x0) s1) fun v4 =>
        if v4 = 0 then
          gx_bd (gx_lp (lb_X16_lookAtReads_1 x0 x1 s1) ((0 : Int32), (0 : Int32))) fun j11 =>
          gx_bd (gx_gi x0 29) fun v12 =>
          if v12 < (2 * j11) then
            gx_bd (gx_is (87 :: x0) s1 (1 &&& 1)) fun _ =>
            gx_bd (gx_ia (47 :: x0) x1) fun v13 =>
            gx_bd (gx_ia (84 :: x0) s1) fun v14 =>
            gx_bd (
              if v14 ≤ v13 then
                gx_rt ()
              else
                gx_bd (gx_gi x0 96) fun v15 =>
                gx_bd (gx_pi x0 96 (v15 + 1)) fun _ =>
                gx_rt ()) fun _ =>
            gx_bd (f_X16_now x0 x1) fun _ =>
            gx_bd (gx_ia (86 :: x0) s1) fun v16 =>
            gx_bd (f_X16_findPair x0 (92 :: x0) (32 * s1) v16) fun v17 =>
            gx_bd (
              if 0 ≤ v17 then
                gx_rt (1 : Int32)
              else
                gx_rt (0 : Int32)) fun j18 =>
            gx_bd (gx_is (88 :: x0) s1 j18) fun _ =>
            gx_bd (
              if 0 ≤ v17 then
                gx_bd (gx_ia (102 :: x0) v17) fun v19 =>
                gx_rt (v19 : Int32)
              else
                gx_rt (0 : Int32)) fun j20 =>
            gx_bd (gx_is (89 :: x0) s1 j20) fun _ =>
            gx_bd (
              if 0 ≤ v17 then
                gx_bd (gx_ia (103 :: x0) v17) fun v21 =>
                gx_rt (v21 : Int32)
              else
                gx_rt (0 : Int32)) fun j22 =>
            gx_bd (gx_is (90 :: x0) s1 j22) fun _ =>
            gx_bd (gx_gi x0 108) fun v23 =>
            gx_bd (gx_is (91 :: x0) s1 v23) fun _ =>
            gx_rt ()
          else
            gx_rt ()
        else
          gx_rt ()
      else
        gx_rt ()) fun _ =>
    gx_rt (.inl ((s1 + 1) : Int32))
noncomputable def f_X16_lookAtReads (x0 : gx_Nm) (x1 : Int32) : gx_M (Unit) :=
  gx_bd (gx_lp (lb_X16_lookAtReads_2 x0 x1) (0 : Int32)) fun _ =>
  gx_rt ()
noncomputable def f_X16_tookIn (x0 : gx_Nm) (x1 : Int32) (x2 : Int32) : gx_M (Unit) :=
  gx_bd (gx_ia (45 :: x0) x1) fun v1 =>
  if v1 = 2 then
    gx_bd (gx_ia (67 :: x0) x2) fun v2 =>
    gx_bd (gx_ia (31 :: x0) x1) fun v3 =>
    if v2 = v3 then
      gx_bd (gx_ia (65 :: x0) x2) fun v4 =>
      gx_bd (gx_ia (68 :: x0) x2) fun v5 =>
      gx_bd (gx_ra (55 :: x0) x1) fun v6 =>
      gx_bd (gx_ra (55 :: x0) x1) fun v7 =>
      gx_bd (gx_ia v7 v4) fun v8 =>
      gx_bd (gx_ia (71 :: x0) x2) fun v9 =>
      gx_bd (gx_is v6 v4 (gx_max v8 v9)) fun _ =>
      gx_bd (gx_ia (69 :: x0) x2) fun v10 =>
      gx_bd (
        if v10 = 1 then
          gx_bd (gx_ra (54 :: x0) x1) fun v11 =>
          gx_bd (gx_ra (54 :: x0) x1) fun v12 =>
          gx_bd (gx_ia v12 v4) fun v13 =>
          gx_bd (gx_is v11 v4 (gx_max v13 v5)) fun _ =>
          gx_bd (gx_ra (53 :: x0) x1) fun v14 =>
          gx_bd (gx_ra (53 :: x0) x1) fun v15 =>
          gx_bd (gx_ia v15 v4) fun v16 =>
          gx_bd (gx_ra (54 :: x0) x1) fun v17 =>
          gx_bd (gx_ia v17 v4) fun v18 =>
          gx_bd (gx_is v14 v4 (gx_max v16 (v18 + 1))) fun _ =>
          gx_bd (f_X16_lookForCommit x0 x1) fun _ =>
          gx_bd (gx_ra (53 :: x0) x1) fun v19 =>
          gx_bd (gx_ia v19 v4) fun v20 =>
          if v5 < (v20 - 1) then
            gx_rt ()
          else
            gx_bd (gx_ra (53 :: x0) x1) fun v21 =>
            gx_bd (gx_ia v21 v4) fun v22 =>
            gx_bd (gx_ia (36 :: x0) x1) fun v23 =>
            if v23 < v22 then
              gx_rt ()
            else
              gx_bd (f_X16_append x0 x1 v4) fun _ =>
              gx_rt ()
        else
          gx_bd (gx_ra (53 :: x0) x1) fun v24 =>
          gx_bd (gx_ra (54 :: x0) x1) fun v25 =>
          gx_bd (gx_ia v25 v4) fun v26 =>
          gx_bd (gx_is v24 v4 (gx_max (v26 + 1) (v5 + 1))) fun _ =>
          gx_bd (f_X16_append x0 x1 v4) fun _ =>
          gx_rt ()) fun _ =>
      gx_bd (f_X16_lookAtReads x0 x1) fun _ =>
      gx_rt ()
    else
      gx_rt ()
  else
    gx_rt ()
noncomputable def f_X16_snapshot (x0 : gx_Nm) (x1 : Int32) (x2 : Int32) (x3 : Int32) (x4 : Int32) : gx_M (Unit) :=
  gx_bd (gx_ia (36 :: x0) x1) fun v1 =>
  gx_bd (
    if v1 < x2 then
      gx_rt (0 : Int32)
    else
      gx_bd (gx_ia (33 :: x0) x1) fun v2 =>
      if x2 < v2 then
        gx_rt (0 : Int32)
      else
        gx_bd (f_X16_termAt x0 x1 x2) fun v3 =>
        if v3 = x3 then
          gx_rt (1 : Int32)
        else
          gx_rt (0 : Int32)) fun j4 =>
  gx_bd (
    if j4 = 0 then
      gx_bd (gx_is (36 :: x0) x1 x2) fun _ =>
      gx_rt ()
    else
      gx_rt ()) fun _ =>
  gx_bd (gx_is (33 :: x0) x1 x2) fun _ =>
  gx_bd (gx_is (34 :: x0) x1 x3) fun _ =>
  gx_bd (gx_is (35 :: x0) x1 x4) fun _ =>
  gx_bd (f_X16_record x0 x1 2 x2 x3 x4) fun _ =>
  gx_rt ()
noncomputable def f_X16_stated (x0 : gx_Nm) (x1 : Int32) (x2 : Int32) : gx_M (Unit) :=
  gx_bd (gx_ia (65 :: x0) x2) fun v1 =>
  gx_bd (gx_ia (67 :: x0) x2) fun v2 =>
  gx_bd (gx_ia (31 :: x0) x1) fun v3 =>
  if v3 ≤ v2 then
    gx_bd (f_X16_leave x0 x1 0) fun _ =>
    gx_bd (gx_is (46 :: x0) x1 v1) fun _ =>
    gx_bd (gx_ia (68 :: x0) x2) fun v4 =>
    gx_bd (gx_ia (47 :: x0) x1) fun v5 =>
    gx_bd (
      if v4 ≤ v5 then
        gx_rt ()
      else
        gx_bd (gx_ia (69 :: x0) x2) fun v6 =>
        gx_bd (gx_ia (73 :: x0) x2) fun v7 =>
        gx_bd (f_X16_snapshot x0 x1 v4 v6 v7) fun _ =>
        gx_bd (gx_is (47 :: x0) x1 v4) fun _ =>
        gx_bd (gx_gi x0 115) fun v8 =>
        gx_bd (gx_pi x0 115 (gx_max v8 v4)) fun _ =>
        gx_bd (gx_ia (73 :: x0) x2) fun v9 =>
        gx_bd (gx_is (48 :: x0) x1 v9) fun _ =>
        gx_bd (gx_is (49 :: x0) x1 v4) fun _ =>
        gx_bd (gx_is (50 :: x0) x1 0) fun _ =>
        gx_rt ()) fun _ =>
    gx_bd (gx_ia (71 :: x0) x2) fun v10 =>
    gx_bd (f_X16_taken_2 x0 x1 v1 1 v4 v10) fun _ =>
    gx_rt ()
  else
    gx_bd (f_X16_taken_2 x0 x1 v1 0 0 0) fun _ =>
    gx_rt ()
noncomputable def f_X16_deliver (x0 : gx_Nm) (x1 : Int32) (x2 : Int32) : gx_M (Unit) :=
  gx_bd (
    if x1 < 0 then
      gx_rt (1 : Int32)
    else
      gx_bd (gx_gi x0 78) fun v1 =>
      if x1 < v1 then
        gx_rt (0 : Int32)
      else
        gx_rt (1 : Int32)) fun j2 =>
  gx_bd (gx_pi x0 0 j2) fun _ =>
  gx_bd (gx_gi x0 0) fun v3 =>
  if v3 = 0 then
    gx_bd (gx_ia (77 :: x0) x1) fun v4 =>
    gx_bd (gx_ia (66 :: x0) v4) fun v5 =>
    gx_bd (gx_ia (64 :: x0) v4) fun v6 =>
    gx_bd (
      if v6 = 2 then
        gx_bd (gx_ia (30 :: x0) v5) fun v7 =>
        if v7 = 0 then
          gx_bd (gx_ia (45 :: x0) v5) fun v8 =>
          if v8 = 1 then
            gx_bd (gx_ia (67 :: x0) v4) fun v9 =>
            gx_bd (gx_ia (31 :: x0) v5) fun v10 =>
            if v9 = v10 then
              gx_bd (gx_ia (69 :: x0) v4) fun v11 =>
              if v11 = 1 then
                gx_bd (f_X16_grants x0 v5) fun v12 =>
                gx_bd (gx_ra (56 :: x0) v5) fun v13 =>
                gx_bd (gx_ia (65 :: x0) v4) fun v14 =>
                gx_bd (gx_ia v13 v14) fun v15 =>
                gx_bd (
                  if v15 = 0 then
                    gx_rt (1 : Int32)
                  else
                    gx_rt (0 : Int32)) fun j16 =>
                gx_bd (gx_gi x0 29) fun v17 =>
                if (2 * (v12 + j16)) ≤ v17 then
                  gx_rt (0 : Int32)
                else
                  gx_rt (1 : Int32)
              else
                gx_rt (0 : Int32)
            else
              gx_rt (0 : Int32)
          else
            gx_rt (0 : Int32)
        else
          gx_rt (0 : Int32)
      else
        gx_rt (0 : Int32)) fun j18 =>
    gx_bd (
      if j18 = 0 then
        gx_rt false
      else
        gx_bd (gx_gi x0 20) fun v19 =>
        if v19 = 1500 then
          gx_rt true
        else
          gx_rt false) fun b20 =>
    if b20 = true then
      gx_bd (gx_pi x0 0 2) fun _ =>
      gx_rt ()
    else
      gx_bd (
        if x2 = 0 then
          gx_bd (f_X16_drop x0 x1) fun _ =>
          gx_rt ()
        else
          gx_rt ()) fun _ =>
      gx_bd (gx_ia (30 :: x0) v5) fun v21 =>
      if v21 = 0 then
        gx_bd (gx_ia (67 :: x0) v4) fun v22 =>
        gx_bd (gx_ia (31 :: x0) v5) fun v23 =>
        gx_bd (
          if v22 ≤ v23 then
            gx_rt ()
          else
            gx_bd (gx_ia (67 :: x0) v4) fun v24 =>
            gx_bd (f_X16_newer x0 v5 v24) fun _ =>
            gx_rt ()) fun _ =>
        gx_bd (gx_ia (64 :: x0) v4) fun v25 =>
        gx_bd (
          if v25 = 1 then
            gx_bd (f_X16_asked x0 v5 v4) fun _ =>
            gx_rt ()
          else
          if v25 = 2 then
            gx_bd (f_X16_answered x0 v5 v4) fun _ =>
            gx_rt ()
          else
          if v25 = 3 then
            gx_bd (f_X16_appended x0 v5 v4) fun _ =>
            gx_rt ()
          else
          if v25 = 4 then
            gx_bd (f_X16_tookIn x0 v5 v4) fun _ =>
            gx_rt ()
          else
          gx_bd (f_X16_stated x0 v5 v4) fun _ =>
          gx_rt ()) fun _ =>
        gx_rt ()
      else
        gx_rt ()
  else
    gx_rt ()
noncomputable def f_X16_lose (x0 : gx_Nm) (x1 : Int32) : gx_M (Unit) :=
  gx_bd (
    if x1 < 0 then
      gx_rt (1 : Int32)
    else
      gx_bd (gx_gi x0 78) fun v1 =>
      if x1 < v1 then
        gx_rt (0 : Int32)
      else
        gx_rt (1 : Int32)) fun j2 =>
  gx_bd (gx_pi x0 0 j2) fun _ =>
  gx_bd (gx_gi x0 0) fun v3 =>
  gx_bd (
    if v3 = 0 then
      gx_bd (f_X16_drop x0 x1) fun _ =>
      gx_rt ()
    else
      gx_rt ()) fun _ =>
  gx_rt ()
noncomputable def f_X16_snapshot_2 (x0 : gx_Nm) (x1 : Int32) : gx_M (Int32) :=
  gx_bd (f_X16_up x0 x1) fun v1 =>
  if v1 = 0 then
    gx_bd (f_X16_no x0 2) fun v2 =>
    gx_rt v2
  else
    gx_bd (gx_ia (47 :: x0) x1) fun v3 =>
    gx_bd (gx_ia (33 :: x0) x1) fun v4 =>
    if v3 = v4 then
      gx_bd (f_X16_no x0 1) fun v5 =>
      gx_rt v5
    else
      gx_bd (gx_pi x0 0 0) fun _ =>
      gx_bd (gx_ia (47 :: x0) x1) fun v6 =>
      gx_bd (gx_ia (47 :: x0) x1) fun v7 =>
      gx_bd (f_X16_termAt x0 x1 v7) fun v8 =>
      gx_bd (gx_ia (48 :: x0) x1) fun v9 =>
      gx_bd (f_X16_snapshot x0 x1 v6 v8 v9) fun _ =>
      gx_bd (gx_ia (33 :: x0) x1) fun v10 =>
      gx_rt v10
noncomputable def lb_X16_readsWaiting_1 (x0 : gx_Nm) (x1 : Int32) (s1 : Int32 × Int32) : gx_M ((Int32 × Int32) ⊕ (Int32)) :=
  gx_bd (gx_gi x0 93) fun v2 =>
  if v2 ≤ s1.2 then
    gx_rt (.inr (s1.1 : Int32))
  else
    gx_bd (gx_ia (82 :: x0) s1.2) fun v3 =>
    gx_bd (
      if v3 = x1 then
        gx_bd (gx_ia (87 :: x0) s1.2) fun v4 =>
        if v4 = 0 then
          gx_rt ((s1.1 + 1) : Int32)
        else
          gx_rt (s1.1 : Int32)
      else
        gx_rt (s1.1 : Int32)) fun j5 =>
    gx_rt (.inl ((j5 : Int32), ((s1.2 + 1) : Int32)))
noncomputable def f_X16_readsWaiting (x0 : gx_Nm) (x1 : Int32) : gx_M (Int32) :=
  gx_bd (gx_lp (lb_X16_readsWaiting_1 x0 x1) ((0 : Int32), (0 : Int32))) fun j6 =>
  gx_rt j6
noncomputable def lb_X16_read_1 (x0 : gx_Nm) (v16 : Int32) (s24 : Int32) : gx_M ((Int32) ⊕ (Unit)) :=
  gx_bd (gx_gi x0 5) fun v25 =>
  if v25 ≤ s24 then
    gx_rt (.inr ())
  else
    gx_bd (gx_ia (2 :: x0) s24) fun v26 =>
    gx_bd (gx_is (92 :: x0) ((32 * v16) + s24) v26.toInt8.toInt32) fun _ =>
    gx_rt (.inl ((s24 + 1) : Int32))
noncomputable def f_X16_read (x0 : gx_Nm) (x1 : Int32) : gx_M (Int32) :=
  gx_bd (f_X16_taken x0) fun v1 =>
  gx_bd (
    if v1 = 1 then
      gx_bd (gx_gi x0 5) fun v2 =>
      gx_bd (f_X16_isKey v2) fun v3 =>
      if v3 = 0 then
        gx_rt true
      else
        gx_rt false
    else
      gx_rt true) fun b4 =>
  if b4 = true then
    gx_bd (f_X16_no x0 1) fun v5 =>
    gx_rt v5
  else
    gx_bd (f_X16_up x0 x1) fun v6 =>
    if v6 = 0 then
      gx_bd (f_X16_no x0 3) fun v7 =>
      gx_rt v7
    else
      gx_bd (gx_ia (45 :: x0) x1) fun v8 =>
      gx_bd (
        if v8 = 2 then
          gx_bd (gx_ia (47 :: x0) x1) fun v9 =>
          gx_bd (f_X16_termAt x0 x1 v9) fun v10 =>
          gx_bd (gx_ia (31 :: x0) x1) fun v11 =>
          if v10 = v11 then
            gx_rt false
          else
            gx_rt true
        else
          gx_rt true) fun b12 =>
      if b12 = true then
        gx_bd (f_X16_no x0 2) fun v13 =>
        gx_rt v13
      else
        gx_bd (f_X16_readsWaiting x0 x1) fun v14 =>
        if v14 = 16 then
          gx_bd (f_X16_no x0 4) fun v15 =>
          gx_rt v15
        else
          gx_bd (gx_pi x0 0 0) fun _ =>
          gx_bd (gx_gi x0 93) fun v16 =>
          gx_bd (gx_gi x0 93) fun v17 =>
          gx_bd (gx_pi x0 93 (v17 + 1)) fun _ =>
          gx_bd (gx_is (82 :: x0) v16 x1) fun _ =>
          gx_bd (gx_ia (94 :: x0) x1) fun v18 =>
          gx_bd (gx_is (83 :: x0) v16 v18) fun _ =>
          gx_bd (gx_ia (94 :: x0) x1) fun v19 =>
          gx_bd (gx_is (94 :: x0) x1 (v19 + 1)) fun _ =>
          gx_bd (gx_gi x0 115) fun v20 =>
          gx_bd (gx_is (84 :: x0) v16 v20) fun _ =>
          gx_bd (gx_ia (51 :: x0) x1) fun v21 =>
          gx_bd (gx_is (51 :: x0) x1 (v21 + 1)) fun _ =>
          gx_bd (gx_ia (51 :: x0) x1) fun v22 =>
          gx_bd (gx_is (85 :: x0) v16 v22) fun _ =>
          gx_bd (gx_is (87 :: x0) v16 (0 &&& 1)) fun _ =>
          gx_bd (gx_gi x0 5) fun v23 =>
          gx_bd (gx_is (86 :: x0) v16 v23) fun _ =>
          gx_bd (gx_lp (lb_X16_read_1 x0 v16) (0 : Int32)) fun _ =>
          gx_bd (f_X16_appendAll x0 x1) fun _ =>
          gx_bd (f_X16_lookAtReads x0 x1) fun _ =>
          gx_bd (gx_ia (83 :: x0) v16) fun v27 =>
          gx_rt v27
noncomputable def lb_X16_answer_1 (x0 : gx_Nm) (x1 : Int32) (x2 : Int32) (x3 : Int32) (s3 : Int32) : gx_M ((Int32) ⊕ ((Unit) ⊕ (Int32))) :=
  gx_bd (gx_gi x0 93) fun v4 =>
  if v4 ≤ s3 then
    gx_rt (.inr (.inl ()))
  else
    if x1 < 0 then
      gx_rt (.inr (.inl ()))
    else
      gx_bd (gx_ia (82 :: x0) s3) fun v5 =>
      if v5 = x1 then
        gx_bd (gx_ia (83 :: x0) s3) fun v6 =>
        if v6 = x2 then
          gx_bd (gx_ia (87 :: x0) s3) fun v7 =>
          if v7 = 0 then
            gx_rt (.inl ((s3 + 1) : Int32))
          else
            gx_bd (gx_pi x0 0 0) fun _ =>
            gx_bd (
              if x3 = 0 then
                gx_bd (gx_ia (88 :: x0) s3) fun v8 =>
                gx_rt (v8 : Int32)
              else
                if x3 = 1 then
                  gx_bd (gx_ia (89 :: x0) s3) fun v9 =>
                  gx_rt (v9 : Int32)
                else
                  if x3 = 2 then
                    gx_bd (gx_ia (90 :: x0) s3) fun v10 =>
                    gx_rt (v10 : Int32)
                  else
                    gx_bd (gx_ia (91 :: x0) s3) fun v11 =>
                    gx_rt (v11 : Int32)) fun j12 =>
            gx_rt (.inr (.inr j12))
        else
          gx_rt (.inl ((s3 + 1) : Int32))
      else
        gx_rt (.inl ((s3 + 1) : Int32))
noncomputable def f_X16_answer (x0 : gx_Nm) (x1 : Int32) (x2 : Int32) (x3 : Int32) : gx_M (Int32) :=
  gx_bd (
    if x3 < 0 then
      gx_rt true
    else
      if x3 ≤ 3 then
        gx_rt false
      else
        gx_rt true) fun b1 =>
  if b1 = true then
    gx_bd (f_X16_no x0 1) fun v2 =>
    gx_rt v2
  else
    gx_bd (gx_lp (lb_X16_answer_1 x0 x1 x2 x3) (0 : Int32)) fun j13 => match j13 with
    | .inr r => gx_rt r
    | .inl _ =>
      gx_bd (f_X16_no x0 2) fun v15 =>
      gx_rt v15
noncomputable def f_X16_at (x0 : gx_Nm) (x1 : Int32) (x2 : Int32) (x3 : Int32) (x4 : Int32) : gx_M (Int32) :=
  gx_bd (f_X16_up x0 x1) fun v1 =>
  if v1 = 0 then
    gx_rt x3
  else
    gx_bd (f_X16_now x0 x1) fun _ =>
    gx_bd (gx_gi x0 108) fun v2 =>
    gx_bd (
      if v2 < x2 then
        gx_rt true
      else
        if x2 = 0 then
          gx_rt false
        else
          gx_bd (gx_ia (50 :: x0) x1) fun v3 =>
          if v3 ≤ x2 then
            gx_rt false
          else
            gx_rt true) fun b4 =>
    if b4 = true then
      gx_rt x4
    else
      gx_bd (
        if x2 = 0 then
          gx_rt ()
        else
          gx_bd (gx_gi x0 108) fun v5 =>
          if v5 ≤ x2 then
            gx_rt ()
          else
            gx_bd (gx_ia (48 :: x0) x1) fun v6 =>
            gx_bd (f_X16_store x0 v6 1501 x2) fun _ =>
            gx_rt ()) fun _ =>
      gx_rt 0
noncomputable def f_X16_pair (x0 : gx_Nm) (x1 : Int32) (x2 : Int32) (x3 : Int32) : gx_M (Int32) :=
  gx_bd (f_X16_taken x0) fun v1 =>
  gx_bd (
    if v1 = 1 then
      gx_bd (gx_gi x0 5) fun v2 =>
      gx_bd (f_X16_isKey v2) fun v3 =>
      if v3 = 0 then
        gx_rt true
      else
        if x3 < 0 then
          gx_rt true
        else
          if 5 < x3 then
            gx_rt true
          else
            if 0 ≤ x2 then
              gx_rt false
            else
              gx_rt true
    else
      gx_rt true) fun b4 =>
  if b4 = true then
    gx_bd (f_X16_no x0 1) fun v5 =>
    gx_rt v5
  else
    gx_bd (f_X16_at x0 x1 x2 3 2) fun v6 =>
    if v6 = 0 then
      gx_bd (gx_pi x0 0 0) fun _ =>
      gx_bd (gx_gi x0 5) fun v7 =>
      gx_bd (f_X16_findPair x0 (2 :: x0) 0 v7) fun v8 =>
      if 0 ≤ v8 then
        if x3 = 0 then
          gx_rt 1
        else
        if x3 = 1 then
          gx_bd (gx_ia (101 :: x0) v8) fun v9 =>
          gx_rt v9
        else
        if x3 = 2 then
          gx_bd (gx_ia (102 :: x0) v8) fun v10 =>
          gx_rt v10
        else
        if x3 = 3 then
          gx_bd (gx_ia (103 :: x0) v8) fun v11 =>
          gx_rt v11
        else
        if x3 = 4 then
          gx_bd (gx_ia (104 :: x0) v8) fun v12 =>
          gx_rt v12
        else
        gx_bd (gx_ia (100 :: x0) v8) fun v13 =>
        gx_rt v13
      else
        gx_rt 0
    else
      gx_bd (f_X16_no x0 v6) fun v14 =>
      gx_rt v14
noncomputable def lb_X16_range_1 (x0 : gx_Nm) (x4 : Int32) (s8 : Int32 × Int32 × Int32) : gx_M ((Int32 × Int32 × Int32) ⊕ (Int32 × Int32)) :=
  gx_bd (gx_gi x0 107) fun v9 =>
  if v9 ≤ s8.2.2 then
    gx_rt (.inr ((s8.1 : Int32), (s8.2.1 : Int32)))
  else
    gx_bd (gx_gi x0 5) fun v10 =>
    gx_bd (gx_gi x0 6) fun v11 =>
    gx_bd (f_X16_inRange x0 s8.2.2 (2 :: x0) 0 v10 (3 :: x0) 0 v11) fun v12 =>
    gx_bd (
      if v12 = 0 then
        gx_rt ((s8.1 : Int32), (s8.2.1 : Int32))
      else
        gx_bd (
          if s8.1 = x4 then
            gx_rt (s8.2.2 : Int32)
          else
            gx_rt (s8.2.1 : Int32)) fun j13 =>
        gx_rt (((s8.1 + 1) : Int32), (j13 : Int32))) fun j14 =>
    gx_rt (.inl ((j14.1 : Int32), (j14.2 : Int32), ((s8.2.2 + 1) : Int32)))
noncomputable def f_X16_range (x0 : gx_Nm) (x1 : Int32) (x2 : Int32) (x3 : Int32) (x4 : Int32) (x5 : Int32) : gx_M (Int32) :=
  gx_bd (f_X16_taken x0) fun v1 =>
  gx_bd (
    if v1 = 2 then
      gx_bd (gx_gi x0 5) fun v2 =>
      gx_bd (f_X16_isKey v2) fun v3 =>
      if v3 = 0 then
        gx_rt true
      else
        gx_bd (gx_gi x0 6) fun v4 =>
        if 64 < v4 then
          gx_rt true
        else
          if x3 < 0 then
            gx_rt true
          else
            if 3 < x3 then
              gx_rt true
            else
              if 0 ≤ x2 then
                gx_rt false
              else
                gx_rt true
    else
      gx_rt true) fun b5 =>
  if b5 = true then
    gx_bd (f_X16_no x0 1) fun v6 =>
    gx_rt v6
  else
    gx_bd (f_X16_at x0 x1 x2 3 2) fun v7 =>
    if v7 = 0 then
      gx_bd (gx_lp (lb_X16_range_1 x0 x4) ((0 : Int32), ((-1) : Int32), (0 : Int32))) fun j15 =>
      gx_bd (gx_pi x0 0 0) fun _ =>
      if x3 = 0 then
        gx_rt j15.1
      else
        if 0 ≤ j15.2 then
          if x3 = 1 then
            gx_bd (gx_ia (98 :: x0) j15.2) fun v16 =>
            gx_rt v16
          else
            gx_bd (
              if x3 = 2 then
                gx_bd (gx_ia (98 :: x0) j15.2) fun v17 =>
                gx_rt (v17 : Int32)
              else
                gx_bd (gx_ia (100 :: x0) j15.2) fun v18 =>
                gx_rt (v18 : Int32)) fun j19 =>
            gx_bd (
              if x5 < 0 then
                gx_rt true
              else
                if x5 < j19 then
                  gx_rt false
                else
                  gx_rt true) fun b20 =>
            if b20 = true then
              gx_bd (f_X16_no x0 3) fun v21 =>
              gx_rt v21
            else
              gx_bd (
                if x3 = 2 then
                  gx_bd (gx_ia (97 :: x0) j15.2) fun v22 =>
                  gx_rt (v22 : Int32)
                else
                  gx_bd (gx_ia (99 :: x0) j15.2) fun v23 =>
                  gx_rt (v23 : Int32)) fun j24 =>
              gx_bd (gx_ia (19 :: x0) (j24 + x5)) fun v25 =>
              gx_rt (v25 &&& 255)
        else
          gx_bd (f_X16_no x0 3) fun v26 =>
          gx_rt v26
    else
      gx_bd (f_X16_no x0 v7) fun v27 =>
      gx_rt v27
noncomputable def lb_X16_event_2_1 (x0 : gx_Nm) (x1 : Int32) (x2 : Int32) (s2 : Int32) : gx_M ((Int32) ⊕ (Int32)) :=
  if s2 ≤ 0 then
    gx_rt (.inr (s2 : Int32))
  else
    gx_bd (gx_ia (116 :: x0) (s2 - 1)) fun v3 =>
    gx_bd (gx_ia (117 :: x0) (s2 - 1)) fun v4 =>
    gx_bd (f_X16_compare (19 :: x0) v3 v4 (19 :: x0) x1 x2) fun v5 =>
    if v5 ≤ 0 then
      gx_rt (.inr (s2 : Int32))
    else
      gx_bd (gx_ia (116 :: x0) (s2 - 1)) fun v6 =>
      gx_bd (gx_is (116 :: x0) s2 v6) fun _ =>
      gx_bd (gx_ia (117 :: x0) (s2 - 1)) fun v7 =>
      gx_bd (gx_is (117 :: x0) s2 v7) fun _ =>
      gx_bd (gx_ia (118 :: x0) (s2 - 1)) fun v8 =>
      gx_bd (gx_is (118 :: x0) s2 (v8 &&& 1)) fun _ =>
      gx_rt (.inl ((s2 + (-1)) : Int32))
noncomputable def f_X16_event_2 (x0 : gx_Nm) (x1 : Int32) (x2 : Int32) (x3 : Int32) : gx_M (Unit) :=
  gx_bd (gx_gi x0 121) fun v1 =>
  gx_bd (gx_lp (lb_X16_event_2_1 x0 x1 x2) (v1 : Int32)) fun j9 =>
  gx_bd (gx_is (116 :: x0) j9 x1) fun _ =>
  gx_bd (gx_is (117 :: x0) j9 x2) fun _ =>
  gx_bd (gx_is (118 :: x0) j9 (x3 &&& 1)) fun _ =>
  gx_bd (gx_gi x0 121) fun v10 =>
  gx_bd (gx_pi x0 121 (v10 + 1)) fun _ =>
  gx_rt ()
noncomputable def lb_X16_sameOld_1 (x0 : gx_Nm) (x1 : Int32) (x2 : Int32) (s1 : Int32) : gx_M ((Int32) ⊕ ((Unit) ⊕ (Int32))) :=
  if 8 ≤ s1 then
    gx_rt (.inr (.inl ()))
  else
    gx_bd (gx_ra (119 :: x0) s1) fun v2 =>
    gx_bd (gx_ia v2 x1) fun v3 =>
    gx_bd (f_X16_field x0 s1) fun v4 =>
    gx_bd (gx_ia v4 x2) fun v5 =>
    if v3 = v5 then
      gx_rt (.inl ((s1 + 1) : Int32))
    else
      gx_rt (.inr (.inr 0))
noncomputable def f_X16_sameOld (x0 : gx_Nm) (x1 : Int32) (x2 : Int32) : gx_M (Int32) :=
  gx_bd (gx_lp (lb_X16_sameOld_1 x0 x1 x2) (2 : Int32)) fun j6 => match j6 with
  | .inr r => gx_rt r
  | .inl _ =>
    gx_rt 1
noncomputable def lb_X16_history_1 (x0 : gx_Nm) (s2 : Int32) (s3 : Int32) : gx_M ((Int32) ⊕ (Unit)) :=
  gx_bd (gx_gi x0 107) fun v4 =>
  if v4 ≤ s3 then
    gx_rt (.inr ())
  else
    gx_bd (gx_ra (119 :: x0) s2) fun v5 =>
    gx_bd (f_X16_field x0 s2) fun v6 =>
    gx_bd (gx_ia v6 s3) fun v7 =>
    gx_bd (gx_is v5 s3 v7) fun _ =>
    gx_rt (.inl ((s3 + 1) : Int32))
noncomputable def lb_X16_history_2 (x0 : gx_Nm) (s2 : Int32) : gx_M ((Int32) ⊕ (Unit)) :=
  if 8 ≤ s2 then
    gx_rt (.inr ())
  else
    gx_bd (gx_lp (lb_X16_history_1 x0 s2) (0 : Int32)) fun _ =>
    gx_rt (.inl ((s2 + 1) : Int32))
noncomputable def lb_X16_history_3 (x0 : gx_Nm) (s10 : Int32) : gx_M ((Int32) ⊕ (Unit)) :=
  gx_bd (gx_gi x0 120) fun v11 =>
  if v11 ≤ s10 then
    gx_rt (.inr ())
  else
    gx_bd (gx_ra (119 :: x0) 0) fun v12 =>
    gx_bd (gx_ia v12 s10) fun v13 =>
    gx_bd (gx_ra (119 :: x0) 1) fun v14 =>
    gx_bd (gx_ia v14 s10) fun v15 =>
    gx_bd (f_X16_findPair x0 (19 :: x0) v13 v15) fun v16 =>
    gx_bd (
      if 0 ≤ v16 then
        gx_bd (f_X16_sameOld x0 s10 v16) fun v17 =>
        if v17 = 0 then
          gx_bd (gx_ia (97 :: x0) v16) fun v18 =>
          gx_bd (gx_ia (98 :: x0) v16) fun v19 =>
          gx_bd (f_X16_event_2 x0 v18 v19 0) fun _ =>
          gx_rt ()
        else
          gx_rt ()
      else
        gx_bd (gx_ra (119 :: x0) 0) fun v20 =>
        gx_bd (gx_ia v20 s10) fun v21 =>
        gx_bd (gx_ra (119 :: x0) 1) fun v22 =>
        gx_bd (gx_ia v22 s10) fun v23 =>
        gx_bd (f_X16_event_2 x0 v21 v23 1) fun _ =>
        gx_rt ()) fun _ =>
    gx_rt (.inl ((s10 + 1) : Int32))
noncomputable def lb_X16_history_4 (x0 : gx_Nm) (s24 : Int32) (s26 : Int32 × Int32) : gx_M ((Int32 × Int32) ⊕ (Int32)) :=
  gx_bd (gx_gi x0 120) fun v27 =>
  if v27 ≤ s26.2 then
    gx_rt (.inr (s26.1 : Int32))
  else
    gx_bd (
      if s26.1 = 0 then
        gx_bd (gx_ra (119 :: x0) 0) fun v28 =>
        gx_bd (gx_ia v28 s26.2) fun v29 =>
        gx_bd (gx_ra (119 :: x0) 1) fun v30 =>
        gx_bd (gx_ia v30 s26.2) fun v31 =>
        gx_bd (gx_ia (97 :: x0) s24) fun v32 =>
        gx_bd (gx_ia (98 :: x0) s24) fun v33 =>
        gx_bd (f_X16_compare (19 :: x0) v29 v31 (19 :: x0) v32 v33) fun v34 =>
        if v34 = 0 then
          gx_rt (1 : Int32)
        else
          gx_rt (0 : Int32)
      else
        gx_rt (1 : Int32)) fun j35 =>
    gx_rt (.inl ((j35 : Int32), ((s26.2 + 1) : Int32)))
noncomputable def lb_X16_history_5 (x0 : gx_Nm) (s24 : Int32) : gx_M ((Int32) ⊕ (Unit)) :=
  gx_bd (gx_gi x0 107) fun v25 =>
  if v25 ≤ s24 then
    gx_rt (.inr ())
  else
    gx_bd (gx_lp (lb_X16_history_4 x0 s24) ((0 : Int32), (0 : Int32))) fun j36 =>
    gx_bd (
      if j36 = 0 then
        gx_bd (gx_ia (97 :: x0) s24) fun v37 =>
        gx_bd (gx_ia (98 :: x0) s24) fun v38 =>
        gx_bd (f_X16_event_2 x0 v37 v38 0) fun _ =>
        gx_rt ()
      else
        gx_rt ()) fun _ =>
    gx_rt (.inl ((s24 + 1) : Int32))
noncomputable def f_X16_history (x0 : gx_Nm) (x1 : Int32) (x2 : Int32) : gx_M (Unit) :=
  gx_bd (gx_ia (48 :: x0) x1) fun v1 =>
  gx_bd (f_X16_store x0 v1 1501 (x2 - 1)) fun _ =>
  gx_bd (gx_lp (lb_X16_history_2 x0) (0 : Int32)) fun _ =>
  gx_bd (gx_gi x0 107) fun v8 =>
  gx_bd (gx_pi x0 120 v8) fun _ =>
  gx_bd (gx_ia (48 :: x0) x1) fun v9 =>
  gx_bd (f_X16_store x0 v9 1501 x2) fun _ =>
  gx_bd (gx_pi x0 121 0) fun _ =>
  gx_bd (gx_lp (lb_X16_history_3 x0) (0 : Int32)) fun _ =>
  gx_bd (gx_lp (lb_X16_history_5 x0) (0 : Int32)) fun _ =>
  gx_rt ()
noncomputable def f_X16_event (x0 : gx_Nm) (x1 : Int32) (x2 : Int32) (x3 : Int32) (x4 : Int32) (x5 : Int32) : gx_M (Int32) :=
  gx_bd (
    if x3 < 0 then
      gx_rt true
    else
      if x3 ≤ 3 then
        gx_rt false
      else
        gx_rt true) fun b1 =>
  if b1 = true then
    gx_bd (f_X16_no x0 1) fun v2 =>
    gx_rt v2
  else
    gx_bd (f_X16_up x0 x1) fun v3 =>
    if v3 = 0 then
      gx_bd (f_X16_no x0 3) fun v4 =>
      gx_rt v4
    else
      gx_bd (f_X16_now x0 x1) fun _ =>
      gx_bd (
        if x2 < 1 then
          gx_rt true
        else
          gx_bd (gx_gi x0 108) fun v5 =>
          if x2 ≤ v5 then
            gx_rt false
          else
            gx_rt true) fun b6 =>
      if b6 = true then
        gx_bd (f_X16_no x0 3) fun v7 =>
        gx_rt v7
      else
        gx_bd (gx_ia (50 :: x0) x1) fun v8 =>
        if v8 ≤ x2 then
          gx_bd (f_X16_history x0 x1 x2) fun _ =>
          gx_bd (gx_pi x0 0 0) fun _ =>
          if x3 = 0 then
            gx_bd (gx_gi x0 121) fun v9 =>
            gx_rt v9
          else
            gx_bd (
              if x4 < 0 then
                gx_rt true
              else
                gx_bd (gx_gi x0 121) fun v10 =>
                if x4 < v10 then
                  gx_rt false
                else
                  gx_rt true) fun b11 =>
            if b11 = true then
              gx_bd (f_X16_no x0 3) fun v12 =>
              gx_rt v12
            else
              if x3 = 1 then
                gx_bd (gx_ia (118 :: x0) x4) fun v13 =>
                gx_bd (
                  if v13 = 0 then
                    gx_rt (0 : Int32)
                  else
                    gx_rt (1 : Int32)) fun j14 =>
                gx_rt j14
              else
                if x3 = 2 then
                  gx_bd (gx_ia (117 :: x0) x4) fun v15 =>
                  gx_rt v15
                else
                  gx_bd (
                    if x5 < 0 then
                      gx_rt true
                    else
                      gx_bd (gx_ia (117 :: x0) x4) fun v16 =>
                      if x5 < v16 then
                        gx_rt false
                      else
                        gx_rt true) fun b17 =>
                  if b17 = true then
                    gx_bd (f_X16_no x0 3) fun v18 =>
                    gx_rt v18
                  else
                    gx_bd (gx_ia (116 :: x0) x4) fun v19 =>
                    gx_bd (gx_ia (19 :: x0) (v19 + x5)) fun v20 =>
                    gx_rt (v20 &&& 255)
        else
          gx_bd (f_X16_no x0 2) fun v21 =>
          gx_rt v21
noncomputable def f_X16_compact (x0 : gx_Nm) (x1 : Int32) (x2 : Int32) : gx_M (Unit) :=
  gx_bd (f_X16_up x0 x1) fun v1 =>
  if v1 = 0 then
    gx_bd (gx_pi x0 0 2) fun _ =>
    gx_rt ()
  else
    gx_bd (f_X16_now x0 x1) fun _ =>
    gx_bd (gx_ia (50 :: x0) x1) fun v2 =>
    gx_bd (
      if x2 < v2 then
        gx_rt (1 : Int32)
      else
        gx_bd (gx_gi x0 108) fun v3 =>
        if x2 ≤ v3 then
          gx_rt (0 : Int32)
        else
          gx_rt (1 : Int32)) fun j4 =>
    gx_bd (gx_pi x0 0 j4) fun _ =>
    gx_bd (gx_gi x0 0) fun v5 =>
    gx_bd (
      if v5 = 0 then
        gx_bd (gx_is (50 :: x0) x1 x2) fun _ =>
        gx_rt ()
      else
        gx_rt ()) fun _ =>
    gx_rt ()
noncomputable def f_X16_outcome (x0 : gx_Nm) (x1 : Int32) (x2 : Int32) (x3 : Int32) : gx_M (Int32) :=
  gx_bd (
    if x3 < 0 then
      gx_rt true
    else
      if x3 ≤ 2 then
        gx_rt false
      else
        gx_rt true) fun b1 =>
  if b1 = true then
    gx_bd (f_X16_no x0 1) fun v2 =>
    gx_rt v2
  else
    gx_bd (f_X16_up x0 x1) fun v3 =>
    gx_bd (
      if v3 = 0 then
        gx_rt true
      else
        gx_bd (gx_ia (49 :: x0) x1) fun v4 =>
        if x2 ≤ v4 then
          gx_rt true
        else
          gx_bd (gx_ia (47 :: x0) x1) fun v5 =>
          if x2 ≤ v5 then
            gx_rt false
          else
            gx_rt true) fun b6 =>
    if b6 = true then
      gx_bd (f_X16_no x0 2) fun v7 =>
      gx_rt v7
    else
      gx_bd (gx_pi x0 0 0) fun _ =>
      gx_bd (gx_ia (48 :: x0) x1) fun v8 =>
      gx_bd (f_X16_store x0 v8 x2 (-1)) fun _ =>
      gx_bd (
        if x3 = 0 then
          gx_bd (gx_gi x0 111) fun v9 =>
          gx_rt (v9 : Int32)
        else
          if x3 = 1 then
            gx_bd (gx_gi x0 108) fun v10 =>
            gx_rt (v10 : Int32)
          else
            gx_bd (gx_gi x0 112) fun v11 =>
            gx_rt (v11 : Int32)) fun j12 =>
      gx_rt j12
noncomputable def f_X16_message_2 (x0 : gx_Nm) (x1 : Int32) (x2 : Int32) : gx_M (Int32) :=
  gx_bd (
    if x2 < 0 then
      gx_rt true
    else
      if x2 ≤ 8 then
        gx_rt false
      else
        gx_rt true) fun b1 =>
  if b1 = true then
    gx_bd (f_X16_no x0 1) fun v2 =>
    gx_rt v2
  else
    gx_bd (
      if x1 < 0 then
        gx_rt true
      else
        gx_bd (gx_gi x0 78) fun v3 =>
        if x1 < v3 then
          gx_rt false
        else
          gx_rt true) fun b4 =>
    if b4 = true then
      gx_bd (f_X16_no x0 2) fun v5 =>
      gx_rt v5
    else
      gx_bd (gx_pi x0 0 0) fun _ =>
      gx_bd (gx_ia (77 :: x0) x1) fun v6 =>
      if x2 = 0 then
        gx_bd (gx_ia (64 :: x0) v6) fun v7 =>
        gx_rt v7
      else
      if x2 = 1 then
        gx_bd (gx_ia (65 :: x0) v6) fun v8 =>
        gx_rt v8
      else
      if x2 = 2 then
        gx_bd (gx_ia (66 :: x0) v6) fun v9 =>
        gx_rt v9
      else
      if x2 = 3 then
        gx_bd (gx_ia (67 :: x0) v6) fun v10 =>
        gx_rt v10
      else
      if x2 = 4 then
        gx_bd (gx_ia (68 :: x0) v6) fun v11 =>
        gx_rt v11
      else
      if x2 = 5 then
        gx_bd (gx_ia (69 :: x0) v6) fun v12 =>
        gx_rt v12
      else
      if x2 = 6 then
        gx_bd (gx_ia (70 :: x0) v6) fun v13 =>
        gx_rt v13
      else
      if x2 = 7 then
        gx_bd (gx_ia (71 :: x0) v6) fun v14 =>
        gx_rt v14
      else
      gx_bd (gx_ia (72 :: x0) v6) fun v15 =>
      gx_rt v15
noncomputable def f_X16_toldDown (x0 : gx_Nm) (x1 : Int32) (x2 : Int32) : gx_M (Int32) :=
  if x2 = 0 then
    gx_rt 1
  else
  if x2 = 1 then
    gx_bd (gx_ia (38 :: x0) x1) fun v1 =>
    gx_rt v1
  else
  if x2 = 2 then
    gx_bd (gx_ia (39 :: x0) x1) fun v2 =>
    gx_rt v2
  else
  if x2 = 4 then
    gx_rt (-1)
  else
  if x2 = 5 then
    gx_bd (gx_ia (43 :: x0) x1) fun v3 =>
    gx_rt v3
  else
  if x2 = 7 then
    gx_bd (gx_ia (40 :: x0) x1) fun v4 =>
    gx_rt v4
  else
  if x2 = 13 then
    gx_bd (gx_ia (43 :: x0) x1) fun v5 =>
    gx_bd (gx_ia (40 :: x0) x1) fun v6 =>
    gx_bd (
      if v5 = v6 then
        gx_bd (gx_ia (41 :: x0) x1) fun v7 =>
        gx_rt (v7 : Int32)
      else
        gx_bd (gx_ra (44 :: x0) x1) fun v8 =>
        gx_bd (gx_ia (43 :: x0) x1) fun v9 =>
        gx_bd (gx_ia v8 v9) fun v10 =>
        gx_bd (gx_ia (8 :: x0) v10) fun v11 =>
        gx_rt (v11 : Int32)) fun j12 =>
    gx_rt j12
  else
  gx_rt 0
noncomputable def lb_X16_told_1 (x0 : gx_Nm) (x1 : Int32) (s15 : Int32 × Int32) : gx_M ((Int32 × Int32) ⊕ (Int32)) :=
  gx_bd (gx_gi x0 81) fun v16 =>
  if v16 ≤ s15.2 then
    gx_rt (.inr (s15.1 : Int32))
  else
    gx_bd (gx_ia (80 :: x0) s15.2) fun v17 =>
    gx_bd (
      if v17 = x1 then
        gx_rt ((s15.1 + 1) : Int32)
      else
        gx_rt (s15.1 : Int32)) fun j18 =>
    gx_rt (.inl ((j18 : Int32), ((s15.2 + 1) : Int32)))
noncomputable def lb_X16_told_2 (x0 : gx_Nm) (s25 : Int32 × Int32) : gx_M ((Int32 × Int32) ⊕ (Int32)) :=
  if 100 ≤ s25.2 then
    gx_rt (.inr (s25.1 : Int32))
  else
    gx_bd (gx_ia (105 :: x0) s25.2) fun v26 =>
    gx_bd (
      if v26 = 0 then
        gx_rt (s25.1 : Int32)
      else
        gx_rt ((s25.1 + 1) : Int32)) fun j27 =>
    gx_rt (.inl ((j27 : Int32), ((s25.2 + 1) : Int32)))
noncomputable def f_X16_told (x0 : gx_Nm) (x1 : Int32) (x2 : Int32) : gx_M (Int32) :=
  gx_bd (
    if x2 < 0 then
      gx_rt true
    else
      if x2 ≤ 14 then
        gx_rt false
      else
        gx_rt true) fun b1 =>
  if b1 = true then
    gx_bd (f_X16_no x0 1) fun v2 =>
    gx_rt v2
  else
    gx_bd (
      if x1 < 0 then
        gx_rt true
      else
        gx_bd (gx_gi x0 29) fun v3 =>
        if x1 < v3 then
          gx_rt false
        else
          gx_rt true) fun b4 =>
    if b4 = true then
      gx_bd (f_X16_no x0 2) fun v5 =>
      gx_rt v5
    else
      gx_bd (gx_pi x0 0 0) fun _ =>
      gx_bd (gx_ia (30 :: x0) x1) fun v6 =>
      if v6 = 0 then
        if x2 = 0 then
          gx_rt 0
        else
        if x2 = 1 then
          gx_bd (gx_ia (31 :: x0) x1) fun v7 =>
          gx_rt v7
        else
        if x2 = 2 then
          gx_bd (gx_ia (32 :: x0) x1) fun v8 =>
          gx_rt v8
        else
        if x2 = 3 then
          gx_bd (gx_ia (45 :: x0) x1) fun v9 =>
          gx_rt v9
        else
        if x2 = 4 then
          gx_bd (gx_ia (46 :: x0) x1) fun v10 =>
          gx_rt v10
        else
        if x2 = 5 then
          gx_bd (gx_ia (36 :: x0) x1) fun v11 =>
          gx_rt v11
        else
        if x2 = 6 then
          gx_bd (gx_ia (47 :: x0) x1) fun v12 =>
          gx_rt v12
        else
        if x2 = 7 then
          gx_bd (gx_ia (33 :: x0) x1) fun v13 =>
          gx_rt v13
        else
        if x2 = 8 then
          gx_bd (f_X16_now x0 x1) fun _ =>
          gx_bd (gx_gi x0 108) fun v14 =>
          gx_rt v14
        else
        if x2 = 9 then
          gx_bd (gx_lp (lb_X16_told_1 x0 x1) ((0 : Int32), (0 : Int32))) fun j19 =>
          gx_rt j19
        else
        if x2 = 10 then
          gx_bd (gx_ia (63 :: x0) x1) fun v20 =>
          gx_rt v20
        else
        if x2 = 11 then
          gx_bd (f_X16_now x0 x1) fun _ =>
          gx_bd (gx_gi x0 107) fun v21 =>
          gx_rt v21
        else
        if x2 = 12 then
          gx_bd (f_X16_readsWaiting x0 x1) fun v22 =>
          gx_rt v22
        else
        if x2 = 13 then
          gx_bd (gx_ia (36 :: x0) x1) fun v23 =>
          gx_bd (f_X16_termAt x0 x1 v23) fun v24 =>
          gx_rt v24
        else
        gx_bd (f_X16_now x0 x1) fun _ =>
        gx_bd (gx_lp (lb_X16_told_2 x0) ((0 : Int32), (1 : Int32))) fun j28 =>
        gx_rt j28
      else
        gx_bd (f_X16_toldDown x0 x1 x2) fun v29 =>
        gx_rt v29
noncomputable def f_X16_count (x0 : gx_Nm) (x1 : Int32) : gx_M (Int32) :=
  gx_bd (gx_pi x0 0 0) fun _ =>
  if x1 = 0 then
    gx_bd (gx_gi x0 4) fun v1 =>
    gx_rt v1
  else
  if x1 = 1 then
    gx_bd (gx_gi x0 7) fun v2 =>
    gx_rt v2
  else
  if x1 = 2 then
    gx_bd (gx_gi x0 78) fun v3 =>
    gx_rt v3
  else
  if x1 = 3 then
    gx_bd (gx_gi x0 76) fun v4 =>
    gx_rt v4
  else
  if x1 = 4 then
    gx_bd (gx_ia (9 :: x0) 1501) fun v5 =>
    gx_bd (gx_ia (10 :: x0) 1501) fun v6 =>
    gx_bd (gx_ia (11 :: x0) 1501) fun v7 =>
    gx_rt ((v5 + v6) + v7)
  else
  if x1 = 5 then
    gx_bd (gx_gi x0 20) fun v8 =>
    gx_rt v8
  else
  if x1 = 6 then
    gx_bd (gx_gi x0 96) fun v9 =>
    gx_rt v9
  else
  gx_rt (-1)
