/-! ===== the machine does what f_y says (printed by gen/pprint.py) ===== -/
set_option maxRecDepth 100000
set_option maxHeartbeats 4000000
theorem ct_X16_thrown (Y : gx_Y) (x0 : gx_Nm) : gx_Ct Y yX16_thrown (ws_ yX16_thrown cX16_thrown 1 (some .int)) 1 100 [gx_r 17 (some x0)] gx_Oi (f_X16_thrown x0) := by
  refine gx_start (lv := [(0, gx_r 17 (some x0))]) gx_Oi_r pn_X16 (Nat.le_of_ble_eq_true rfl) rfl ?_
  unfold f_X16_thrown
  refine gx_aload_n (pc := 0) (n := 0) (i := 0) rfl 0 rfl (htX16_thrown (0, .aload_n 0, 1) (gx_m 0 rfl)) ?_
  refine gx_Jgi (pc := 1) (ci := 16) (kk := 0) (by decide) (Or.inl rfl) (by decide) (by decide) q1674 (htX16_thrown (1, .getfield 312, 3) (gx_m 1 rfl)) (fun v1 hv1 => ?_)
  exact gx_Jiret (pc := 4) rfl (fun _ => trivial) (fun _ _ => rfl) (htX16_thrown (4, .ireturn, 1) (gx_m 2 rfl))
theorem ct_X16_clearDraft (Y : gx_Y) (x0 : gx_Nm) : gx_Ct Y yX16_clearDraft (ws_ yX16_clearDraft cX16_clearDraft 1 none) 1 100 [gx_r 17 (some x0)] gx_Ov (f_X16_clearDraft x0) := by
  refine gx_start (lv := [(0, gx_r 17 (some x0))]) gx_Ov_r pn_X16 (Nat.le_of_ble_eq_true rfl) rfl ?_
  unfold f_X16_clearDraft
  refine gx_aload_n (pc := 0) (n := 0) (i := 0) rfl 0 rfl (htX16_clearDraft (0, .aload_n 0, 1) (gx_m 0 rfl)) ?_
  refine gx_Jgs (pc := 1) (ci := 16) (kk := 9) (t2 := 100) (by decide) (by decide) rfl rfl rfl q1683 (htX16_clearDraft (1, .getfield 23, 3) (gx_m 1 rfl)) ?_
  refine gx_sipush (pc := 4) (v := 1501) (by decide) (htX16_clearDraft (4, .sipush 1501, 3) (gx_m 2 rfl)) ?_
  refine gx_iconst (pc := 7) (v := 0) (by decide) (htX16_clearDraft (7, .iconst 0, 1) (gx_m 3 rfl)) ?_
  refine gx_Jis (pc := 8) (htX16_clearDraft (8, .iastore, 1) (gx_m 4 rfl)) ?_
  refine gx_aload_n (pc := 9) (n := 0) (i := 0) rfl 0 rfl (htX16_clearDraft (9, .aload_n 0, 1) (gx_m 5 rfl)) ?_
  refine gx_Jgs (pc := 10) (ci := 16) (kk := 10) (t2 := 100) (by decide) (by decide) rfl rfl rfl q1684 (htX16_clearDraft (10, .getfield 26, 3) (gx_m 6 rfl)) ?_
  refine gx_sipush (pc := 13) (v := 1501) (by decide) (htX16_clearDraft (13, .sipush 1501, 3) (gx_m 7 rfl)) ?_
  refine gx_iconst (pc := 16) (v := 0) (by decide) (htX16_clearDraft (16, .iconst 0, 1) (gx_m 8 rfl)) ?_
  refine gx_Jis (pc := 17) (htX16_clearDraft (17, .iastore, 1) (gx_m 9 rfl)) ?_
  refine gx_aload_n (pc := 18) (n := 0) (i := 0) rfl 0 rfl (htX16_clearDraft (18, .aload_n 0, 1) (gx_m 10 rfl)) ?_
  refine gx_Jgs (pc := 19) (ci := 16) (kk := 11) (t2 := 100) (by decide) (by decide) rfl rfl rfl q1685 (htX16_clearDraft (19, .getfield 29, 3) (gx_m 11 rfl)) ?_
  refine gx_sipush (pc := 22) (v := 1501) (by decide) (htX16_clearDraft (22, .sipush 1501, 3) (gx_m 12 rfl)) ?_
  refine gx_iconst (pc := 25) (v := 0) (by decide) (htX16_clearDraft (25, .iconst 0, 1) (gx_m 13 rfl)) ?_
  refine gx_Jis (pc := 26) (htX16_clearDraft (26, .iastore, 1) (gx_m 14 rfl)) ?_
  refine gx_aload_n (pc := 27) (n := 0) (i := 0) rfl 0 rfl (htX16_clearDraft (27, .aload_n 0, 1) (gx_m 15 rfl)) ?_
  refine gx_iconst (pc := 28) (v := 0) (by decide) (htX16_clearDraft (28, .iconst 0, 1) (gx_m 16 rfl)) ?_
  refine gx_Jpi (pc := 29) (ci := 16) (kk := 22) (by decide) (Or.inl rfl) (by decide) rfl rfl q1696 (Or.inl rfl) (htX16_clearDraft (29, .putfield 355, 3) (gx_m 17 rfl)) ?_
  exact gx_Jvret (pc := 32) rfl (fun _ => trivial) (fun _ _ => rfl) (htX16_clearDraft (32, .return_, 1) (gx_m 18 rfl))
theorem ct_X16_begin (Y : gx_Y) (x0 : gx_Nm) (x1 : Int32) : gx_Ct Y yX16_begin (ws_ yX16_begin cX16_begin 3 none) 1 100 [gx_r 17 (some x0), gx_i x1] gx_Ov (f_X16_begin x0 x1) := by
  refine gx_start (lv := [(0, gx_r 17 (some x0)), (1, gx_i x1)]) gx_Ov_r pn_X16 (Nat.le_of_ble_eq_true rfl) rfl ?_
  unfold f_X16_begin
  refine gx_aload_n (pc := 0) (n := 0) (i := 0) rfl 0 rfl (htX16_begin_0 (0, .aload_n 0, 1) (gx_m 0 rfl)) ?_
  refine gx_Jgs (pc := 1) (ci := 16) (kk := 31) (t2 := 100) (by decide) (by decide) rfl rfl rfl q1705 (htX16_begin_0 (1, .getfield 80, 3) (gx_m 1 rfl)) ?_
  refine gx_iload_n (pc := 4) (n := 1) (i := 1) rfl 1 rfl (htX16_begin_0 (4, .iload_n 1, 1) (gx_m 2 rfl)) ?_
  refine gx_aload_n (pc := 5) (n := 0) (i := 0) rfl 0 rfl (htX16_begin_0 (5, .aload_n 0, 1) (gx_m 3 rfl)) ?_
  refine gx_Jgs (pc := 6) (ci := 16) (kk := 38) (t2 := 100) (by decide) (by decide) rfl rfl rfl q1712 (htX16_begin_0 (6, .getfield 103, 3) (gx_m 4 rfl)) ?_
  refine gx_iload_n (pc := 9) (n := 1) (i := 1) rfl 1 rfl (htX16_begin_0 (9, .iload_n 1, 1) (gx_m 5 rfl)) ?_
  refine gx_Jia (pc := 10) (htX16_begin_0 (10, .iaload, 1) (gx_m 6 rfl)) (fun v1 => ?_)
  refine gx_Jis (pc := 11) (htX16_begin_0 (11, .iastore, 1) (gx_m 7 rfl)) ?_
  refine gx_aload_n (pc := 12) (n := 0) (i := 0) rfl 0 rfl (htX16_begin_0 (12, .aload_n 0, 1) (gx_m 8 rfl)) ?_
  refine gx_Jgs (pc := 13) (ci := 16) (kk := 32) (t2 := 100) (by decide) (by decide) rfl rfl rfl q1706 (htX16_begin_0 (13, .getfield 83, 3) (gx_m 9 rfl)) ?_
  refine gx_iload_n (pc := 16) (n := 1) (i := 1) rfl 1 rfl (htX16_begin_0 (16, .iload_n 1, 1) (gx_m 10 rfl)) ?_
  refine gx_aload_n (pc := 17) (n := 0) (i := 0) rfl 0 rfl (htX16_begin_0 (17, .aload_n 0, 1) (gx_m 11 rfl)) ?_
  refine gx_Jgs (pc := 18) (ci := 16) (kk := 39) (t2 := 100) (by decide) (by decide) rfl rfl rfl q1713 (htX16_begin_0 (18, .getfield 106, 3) (gx_m 12 rfl)) ?_
  refine gx_iload_n (pc := 21) (n := 1) (i := 1) rfl 1 rfl (htX16_begin_0 (21, .iload_n 1, 1) (gx_m 13 rfl)) ?_
  refine gx_Jia (pc := 22) (htX16_begin_0 (22, .iaload, 1) (gx_m 14 rfl)) (fun v2 => ?_)
  refine gx_Jis (pc := 23) (htX16_begin_0 (23, .iastore, 1) (gx_m 15 rfl)) ?_
  refine gx_aload_n (pc := 24) (n := 0) (i := 0) rfl 0 rfl (htX16_begin_0 (24, .aload_n 0, 1) (gx_m 16 rfl)) ?_
  refine gx_Jgs (pc := 25) (ci := 16) (kk := 33) (t2 := 100) (by decide) (by decide) rfl rfl rfl q1707 (htX16_begin_0 (25, .getfield 86, 3) (gx_m 17 rfl)) ?_
  refine gx_iload_n (pc := 28) (n := 1) (i := 1) rfl 1 rfl (htX16_begin_0 (28, .iload_n 1, 1) (gx_m 18 rfl)) ?_
  refine gx_aload_n (pc := 29) (n := 0) (i := 0) rfl 0 rfl (htX16_begin_0 (29, .aload_n 0, 1) (gx_m 19 rfl)) ?_
  refine gx_Jgs (pc := 30) (ci := 16) (kk := 40) (t2 := 100) (by decide) (by decide) rfl rfl rfl q1714 (htX16_begin_0 (30, .getfield 109, 3) (gx_m 20 rfl)) ?_
  refine gx_iload_n (pc := 33) (n := 1) (i := 1) rfl 1 rfl (htX16_begin_0 (33, .iload_n 1, 1) (gx_m 21 rfl)) ?_
  refine gx_Jia (pc := 34) (htX16_begin_0 (34, .iaload, 1) (gx_m 22 rfl)) (fun v3 => ?_)
  refine gx_Jis (pc := 35) (htX16_begin_0 (35, .iastore, 1) (gx_m 23 rfl)) ?_
  refine gx_aload_n (pc := 36) (n := 0) (i := 0) rfl 0 rfl (htX16_begin_0 (36, .aload_n 0, 1) (gx_m 24 rfl)) ?_
  refine gx_Jgs (pc := 37) (ci := 16) (kk := 34) (t2 := 100) (by decide) (by decide) rfl rfl rfl q1708 (htX16_begin_0 (37, .getfield 89, 3) (gx_m 25 rfl)) ?_
  refine gx_iload_n (pc := 40) (n := 1) (i := 1) rfl 1 rfl (htX16_begin_0 (40, .iload_n 1, 1) (gx_m 26 rfl)) ?_
  refine gx_aload_n (pc := 41) (n := 0) (i := 0) rfl 0 rfl (htX16_begin_0 (41, .aload_n 0, 1) (gx_m 27 rfl)) ?_
  refine gx_Jgs (pc := 42) (ci := 16) (kk := 41) (t2 := 100) (by decide) (by decide) rfl rfl rfl q1715 (htX16_begin_0 (42, .getfield 112, 3) (gx_m 28 rfl)) ?_
  refine gx_iload_n (pc := 45) (n := 1) (i := 1) rfl 1 rfl (htX16_begin_0 (45, .iload_n 1, 1) (gx_m 29 rfl)) ?_
  refine gx_Jia (pc := 46) (htX16_begin_0 (46, .iaload, 1) (gx_m 30 rfl)) (fun v4 => ?_)
  refine gx_Jis (pc := 47) (htX16_begin_0 (47, .iastore, 1) (gx_m 31 rfl)) ?_
  refine gx_aload_n (pc := 48) (n := 0) (i := 0) rfl 0 rfl (htX16_begin_0 (48, .aload_n 0, 1) (gx_m 32 rfl)) ?_
  refine gx_Jgs (pc := 49) (ci := 16) (kk := 35) (t2 := 100) (by decide) (by decide) rfl rfl rfl q1709 (htX16_begin_0 (49, .getfield 92, 3) (gx_m 33 rfl)) ?_
  refine gx_iload_n (pc := 52) (n := 1) (i := 1) rfl 1 rfl (htX16_begin_0 (52, .iload_n 1, 1) (gx_m 34 rfl)) ?_
  refine gx_aload_n (pc := 53) (n := 0) (i := 0) rfl 0 rfl (htX16_begin_0 (53, .aload_n 0, 1) (gx_m 35 rfl)) ?_
  refine gx_Jgs (pc := 54) (ci := 16) (kk := 42) (t2 := 100) (by decide) (by decide) rfl rfl rfl q1716 (htX16_begin_0 (54, .getfield 115, 3) (gx_m 36 rfl)) ?_
  refine gx_iload_n (pc := 57) (n := 1) (i := 1) rfl 1 rfl (htX16_begin_0 (57, .iload_n 1, 1) (gx_m 37 rfl)) ?_
  refine gx_Jia (pc := 58) (htX16_begin_0 (58, .iaload, 1) (gx_m 38 rfl)) (fun v5 => ?_)
  refine gx_Jis (pc := 59) (htX16_begin_0 (59, .iastore, 1) (gx_m 39 rfl)) ?_
  refine gx_aload_n (pc := 60) (n := 0) (i := 0) rfl 0 rfl (htX16_begin_0 (60, .aload_n 0, 1) (gx_m 40 rfl)) ?_
  refine gx_Jgs (pc := 61) (ci := 16) (kk := 36) (t2 := 100) (by decide) (by decide) rfl rfl rfl q1710 (htX16_begin_0 (61, .getfield 95, 3) (gx_m 41 rfl)) ?_
  refine gx_iload_n (pc := 64) (n := 1) (i := 1) rfl 1 rfl (htX16_begin_0 (64, .iload_n 1, 1) (gx_m 42 rfl)) ?_
  refine gx_aload_n (pc := 65) (n := 0) (i := 0) rfl 0 rfl (htX16_begin_0 (65, .aload_n 0, 1) (gx_m 43 rfl)) ?_
  refine gx_Jgs (pc := 66) (ci := 16) (kk := 43) (t2 := 100) (by decide) (by decide) rfl rfl rfl q1717 (htX16_begin_0 (66, .getfield 118, 3) (gx_m 44 rfl)) ?_
  refine gx_iload_n (pc := 69) (n := 1) (i := 1) rfl 1 rfl (htX16_begin_0 (69, .iload_n 1, 1) (gx_m 45 rfl)) ?_
  refine gx_Jia (pc := 70) (htX16_begin_0 (70, .iaload, 1) (gx_m 46 rfl)) (fun v6 => ?_)
  refine gx_Jis (pc := 71) (htX16_begin_0 (71, .iastore, 1) (gx_m 47 rfl)) ?_
  refine gx_aload_n (pc := 72) (n := 0) (i := 0) rfl 0 rfl (htX16_begin_0 (72, .aload_n 0, 1) (gx_m 48 rfl)) ?_
  refine gx_Jgs (pc := 73) (ci := 16) (kk := 33) (t2 := 100) (by decide) (by decide) rfl rfl rfl q1707 (htX16_begin_0 (73, .getfield 86, 3) (gx_m 49 rfl)) ?_
  refine gx_iload_n (pc := 76) (n := 1) (i := 1) rfl 1 rfl (htX16_begin_0 (76, .iload_n 1, 1) (gx_m 50 rfl)) ?_
  refine gx_Jia (pc := 77) (htX16_begin_0 (77, .iaload, 1) (gx_m 51 rfl)) (fun v7 => ?_)
  refine gx_iconst (pc := 78) (v := 1) (by decide) (htX16_begin_0 (78, .iconst 1, 1) (gx_m 52 rfl)) ?_
  refine gx_iadd (pc := 79) (htX16_begin_0 (79, .iadd, 1) (gx_m 53 rfl)) ?_
  refine gx_istore_n (pc := 80) (n := 2) (i := 2) (lv' := [(2, gx_i (v7 + 1)), (0, gx_r 17 (some x0)), (1, gx_i x1)]) rfl (by decide) rfl (htX16_begin_0 (80, .istore_n 2, 1) (gx_m 54 rfl)) ?_
  refine gx_Jjoin (pcJ := 113) (lvJ := fun (j_1 : Unit) => [(0, gx_r 17 (some x0)), (1, gx_i x1)]) (stJ := fun (j_1 : Unit) => []) (fun _ => True) (fun j_1 _ => ?_) (fun kk1 hj1 => ?_)
  · refine gx_aload_n (pc := 113) (n := 0) (i := 0) rfl 0 rfl (htX16_begin_0 (113, .aload_n 0, 1) (gx_m 75 rfl)) ?_
    refine gx_Jgs (pc := 114) (ci := 16) (kk := 45) (t2 := 100) (by decide) (by decide) rfl rfl rfl q1719 (htX16_begin_0 (114, .getfield 124, 3) (gx_m 76 rfl)) ?_
    refine gx_iload_n (pc := 117) (n := 1) (i := 1) rfl 1 rfl (htX16_begin_0 (117, .iload_n 1, 1) (gx_m 77 rfl)) ?_
    refine gx_iconst (pc := 118) (v := 0) (by decide) (htX16_begin_0 (118, .iconst 0, 1) (gx_m 78 rfl)) ?_
    refine gx_Jis (pc := 119) (htX16_begin_0 (119, .iastore, 1) (gx_m 79 rfl)) ?_
    refine gx_aload_n (pc := 120) (n := 0) (i := 0) rfl 0 rfl (htX16_begin_0 (120, .aload_n 0, 1) (gx_m 80 rfl)) ?_
    refine gx_Jgs (pc := 121) (ci := 16) (kk := 46) (t2 := 100) (by decide) (by decide) rfl rfl rfl q1720 (htX16_begin_0 (121, .getfield 127, 3) (gx_m 81 rfl)) ?_
    refine gx_iload_n (pc := 124) (n := 1) (i := 1) rfl 1 rfl (htX16_begin_0 (124, .iload_n 1, 1) (gx_m 82 rfl)) ?_
    refine gx_iconst (pc := 125) (v := (-1)) (by decide) (htX16_begin_0 (125, .iconst (-1), 1) (gx_m 83 rfl)) ?_
    refine gx_Jis (pc := 126) (htX16_begin_0 (126, .iastore, 1) (gx_m 84 rfl)) ?_
    refine gx_aload_n (pc := 127) (n := 0) (i := 0) rfl 0 rfl (htX16_begin_0 (127, .aload_n 0, 1) (gx_m 85 rfl)) ?_
    refine gx_Jgs (pc := 128) (ci := 16) (kk := 47) (t2 := 100) (by decide) (by decide) rfl rfl rfl q1721 (htX16_begin_0 (128, .getfield 130, 3) (gx_m 86 rfl)) ?_
    refine gx_iload_n (pc := 131) (n := 1) (i := 1) rfl 1 rfl (htX16_begin_0 (131, .iload_n 1, 1) (gx_m 87 rfl)) ?_
    refine gx_aload_n (pc := 132) (n := 0) (i := 0) rfl 0 rfl (htX16_begin_0 (132, .aload_n 0, 1) (gx_m 88 rfl)) ?_
    refine gx_Jgs (pc := 133) (ci := 16) (kk := 33) (t2 := 100) (by decide) (by decide) rfl rfl rfl q1707 (htX16_begin_0 (133, .getfield 86, 3) (gx_m 89 rfl)) ?_
    refine gx_iload_n (pc := 136) (n := 1) (i := 1) rfl 1 rfl (htX16_begin_0 (136, .iload_n 1, 1) (gx_m 90 rfl)) ?_
    refine gx_Jia (pc := 137) (htX16_begin_0 (137, .iaload, 1) (gx_m 91 rfl)) (fun v13 => ?_)
    refine gx_Jis (pc := 138) (htX16_begin_0 (138, .iastore, 1) (gx_m 92 rfl)) ?_
    refine gx_aload_n (pc := 139) (n := 0) (i := 0) rfl 0 rfl (htX16_begin_0 (139, .aload_n 0, 1) (gx_m 93 rfl)) ?_
    refine gx_Jgs (pc := 140) (ci := 16) (kk := 48) (t2 := 100) (by decide) (by decide) rfl rfl rfl q1722 (htX16_begin_0 (140, .getfield 133, 3) (gx_m 94 rfl)) ?_
    refine gx_iload_n (pc := 143) (n := 1) (i := 1) rfl 1 rfl (htX16_begin_0 (143, .iload_n 1, 1) (gx_m 95 rfl)) ?_
    refine gx_aload_n (pc := 144) (n := 0) (i := 0) rfl 0 rfl (htX16_begin_0 (144, .aload_n 0, 1) (gx_m 96 rfl)) ?_
    refine gx_Jgs (pc := 145) (ci := 16) (kk := 35) (t2 := 100) (by decide) (by decide) rfl rfl rfl q1709 (htX16_begin_0 (145, .getfield 92, 3) (gx_m 97 rfl)) ?_
    refine gx_iload_n (pc := 148) (n := 1) (i := 1) rfl 1 rfl (htX16_begin_0 (148, .iload_n 1, 1) (gx_m 98 rfl)) ?_
    refine gx_Jia (pc := 149) (htX16_begin_0 (149, .iaload, 1) (gx_m 99 rfl)) (fun v14 => ?_)
    refine gx_Jis (pc := 150) (htX16_begin_1 (150, .iastore, 1) (gx_m 0 rfl)) ?_
    refine gx_aload_n (pc := 151) (n := 0) (i := 0) rfl 0 rfl (htX16_begin_1 (151, .aload_n 0, 1) (gx_m 1 rfl)) ?_
    refine gx_Jgs (pc := 152) (ci := 16) (kk := 49) (t2 := 100) (by decide) (by decide) rfl rfl rfl q1723 (htX16_begin_1 (152, .getfield 136, 3) (gx_m 2 rfl)) ?_
    refine gx_iload_n (pc := 155) (n := 1) (i := 1) rfl 1 rfl (htX16_begin_1 (155, .iload_n 1, 1) (gx_m 3 rfl)) ?_
    refine gx_aload_n (pc := 156) (n := 0) (i := 0) rfl 0 rfl (htX16_begin_1 (156, .aload_n 0, 1) (gx_m 4 rfl)) ?_
    refine gx_Jgs (pc := 157) (ci := 16) (kk := 33) (t2 := 100) (by decide) (by decide) rfl rfl rfl q1707 (htX16_begin_1 (157, .getfield 86, 3) (gx_m 5 rfl)) ?_
    refine gx_iload_n (pc := 160) (n := 1) (i := 1) rfl 1 rfl (htX16_begin_1 (160, .iload_n 1, 1) (gx_m 6 rfl)) ?_
    refine gx_Jia (pc := 161) (htX16_begin_1 (161, .iaload, 1) (gx_m 7 rfl)) (fun v15 => ?_)
    refine gx_Jis (pc := 162) (htX16_begin_1 (162, .iastore, 1) (gx_m 8 rfl)) ?_
    refine gx_aload_n (pc := 163) (n := 0) (i := 0) rfl 0 rfl (htX16_begin_1 (163, .aload_n 0, 1) (gx_m 9 rfl)) ?_
    refine gx_Jgs (pc := 164) (ci := 16) (kk := 50) (t2 := 100) (by decide) (by decide) rfl rfl rfl q1724 (htX16_begin_1 (164, .getfield 139, 3) (gx_m 10 rfl)) ?_
    refine gx_iload_n (pc := 167) (n := 1) (i := 1) rfl 1 rfl (htX16_begin_1 (167, .iload_n 1, 1) (gx_m 11 rfl)) ?_
    refine gx_iconst (pc := 168) (v := 0) (by decide) (htX16_begin_1 (168, .iconst 0, 1) (gx_m 12 rfl)) ?_
    refine gx_Jis (pc := 169) (htX16_begin_1 (169, .iastore, 1) (gx_m 13 rfl)) ?_
    refine gx_aload_n (pc := 170) (n := 0) (i := 0) rfl 0 rfl (htX16_begin_1 (170, .aload_n 0, 1) (gx_m 14 rfl)) ?_
    refine gx_Jgs (pc := 171) (ci := 16) (kk := 51) (t2 := 100) (by decide) (by decide) rfl rfl rfl q1725 (htX16_begin_1 (171, .getfield 142, 3) (gx_m 15 rfl)) ?_
    refine gx_iload_n (pc := 174) (n := 1) (i := 1) rfl 1 rfl (htX16_begin_1 (174, .iload_n 1, 1) (gx_m 16 rfl)) ?_
    refine gx_iconst (pc := 175) (v := 0) (by decide) (htX16_begin_1 (175, .iconst 0, 1) (gx_m 17 rfl)) ?_
    refine gx_Jis (pc := 176) (htX16_begin_1 (176, .iastore, 1) (gx_m 18 rfl)) ?_
    refine gx_aload_n (pc := 177) (n := 0) (i := 0) rfl 0 rfl (htX16_begin_1 (177, .aload_n 0, 1) (gx_m 19 rfl)) ?_
    refine gx_Jgs (pc := 178) (ci := 16) (kk := 52) (t2 := 100) (by decide) (by decide) rfl rfl rfl q1726 (htX16_begin_1 (178, .getfield 145, 3) (gx_m 20 rfl)) ?_
    refine gx_iload_n (pc := 181) (n := 1) (i := 1) rfl 1 rfl (htX16_begin_1 (181, .iload_n 1, 1) (gx_m 21 rfl)) ?_
    refine gx_iconst (pc := 182) (v := 0) (by decide) (htX16_begin_1 (182, .iconst 0, 1) (gx_m 22 rfl)) ?_
    refine gx_Jis (pc := 183) (htX16_begin_1 (183, .iastore, 1) (gx_m 23 rfl)) ?_
    refine gx_aload_n (pc := 184) (n := 0) (i := 0) rfl 0 rfl (htX16_begin_1 (184, .aload_n 0, 1) (gx_m 24 rfl)) ?_
    refine gx_Jgs (pc := 185) (ci := 16) (kk := 94) (t2 := 100) (by decide) (by decide) rfl rfl rfl q1768 (htX16_begin_1 (185, .getfield 258, 3) (gx_m 25 rfl)) ?_
    refine gx_iload_n (pc := 188) (n := 1) (i := 1) rfl 1 rfl (htX16_begin_1 (188, .iload_n 1, 1) (gx_m 26 rfl)) ?_
    refine gx_iconst (pc := 189) (v := 0) (by decide) (htX16_begin_1 (189, .iconst 0, 1) (gx_m 27 rfl)) ?_
    refine gx_Jis (pc := 190) (htX16_begin_1 (190, .iastore, 1) (gx_m 28 rfl)) ?_
    exact gx_Jvret (pc := 191) rfl (fun _ => trivial) (fun _ _ => rfl) (htX16_begin_1 (191, .return_, 1) (gx_m 29 rfl))
  · refine gx_Jw (lv := [(0, gx_r 17 (some x0)), (1, gx_i x1), (2, gx_i (v7 + 1))]) [1, 2, 0] rfl ?_
    refine gx_Jlp (pc := 81) (lvh := fun (s8 : Int32) => [(0, gx_r 17 (some x0)), (1, gx_i x1), (2, gx_i s8)]) (fun s8 kl1 ha1 hb1 => ?_) _
    unfold lb_X16_begin_1
    refine gx_iload_n (pc := 81) (n := 2) (i := 2) rfl 2 rfl (htX16_begin_0 (81, .iload_n 2, 1) (gx_m 55 rfl)) ?_
    refine gx_aload_n (pc := 82) (n := 0) (i := 0) rfl 0 rfl (htX16_begin_0 (82, .aload_n 0, 1) (gx_m 56 rfl)) ?_
    refine gx_Jgs (pc := 83) (ci := 16) (kk := 36) (t2 := 100) (by decide) (by decide) rfl rfl rfl q1710 (htX16_begin_0 (83, .getfield 95, 3) (gx_m 57 rfl)) ?_
    refine gx_iload_n (pc := 86) (n := 1) (i := 1) rfl 1 rfl (htX16_begin_0 (86, .iload_n 1, 1) (gx_m 58 rfl)) ?_
    refine gx_Jia (pc := 87) (htX16_begin_0 (87, .iaload, 1) (gx_m 59 rfl)) (fun v9 => ?_)
    refine gx_icmp_gt (pc := 88) (tgt := 113) (by decide) (htX16_begin_0 (88, .if_icmp .gt 25, 3) (gx_m 60 rfl)) (fun c2 => ?_) (fun c2 => ?_)
    · refine gx_Jw (lv := [(0, gx_r 17 (some x0)), (1, gx_i x1)]) [0, 1] rfl ?_
      exact gx_Jout hb1 (hj1 () trivial)
    · refine gx_aload_n (pc := 91) (n := 0) (i := 0) rfl 0 rfl (htX16_begin_0 (91, .aload_n 0, 1) (gx_m 61 rfl)) ?_
      refine gx_Jgs (pc := 92) (ci := 16) (kk := 37) (t2 := 105) (by decide) (by decide) rfl rfl rfl q1711 (htX16_begin_0 (92, .getfield 100, 3) (gx_m 62 rfl)) ?_
      refine gx_iload_n (pc := 95) (n := 1) (i := 1) rfl 1 rfl (htX16_begin_0 (95, .iload_n 1, 1) (gx_m 63 rfl)) ?_
      refine gx_Jra (pc := 96) (t := 5) (t2 := 100) (by decide) (by decide) rfl (htX16_begin_0 (96, .aaload, 1) (gx_m 64 rfl)) (fun v10 => ?_)
      refine gx_iload_n (pc := 97) (n := 2) (i := 2) rfl 2 rfl (htX16_begin_0 (97, .iload_n 2, 1) (gx_m 65 rfl)) ?_
      refine gx_aload_n (pc := 98) (n := 0) (i := 0) rfl 0 rfl (htX16_begin_0 (98, .aload_n 0, 1) (gx_m 66 rfl)) ?_
      refine gx_Jgs (pc := 99) (ci := 16) (kk := 44) (t2 := 105) (by decide) (by decide) rfl rfl rfl q1718 (htX16_begin_0 (99, .getfield 121, 3) (gx_m 67 rfl)) ?_
      refine gx_iload_n (pc := 102) (n := 1) (i := 1) rfl 1 rfl (htX16_begin_0 (102, .iload_n 1, 1) (gx_m 68 rfl)) ?_
      refine gx_Jra (pc := 103) (t := 5) (t2 := 100) (by decide) (by decide) rfl (htX16_begin_0 (103, .aaload, 1) (gx_m 69 rfl)) (fun v11 => ?_)
      refine gx_iload_n (pc := 104) (n := 2) (i := 2) rfl 2 rfl (htX16_begin_0 (104, .iload_n 2, 1) (gx_m 70 rfl)) ?_
      refine gx_Jia (pc := 105) (htX16_begin_0 (105, .iaload, 1) (gx_m 71 rfl)) (fun v12 => ?_)
      refine gx_Jis (pc := 106) (htX16_begin_0 (106, .iastore, 1) (gx_m 72 rfl)) ?_
      refine gx_iinc (pc := 107) (i := 2) (j := 2) (v := (s8 + 1)) (lv' := [(2, gx_i (s8 + 1)), (0, gx_r 17 (some x0)), (1, gx_i x1)]) rfl (gx_iv (by decide)) (by decide) rfl (htX16_begin_0 (107, .iinc 2 1, 3) (gx_m 73 rfl)) ?_
      refine gx_goto (pc := 110) (tgt := 81) (by decide) (htX16_begin_0 (110, .goto (-29), 3) (gx_m 74 rfl)) ?_
      refine gx_Jw (lv := [(0, gx_r 17 (some x0)), (1, gx_i x1), (2, gx_i (s8 + 1))]) [1, 2, 0] rfl ?_
      exact ha1 ((s8 + 1) : Int32)
theorem ct_X16_nodes (Y : gx_Y) (x0 : gx_Nm) (x1 : Int32) : gx_Ct Y yX16_nodes (ws_ yX16_nodes cX16_nodes 3 none) 2 122 [gx_r 17 (some x0), gx_i x1] gx_Ov (f_X16_nodes x0 x1) := by
  refine gx_start (lv := [(0, gx_r 17 (some x0)), (1, gx_i x1)]) gx_Ov_r pn_X16 (Nat.le_of_ble_eq_true rfl) rfl ?_
  unfold f_X16_nodes
  refine gx_iload_n (pc := 0) (n := 1) (i := 1) rfl 1 rfl (htX16_nodes_0 (0, .iload_n 1, 1) (gx_m 0 rfl)) ?_
  refine gx_iconst (pc := 1) (v := 1) (by decide) (htX16_nodes_0 (1, .iconst 1, 1) (gx_m 1 rfl)) ?_
  refine gx_Jcond (pcT := 11) (pcE := 17) (lv2 := [(0, gx_r 17 (some x0)), (1, gx_i x1)]) (st2 := []) ?_ ?_ (fun kk1 hT1 hE1 => ?_)
  · refine gx_aload_n (pc := 11) (n := 0) (i := 0) rfl 0 rfl (htX16_nodes_0 (11, .aload_n 0, 1) (gx_m 6 rfl)) ?_
    refine gx_iconst (pc := 12) (v := 1) (by decide) (htX16_nodes_0 (12, .iconst 1, 1) (gx_m 7 rfl)) ?_
    refine gx_Jpi (pc := 13) (ci := 16) (kk := 0) (by decide) (Or.inl rfl) (by decide) rfl rfl q1674 (Or.inl rfl) (htX16_nodes_0 (13, .putfield 312, 3) (gx_m 8 rfl)) ?_
    exact gx_Jvret (pc := 16) rfl (fun _ => trivial) (fun _ _ => rfl) (htX16_nodes_0 (16, .return_, 1) (gx_m 9 rfl))
  · refine gx_aload_n (pc := 17) (n := 0) (i := 0) rfl 0 rfl (htX16_nodes_0 (17, .aload_n 0, 1) (gx_m 10 rfl)) ?_
    refine gx_iconst (pc := 18) (v := 0) (by decide) (htX16_nodes_0 (18, .iconst 0, 1) (gx_m 11 rfl)) ?_
    refine gx_Jpi (pc := 19) (ci := 16) (kk := 0) (by decide) (Or.inl rfl) (by decide) rfl rfl q1674 (Or.inl rfl) (htX16_nodes_0 (19, .putfield 312, 3) (gx_m 12 rfl)) ?_
    refine gx_aload_n (pc := 22) (n := 0) (i := 0) rfl 0 rfl (htX16_nodes_0 (22, .aload_n 0, 1) (gx_m 13 rfl)) ?_
    refine gx_iload_n (pc := 23) (n := 1) (i := 1) rfl 1 rfl (htX16_nodes_0 (23, .iload_n 1, 1) (gx_m 14 rfl)) ?_
    refine gx_Jpi (pc := 24) (ci := 16) (kk := 29) (by decide) (Or.inl rfl) (by decide) rfl rfl q1703 (Or.inl rfl) (htX16_nodes_0 (24, .putfield 315, 3) (gx_m 15 rfl)) ?_
    refine gx_aload_n (pc := 27) (n := 0) (i := 0) rfl 0 rfl (htX16_nodes_0 (27, .aload_n 0, 1) (gx_m 16 rfl)) ?_
    refine gx_iconst (pc := 28) (v := 0) (by decide) (htX16_nodes_0 (28, .iconst 0, 1) (gx_m 17 rfl)) ?_
    refine gx_Jpi (pc := 29) (ci := 16) (kk := 20) (by decide) (Or.inl rfl) (by decide) rfl rfl q1694 (Or.inl rfl) (htX16_nodes_0 (29, .putfield 318, 3) (gx_m 18 rfl)) ?_
    refine gx_aload_n (pc := 32) (n := 0) (i := 0) rfl 0 rfl (htX16_nodes_0 (32, .aload_n 0, 1) (gx_m 19 rfl)) ?_
    refine gx_iconst (pc := 33) (v := 0) (by decide) (htX16_nodes_0 (33, .iconst 0, 1) (gx_m 20 rfl)) ?_
    refine gx_Jpi (pc := 34) (ci := 16) (kk := 21) (by decide) (Or.inl rfl) (by decide) rfl rfl q1695 (Or.inl rfl) (htX16_nodes_0 (34, .putfield 321, 3) (gx_m 21 rfl)) ?_
    refine gx_aload_n (pc := 37) (n := 0) (i := 0) rfl 0 rfl (htX16_nodes_0 (37, .aload_n 0, 1) (gx_m 22 rfl)) ?_
    refine gx_iconst (pc := 38) (v := 1) (by decide) (htX16_nodes_0 (38, .iconst 1, 1) (gx_m 23 rfl)) ?_
    refine gx_Jpi (pc := 39) (ci := 16) (kk := 27) (by decide) (Or.inl rfl) (by decide) rfl rfl q1701 (Or.inl rfl) (htX16_nodes_0 (39, .putfield 69, 3) (gx_m 24 rfl)) ?_
    refine gx_aload_n (pc := 42) (n := 0) (i := 0) rfl 0 rfl (htX16_nodes_0 (42, .aload_n 0, 1) (gx_m 25 rfl)) ?_
    refine gx_Jgs (pc := 43) (ci := 16) (kk := 24) (t2 := 100) (by decide) (by decide) rfl rfl rfl q1698 (htX16_nodes_0 (43, .getfield 60, 3) (gx_m 26 rfl)) ?_
    refine gx_iconst (pc := 46) (v := 0) (by decide) (htX16_nodes_0 (46, .iconst 0, 1) (gx_m 27 rfl)) ?_
    refine gx_iconst (pc := 47) (v := (-1)) (by decide) (htX16_nodes_0 (47, .iconst (-1), 1) (gx_m 28 rfl)) ?_
    refine gx_Jis (pc := 48) (htX16_nodes_0 (48, .iastore, 1) (gx_m 29 rfl)) ?_
    refine gx_aload_n (pc := 49) (n := 0) (i := 0) rfl 0 rfl (htX16_nodes_0 (49, .aload_n 0, 1) (gx_m 30 rfl)) ?_
    refine gx_Jgs (pc := 50) (ci := 16) (kk := 26) (t2 := 100) (by decide) (by decide) rfl rfl rfl q1700 (htX16_nodes_0 (50, .getfield 66, 3) (gx_m 31 rfl)) ?_
    refine gx_iconst (pc := 53) (v := 0) (by decide) (htX16_nodes_0 (53, .iconst 0, 1) (gx_m 32 rfl)) ?_
    refine gx_iconst (pc := 54) (v := 0) (by decide) (htX16_nodes_0 (54, .iconst 0, 1) (gx_m 33 rfl)) ?_
    refine gx_Jis (pc := 55) (htX16_nodes_0 (55, .iastore, 1) (gx_m 34 rfl)) ?_
    refine gx_aload_n (pc := 56) (n := 0) (i := 0) rfl 0 rfl (htX16_nodes_0 (56, .aload_n 0, 1) (gx_m 35 rfl)) ?_
    refine gx_iconst (pc := 57) (v := 0) (by decide) (htX16_nodes_0 (57, .iconst 0, 1) (gx_m 36 rfl)) ?_
    refine gx_Jpi (pc := 58) (ci := 16) (kk := 62) (by decide) (Or.inl rfl) (by decide) rfl rfl q1736 (Or.inl rfl) (htX16_nodes_0 (58, .putfield 324, 3) (gx_m 37 rfl)) ?_
    refine gx_aload_n (pc := 61) (n := 0) (i := 0) rfl 0 rfl (htX16_nodes_0 (61, .aload_n 0, 1) (gx_m 38 rfl)) ?_
    refine gx_iconst (pc := 62) (v := 0) (by decide) (htX16_nodes_0 (62, .iconst 0, 1) (gx_m 39 rfl)) ?_
    refine gx_Jpi (pc := 63) (ci := 16) (kk := 75) (by decide) (Or.inl rfl) (by decide) rfl rfl q1749 (Or.inl rfl) (htX16_nodes_0 (63, .putfield 327, 3) (gx_m 40 rfl)) ?_
    refine gx_aload_n (pc := 66) (n := 0) (i := 0) rfl 0 rfl (htX16_nodes_0 (66, .aload_n 0, 1) (gx_m 41 rfl)) ?_
    refine gx_iconst (pc := 67) (v := 0) (by decide) (htX16_nodes_0 (67, .iconst 0, 1) (gx_m 42 rfl)) ?_
    refine gx_Jpi (pc := 68) (ci := 16) (kk := 76) (by decide) (Or.inl rfl) (by decide) rfl rfl q1750 (Or.inl rfl) (htX16_nodes_0 (68, .putfield 330, 3) (gx_m 43 rfl)) ?_
    refine gx_aload_n (pc := 71) (n := 0) (i := 0) rfl 0 rfl (htX16_nodes_0 (71, .aload_n 0, 1) (gx_m 44 rfl)) ?_
    refine gx_iconst (pc := 72) (v := 0) (by decide) (htX16_nodes_0 (72, .iconst 0, 1) (gx_m 45 rfl)) ?_
    refine gx_Jpi (pc := 73) (ci := 16) (kk := 78) (by decide) (Or.inl rfl) (by decide) rfl rfl q1752 (Or.inl rfl) (htX16_nodes_0 (73, .putfield 333, 3) (gx_m 46 rfl)) ?_
    refine gx_aload_n (pc := 76) (n := 0) (i := 0) rfl 0 rfl (htX16_nodes_0 (76, .aload_n 0, 1) (gx_m 47 rfl)) ?_
    refine gx_iconst (pc := 77) (v := 0) (by decide) (htX16_nodes_0 (77, .iconst 0, 1) (gx_m 48 rfl)) ?_
    refine gx_Jpi (pc := 78) (ci := 16) (kk := 81) (by decide) (Or.inl rfl) (by decide) rfl rfl q1755 (Or.inl rfl) (htX16_nodes_0 (78, .putfield 336, 3) (gx_m 49 rfl)) ?_
    refine gx_aload_n (pc := 81) (n := 0) (i := 0) rfl 0 rfl (htX16_nodes_0 (81, .aload_n 0, 1) (gx_m 50 rfl)) ?_
    refine gx_iconst (pc := 82) (v := 0) (by decide) (htX16_nodes_0 (82, .iconst 0, 1) (gx_m 51 rfl)) ?_
    refine gx_Jpi (pc := 83) (ci := 16) (kk := 93) (by decide) (Or.inl rfl) (by decide) rfl rfl q1767 (Or.inl rfl) (htX16_nodes_0 (83, .putfield 339, 3) (gx_m 52 rfl)) ?_
    refine gx_aload_n (pc := 86) (n := 0) (i := 0) rfl 0 rfl (htX16_nodes_0 (86, .aload_n 0, 1) (gx_m 53 rfl)) ?_
    refine gx_iconst (pc := 87) (v := 0) (by decide) (htX16_nodes_0 (87, .iconst 0, 1) (gx_m 54 rfl)) ?_
    refine gx_Jpi (pc := 88) (ci := 16) (kk := 96) (by decide) (Or.inl rfl) (by decide) rfl rfl q1770 (Or.inl rfl) (htX16_nodes_0 (88, .putfield 342, 3) (gx_m 55 rfl)) ?_
    refine gx_aload_n (pc := 91) (n := 0) (i := 0) rfl 0 rfl (htX16_nodes_0 (91, .aload_n 0, 1) (gx_m 56 rfl)) ?_
    refine gx_iconst (pc := 92) (v := 0) (by decide) (htX16_nodes_0 (92, .iconst 0, 1) (gx_m 57 rfl)) ?_
    refine gx_Jpi (pc := 93) (ci := 16) (kk := 115) (by decide) (Or.inl rfl) (by decide) rfl rfl q1789 (Or.inl rfl) (htX16_nodes_0 (93, .putfield 345, 3) (gx_m 58 rfl)) ?_
    refine gx_aload_n (pc := 96) (n := 0) (i := 0) rfl 0 rfl (htX16_nodes_0 (96, .aload_n 0, 1) (gx_m 59 rfl)) ?_
    refine gx_Jcv (pc := 97) (gx_hst (as := []) (b := gx_r 17 (some x0))) (gx_runV (as := []) (ci := 16) (ct_X16_clearDraft Y x0) (by decide) (Or.inl rfl) rfl rfl rfl rfl q2050 q2052 qs44 q117 q2053 rfl dd_X16_clearDraft (by decide) (by decide) (Nat.le_of_ble_eq_true rfl) (htX16_nodes_0 (97, .invokevirtual 348, 3) (gx_m 60 rfl))) ?_
    refine gx_iconst (pc := 100) (v := 0) (by decide) (htX16_nodes_0 (100, .iconst 0, 1) (gx_m 61 rfl)) ?_
    refine gx_istore_n (pc := 101) (n := 2) (i := 2) (lv' := [(2, gx_i 0), (0, gx_r 17 (some x0)), (1, gx_i x1)]) rfl (by decide) rfl (htX16_nodes_0 (101, .istore_n 2, 1) (gx_m 62 rfl)) ?_
    refine gx_Jjoin (pcJ := 122) (lvJ := fun (j_2 : Unit) => [(0, gx_r 17 (some x0)), (1, gx_i x1)]) (stJ := fun (j_2 : Unit) => []) (fun _ => True) (fun j_2 _ => ?_) (fun kk2 hj2 => ?_)
    · refine gx_iconst (pc := 122) (v := 0) (by decide) (htX16_nodes_0 (122, .iconst 0, 1) (gx_m 73 rfl)) ?_
      refine gx_istore_n (pc := 123) (n := 2) (i := 2) (lv' := [(2, gx_i 0), (0, gx_r 17 (some x0)), (1, gx_i x1)]) rfl (by decide) rfl (htX16_nodes_0 (123, .istore_n 2, 1) (gx_m 74 rfl)) ?_
      refine gx_Jjoin (pcJ := 144) (lvJ := fun (j_3 : Unit) => [(0, gx_r 17 (some x0)), (1, gx_i x1)]) (stJ := fun (j_3 : Unit) => []) (fun _ => True) (fun j_3 _ => ?_) (fun kk3 hj3 => ?_)
      · refine gx_iconst (pc := 144) (v := 0) (by decide) (htX16_nodes_0 (144, .iconst 0, 1) (gx_m 85 rfl)) ?_
        refine gx_istore_n (pc := 145) (n := 2) (i := 2) (lv' := [(2, gx_i 0), (0, gx_r 17 (some x0)), (1, gx_i x1)]) rfl (by decide) rfl (htX16_nodes_0 (145, .istore_n 2, 1) (gx_m 86 rfl)) ?_
        refine gx_Jjoin (pcJ := 218) (lvJ := fun (j_4 : Unit) => []) (stJ := fun (j_4 : Unit) => []) (fun _ => True) (fun j_4 _ => ?_) (fun kk4 hj4 => ?_)
        · exact gx_Jvret (pc := 218) rfl (fun _ => trivial) (fun _ _ => rfl) (htX16_nodes_1 (218, .return_, 1) (gx_m 35 rfl))
        · refine gx_Jw (lv := [(0, gx_r 17 (some x0)), (1, gx_i x1), (2, gx_i 0)]) [1, 2, 0] rfl ?_
          refine gx_Jlp (pc := 146) (lvh := fun (s4 : Int32) => [(0, gx_r 17 (some x0)), (1, gx_i x1), (2, gx_i s4)]) (fun s4 kl4 ha4 hb4 => ?_) _
          unfold lb_X16_nodes_3
          refine gx_iload_n (pc := 146) (n := 2) (i := 2) rfl 2 rfl (htX16_nodes_0 (146, .iload_n 2, 1) (gx_m 87 rfl)) ?_
          refine gx_iload_n (pc := 147) (n := 1) (i := 1) rfl 1 rfl (htX16_nodes_0 (147, .iload_n 1, 1) (gx_m 88 rfl)) ?_
          refine gx_icmp_ge (pc := 148) (tgt := 218) (by decide) (htX16_nodes_0 (148, .if_icmp .ge 70, 3) (gx_m 89 rfl)) (fun c5 => ?_) (fun c5 => ?_)
          · refine gx_Jw (lv := []) [] rfl ?_
            exact gx_Jout hb4 (hj4 () trivial)
          · refine gx_aload_n (pc := 151) (n := 0) (i := 0) rfl 0 rfl (htX16_nodes_0 (151, .aload_n 0, 1) (gx_m 90 rfl)) ?_
            refine gx_Jgs (pc := 152) (ci := 16) (kk := 30) (t2 := 102) (by decide) (by decide) rfl rfl rfl q1704 (htX16_nodes_0 (152, .getfield 76, 3) (gx_m 91 rfl)) ?_
            refine gx_iload_n (pc := 155) (n := 2) (i := 2) rfl 2 rfl (htX16_nodes_0 (155, .iload_n 2, 1) (gx_m 92 rfl)) ?_
            refine gx_iconst (pc := 156) (v := 0) (by decide) (htX16_nodes_0 (156, .iconst 0, 1) (gx_m 93 rfl)) ?_
            refine gx_Jzs (pc := 157) (htX16_nodes_0 (157, .bastore, 1) (gx_m 94 rfl)) ?_
            refine gx_aload_n (pc := 158) (n := 0) (i := 0) rfl 0 rfl (htX16_nodes_0 (158, .aload_n 0, 1) (gx_m 95 rfl)) ?_
            refine gx_Jgs (pc := 159) (ci := 16) (kk := 38) (t2 := 100) (by decide) (by decide) rfl rfl rfl q1712 (htX16_nodes_0 (159, .getfield 103, 3) (gx_m 96 rfl)) ?_
            refine gx_iload_n (pc := 162) (n := 2) (i := 2) rfl 2 rfl (htX16_nodes_0 (162, .iload_n 2, 1) (gx_m 97 rfl)) ?_
            refine gx_iconst (pc := 163) (v := 0) (by decide) (htX16_nodes_0 (163, .iconst 0, 1) (gx_m 98 rfl)) ?_
            refine gx_Jis (pc := 164) (htX16_nodes_0 (164, .iastore, 1) (gx_m 99 rfl)) ?_
            refine gx_aload_n (pc := 165) (n := 0) (i := 0) rfl 0 rfl (htX16_nodes_1 (165, .aload_n 0, 1) (gx_m 0 rfl)) ?_
            refine gx_Jgs (pc := 166) (ci := 16) (kk := 39) (t2 := 100) (by decide) (by decide) rfl rfl rfl q1713 (htX16_nodes_1 (166, .getfield 106, 3) (gx_m 1 rfl)) ?_
            refine gx_iload_n (pc := 169) (n := 2) (i := 2) rfl 2 rfl (htX16_nodes_1 (169, .iload_n 2, 1) (gx_m 2 rfl)) ?_
            refine gx_iconst (pc := 170) (v := (-1)) (by decide) (htX16_nodes_1 (170, .iconst (-1), 1) (gx_m 3 rfl)) ?_
            refine gx_Jis (pc := 171) (htX16_nodes_1 (171, .iastore, 1) (gx_m 4 rfl)) ?_
            refine gx_aload_n (pc := 172) (n := 0) (i := 0) rfl 0 rfl (htX16_nodes_1 (172, .aload_n 0, 1) (gx_m 5 rfl)) ?_
            refine gx_Jgs (pc := 173) (ci := 16) (kk := 40) (t2 := 100) (by decide) (by decide) rfl rfl rfl q1714 (htX16_nodes_1 (173, .getfield 109, 3) (gx_m 6 rfl)) ?_
            refine gx_iload_n (pc := 176) (n := 2) (i := 2) rfl 2 rfl (htX16_nodes_1 (176, .iload_n 2, 1) (gx_m 7 rfl)) ?_
            refine gx_iconst (pc := 177) (v := 0) (by decide) (htX16_nodes_1 (177, .iconst 0, 1) (gx_m 8 rfl)) ?_
            refine gx_Jis (pc := 178) (htX16_nodes_1 (178, .iastore, 1) (gx_m 9 rfl)) ?_
            refine gx_aload_n (pc := 179) (n := 0) (i := 0) rfl 0 rfl (htX16_nodes_1 (179, .aload_n 0, 1) (gx_m 10 rfl)) ?_
            refine gx_Jgs (pc := 180) (ci := 16) (kk := 41) (t2 := 100) (by decide) (by decide) rfl rfl rfl q1715 (htX16_nodes_1 (180, .getfield 112, 3) (gx_m 11 rfl)) ?_
            refine gx_iload_n (pc := 183) (n := 2) (i := 2) rfl 2 rfl (htX16_nodes_1 (183, .iload_n 2, 1) (gx_m 12 rfl)) ?_
            refine gx_iconst (pc := 184) (v := 0) (by decide) (htX16_nodes_1 (184, .iconst 0, 1) (gx_m 13 rfl)) ?_
            refine gx_Jis (pc := 185) (htX16_nodes_1 (185, .iastore, 1) (gx_m 14 rfl)) ?_
            refine gx_aload_n (pc := 186) (n := 0) (i := 0) rfl 0 rfl (htX16_nodes_1 (186, .aload_n 0, 1) (gx_m 15 rfl)) ?_
            refine gx_Jgs (pc := 187) (ci := 16) (kk := 42) (t2 := 100) (by decide) (by decide) rfl rfl rfl q1716 (htX16_nodes_1 (187, .getfield 115, 3) (gx_m 16 rfl)) ?_
            refine gx_iload_n (pc := 190) (n := 2) (i := 2) rfl 2 rfl (htX16_nodes_1 (190, .iload_n 2, 1) (gx_m 17 rfl)) ?_
            refine gx_iconst (pc := 191) (v := 0) (by decide) (htX16_nodes_1 (191, .iconst 0, 1) (gx_m 18 rfl)) ?_
            refine gx_Jis (pc := 192) (htX16_nodes_1 (192, .iastore, 1) (gx_m 19 rfl)) ?_
            refine gx_aload_n (pc := 193) (n := 0) (i := 0) rfl 0 rfl (htX16_nodes_1 (193, .aload_n 0, 1) (gx_m 20 rfl)) ?_
            refine gx_Jgs (pc := 194) (ci := 16) (kk := 43) (t2 := 100) (by decide) (by decide) rfl rfl rfl q1717 (htX16_nodes_1 (194, .getfield 118, 3) (gx_m 21 rfl)) ?_
            refine gx_iload_n (pc := 197) (n := 2) (i := 2) rfl 2 rfl (htX16_nodes_1 (197, .iload_n 2, 1) (gx_m 22 rfl)) ?_
            refine gx_iconst (pc := 198) (v := 0) (by decide) (htX16_nodes_1 (198, .iconst 0, 1) (gx_m 23 rfl)) ?_
            refine gx_Jis (pc := 199) (htX16_nodes_1 (199, .iastore, 1) (gx_m 24 rfl)) ?_
            refine gx_aload_n (pc := 200) (n := 0) (i := 0) rfl 0 rfl (htX16_nodes_1 (200, .aload_n 0, 1) (gx_m 25 rfl)) ?_
            refine gx_Jgs (pc := 201) (ci := 16) (kk := 63) (t2 := 100) (by decide) (by decide) rfl rfl rfl q1737 (htX16_nodes_1 (201, .getfield 178, 3) (gx_m 26 rfl)) ?_
            refine gx_iload_n (pc := 204) (n := 2) (i := 2) rfl 2 rfl (htX16_nodes_1 (204, .iload_n 2, 1) (gx_m 27 rfl)) ?_
            refine gx_iconst (pc := 205) (v := 0) (by decide) (htX16_nodes_1 (205, .iconst 0, 1) (gx_m 28 rfl)) ?_
            refine gx_Jis (pc := 206) (htX16_nodes_1 (206, .iastore, 1) (gx_m 29 rfl)) ?_
            refine gx_aload_n (pc := 207) (n := 0) (i := 0) rfl 0 rfl (htX16_nodes_1 (207, .aload_n 0, 1) (gx_m 30 rfl)) ?_
            refine gx_iload_n (pc := 208) (n := 2) (i := 2) rfl 2 rfl (htX16_nodes_1 (208, .iload_n 2, 1) (gx_m 31 rfl)) ?_
            refine gx_Jcv (pc := 209) (gx_hst (as := [gx_i s4]) (b := gx_r 17 (some x0))) (gx_runV (as := [gx_i s4]) (ci := 16) (ct_X16_begin Y x0 s4) (by decide) (Or.inl rfl) rfl rfl rfl rfl q2054 q2056 qs45 q117 q2057 rfl dd_X16_begin (by decide) (by decide) (Nat.le_of_ble_eq_true rfl) (htX16_nodes_1 (209, .invokevirtual 351, 3) (gx_m 32 rfl))) ?_
            refine gx_iinc (pc := 212) (i := 2) (j := 2) (v := (s4 + 1)) (lv' := [(2, gx_i (s4 + 1)), (0, gx_r 17 (some x0)), (1, gx_i x1)]) rfl (gx_iv (by decide)) (by decide) rfl (htX16_nodes_1 (212, .iinc 2 1, 3) (gx_m 33 rfl)) ?_
            refine gx_goto (pc := 215) (tgt := 146) (by decide) (htX16_nodes_1 (215, .goto (-69), 3) (gx_m 34 rfl)) ?_
            refine gx_Jw (lv := [(0, gx_r 17 (some x0)), (1, gx_i x1), (2, gx_i (s4 + 1))]) [1, 2, 0] rfl ?_
            exact ha4 ((s4 + 1) : Int32)
      · refine gx_Jw (lv := [(0, gx_r 17 (some x0)), (1, gx_i x1), (2, gx_i 0)]) [1, 2, 0] rfl ?_
        refine gx_Jlp (pc := 124) (lvh := fun (s3 : Int32) => [(0, gx_r 17 (some x0)), (1, gx_i x1), (2, gx_i s3)]) (fun s3 kl3 ha3 hb3 => ?_) _
        unfold lb_X16_nodes_2
        refine gx_iload_n (pc := 124) (n := 2) (i := 2) rfl 2 rfl (htX16_nodes_0 (124, .iload_n 2, 1) (gx_m 75 rfl)) ?_
        refine gx_sipush (pc := 125) (v := 1500) (by decide) (htX16_nodes_0 (125, .sipush 1500, 3) (gx_m 76 rfl)) ?_
        refine gx_icmp_gt (pc := 128) (tgt := 144) (by decide) (htX16_nodes_0 (128, .if_icmp .gt 16, 3) (gx_m 77 rfl)) (fun c6 => ?_) (fun c6 => ?_)
        · refine gx_Jw (lv := [(0, gx_r 17 (some x0)), (1, gx_i x1)]) [0, 1] rfl ?_
          exact gx_Jout hb3 (hj3 () trivial)
        · refine gx_aload_n (pc := 131) (n := 0) (i := 0) rfl 0 rfl (htX16_nodes_0 (131, .aload_n 0, 1) (gx_m 78 rfl)) ?_
          refine gx_Jgs (pc := 132) (ci := 16) (kk := 28) (t2 := 100) (by decide) (by decide) rfl rfl rfl q1702 (htX16_nodes_0 (132, .getfield 73, 3) (gx_m 79 rfl)) ?_
          refine gx_iload_n (pc := 135) (n := 2) (i := 2) rfl 2 rfl (htX16_nodes_0 (135, .iload_n 2, 1) (gx_m 80 rfl)) ?_
          refine gx_iconst (pc := 136) (v := (-1)) (by decide) (htX16_nodes_0 (136, .iconst (-1), 1) (gx_m 81 rfl)) ?_
          refine gx_Jis (pc := 137) (htX16_nodes_0 (137, .iastore, 1) (gx_m 82 rfl)) ?_
          refine gx_iinc (pc := 138) (i := 2) (j := 2) (v := (s3 + 1)) (lv' := [(2, gx_i (s3 + 1)), (0, gx_r 17 (some x0)), (1, gx_i x1)]) rfl (gx_iv (by decide)) (by decide) rfl (htX16_nodes_0 (138, .iinc 2 1, 3) (gx_m 83 rfl)) ?_
          refine gx_goto (pc := 141) (tgt := 124) (by decide) (htX16_nodes_0 (141, .goto (-17), 3) (gx_m 84 rfl)) ?_
          refine gx_Jw (lv := [(0, gx_r 17 (some x0)), (1, gx_i x1), (2, gx_i (s3 + 1))]) [1, 2, 0] rfl ?_
          exact ha3 ((s3 + 1) : Int32)
    · refine gx_Jw (lv := [(0, gx_r 17 (some x0)), (1, gx_i x1), (2, gx_i 0)]) [1, 2, 0] rfl ?_
      refine gx_Jlp (pc := 102) (lvh := fun (s2 : Int32) => [(0, gx_r 17 (some x0)), (1, gx_i x1), (2, gx_i s2)]) (fun s2 kl2 ha2 hb2 => ?_) _
      unfold lb_X16_nodes_1
      refine gx_iload_n (pc := 102) (n := 2) (i := 2) rfl 2 rfl (htX16_nodes_0 (102, .iload_n 2, 1) (gx_m 63 rfl)) ?_
      refine gx_sipush (pc := 103) (v := 5000) (by decide) (htX16_nodes_0 (103, .sipush 5000, 3) (gx_m 64 rfl)) ?_
      refine gx_icmp_ge (pc := 106) (tgt := 122) (by decide) (htX16_nodes_0 (106, .if_icmp .ge 16, 3) (gx_m 65 rfl)) (fun c7 => ?_) (fun c7 => ?_)
      · refine gx_Jw (lv := [(0, gx_r 17 (some x0)), (1, gx_i x1)]) [0, 1] rfl ?_
        exact gx_Jout hb2 (hj2 () trivial)
      · refine gx_aload_n (pc := 109) (n := 0) (i := 0) rfl 0 rfl (htX16_nodes_0 (109, .aload_n 0, 1) (gx_m 66 rfl)) ?_
        refine gx_Jgs (pc := 110) (ci := 16) (kk := 95) (t2 := 100) (by decide) (by decide) rfl rfl rfl q1769 (htX16_nodes_0 (110, .getfield 261, 3) (gx_m 67 rfl)) ?_
        refine gx_iload_n (pc := 113) (n := 2) (i := 2) rfl 2 rfl (htX16_nodes_0 (113, .iload_n 2, 1) (gx_m 68 rfl)) ?_
        refine gx_iconst (pc := 114) (v := (-1)) (by decide) (htX16_nodes_0 (114, .iconst (-1), 1) (gx_m 69 rfl)) ?_
        refine gx_Jis (pc := 115) (htX16_nodes_0 (115, .iastore, 1) (gx_m 70 rfl)) ?_
        refine gx_iinc (pc := 116) (i := 2) (j := 2) (v := (s2 + 1)) (lv' := [(2, gx_i (s2 + 1)), (0, gx_r 17 (some x0)), (1, gx_i x1)]) rfl (gx_iv (by decide)) (by decide) rfl (htX16_nodes_0 (116, .iinc 2 1, 3) (gx_m 71 rfl)) ?_
        refine gx_goto (pc := 119) (tgt := 102) (by decide) (htX16_nodes_0 (119, .goto (-17), 3) (gx_m 72 rfl)) ?_
        refine gx_Jw (lv := [(0, gx_r 17 (some x0)), (1, gx_i x1), (2, gx_i (s2 + 1))]) [1, 2, 0] rfl ?_
        exact ha2 ((s2 + 1) : Int32)
  · refine gx_icmp_lt (pc := 2) (tgt := 11) (by decide) (htX16_nodes_0 (2, .if_icmp .lt 9, 3) (gx_m 2 rfl)) (fun c8 => ?_) (fun c8 => ?_)
    · exact hT1
    · refine gx_iload_n (pc := 5) (n := 1) (i := 1) rfl 1 rfl (htX16_nodes_0 (5, .iload_n 1, 1) (gx_m 3 rfl)) ?_
      refine gx_bipush (pc := 6) (v := 7) (by decide) (htX16_nodes_0 (6, .bipush 7, 2) (gx_m 4 rfl)) ?_
      refine gx_icmp_le (pc := 8) (tgt := 17) (by decide) (htX16_nodes_0 (8, .if_icmp .le 9, 3) (gx_m 5 rfl)) (fun c9 => ?_) (fun c9 => ?_)
      · exact hE1
      · exact hT1
theorem ct_X16_no (Y : gx_Y) (x0 : gx_Nm) (x1 : Int32) : gx_Ct Y yX16_no (ws_ yX16_no cX16_no 2 (some .int)) 1 100 [gx_r 17 (some x0), gx_i x1] gx_Oi (f_X16_no x0 x1) := by
  refine gx_start (lv := [(0, gx_r 17 (some x0)), (1, gx_i x1)]) gx_Oi_r pn_X16 (Nat.le_of_ble_eq_true rfl) rfl ?_
  unfold f_X16_no
  refine gx_aload_n (pc := 0) (n := 0) (i := 0) rfl 0 rfl (htX16_no (0, .aload_n 0, 1) (gx_m 0 rfl)) ?_
  refine gx_iload_n (pc := 1) (n := 1) (i := 1) rfl 1 rfl (htX16_no (1, .iload_n 1, 1) (gx_m 1 rfl)) ?_
  refine gx_Jpi (pc := 2) (ci := 16) (kk := 0) (by decide) (Or.inl rfl) (by decide) rfl rfl q1674 (Or.inl rfl) (htX16_no (2, .putfield 312, 3) (gx_m 2 rfl)) ?_
  refine gx_iconst (pc := 5) (v := 0) (by decide) (htX16_no (5, .iconst 0, 1) (gx_m 3 rfl)) ?_
  exact gx_Jiret (pc := 6) rfl (fun _ => trivial) (fun _ _ => rfl) (htX16_no (6, .ireturn, 1) (gx_m 4 rfl))
theorem ct_X16_feed (Y : gx_Y) (x0 : gx_Nm) (x1 : Int32) (x2 : Int32) (x3 : Int32) (x4 : Int32) (x5 : Int32) : gx_Ct Y yX16_feed (ws_ yX16_feed cX16_feed 7 (some .int)) 2 121 [gx_r 17 (some x0), gx_i x1, gx_i x2, gx_i x3, gx_i x4, gx_i x5] gx_Oi (f_X16_feed x0 x1 x2 x3 x4 x5) := by
  refine gx_start (lv := [(0, gx_r 17 (some x0)), (1, gx_i x1), (2, gx_i x2), (3, gx_i x3), (4, gx_i x4), (5, gx_i x5)]) gx_Oi_r pn_X16 (Nat.le_of_ble_eq_true rfl) rfl ?_
  unfold f_X16_feed
  refine gx_aload_n (pc := 0) (n := 0) (i := 0) rfl 0 rfl (htX16_feed (0, .aload_n 0, 1) (gx_m 0 rfl)) ?_
  refine gx_Jgi (pc := 1) (ci := 16) (kk := 4) (by decide) (Or.inl rfl) (by decide) (by decide) q1678 (htX16_feed (1, .getfield 358, 3) (gx_m 1 rfl)) (fun v1 hv1 => ?_)
  refine gx_bipush (pc := 4) (v := 20) (by decide) (htX16_feed (4, .bipush 20, 2) (gx_m 2 rfl)) ?_
  refine gx_iadd (pc := 6) (htX16_feed (6, .iadd, 1) (gx_m 3 rfl)) ?_
  refine gx_aload_n (pc := 7) (n := 0) (i := 0) rfl 0 rfl (htX16_feed (7, .aload_n 0, 1) (gx_m 4 rfl)) ?_
  refine gx_Jgi (pc := 8) (ci := 16) (kk := 7) (by decide) (Or.inl rfl) (by decide) (by decide) q1681 (htX16_feed (8, .getfield 361, 3) (gx_m 5 rfl)) (fun v2 hv2 => ?_)
  refine gx_Jjoin (pcJ := 22) (lvJ := fun (j4 : Int32) => [(0, gx_r 17 (some x0)), (1, gx_i x1), (2, gx_i x2), (3, gx_i x3), (4, gx_i x4), (5, gx_i x5)]) (stJ := fun (j4 : Int32) => [gx_i j4, gx_i (v1 + 20)]) (fun _ => True) (fun j4 hj4 => ?_) (fun kk1 hj1 => ?_)
  · refine gx_iadd (pc := 22) (htX16_feed (22, .iadd, 1) (gx_m 11 rfl)) ?_
    refine gx_aload_n (pc := 23) (n := 0) (i := 0) rfl 0 rfl (htX16_feed (23, .aload_n 0, 1) (gx_m 12 rfl)) ?_
    refine gx_Jgi (pc := 24) (ci := 16) (kk := 7) (by decide) (Or.inl rfl) (by decide) (by decide) q1681 (htX16_feed (24, .getfield 361, 3) (gx_m 13 rfl)) (fun v5 hv5 => ?_)
    refine gx_iconst (pc := 27) (v := 1) (by decide) (htX16_feed (27, .iconst 1, 1) (gx_m 14 rfl)) ?_
    refine gx_Jjoin (pcJ := 39) (lvJ := fun (j7 : Int32) => [(0, gx_r 17 (some x0)), (1, gx_i x1), (2, gx_i x2), (3, gx_i x3), (4, gx_i x4), (5, gx_i x5)]) (stJ := fun (j7 : Int32) => [gx_i j7, gx_i ((v1 + 20) + j4)]) (fun _ => True) (fun j7 hj7 => ?_) (fun kk2 hj2 => ?_)
    · refine gx_iadd (pc := 39) (htX16_feed (39, .iadd, 1) (gx_m 20 rfl)) ?_
      refine gx_sipush (pc := 40) (v := 2048) (by decide) (htX16_feed (40, .sipush 2048, 3) (gx_m 21 rfl)) ?_
      refine gx_icmp_le (pc := 43) (tgt := 52) (by decide) (htX16_feed (43, .if_icmp .le 9, 3) (gx_m 22 rfl)) (fun c3 => ?_) (fun c3 => ?_)
      · refine gx_aload_n (pc := 52) (n := 0) (i := 0) rfl 0 rfl (htX16_feed (52, .aload_n 0, 1) (gx_m 27 rfl)) ?_
        refine gx_iconst (pc := 53) (v := 0) (by decide) (htX16_feed (53, .iconst 0, 1) (gx_m 28 rfl)) ?_
        refine gx_Jpi (pc := 54) (ci := 16) (kk := 0) (by decide) (Or.inl rfl) (by decide) rfl rfl q1674 (Or.inl rfl) (htX16_feed (54, .putfield 312, 3) (gx_m 29 rfl)) ?_
        refine gx_iconst (pc := 57) (v := 0) (by decide) (htX16_feed (57, .iconst 0, 1) (gx_m 30 rfl)) ?_
        refine gx_istore (pc := 58) (i := 6) (lv' := [(6, gx_i 0), (0, gx_r 17 (some x0)), (1, gx_i x1), (2, gx_i x2), (3, gx_i x3), (4, gx_i x4), (5, gx_i x5)]) (by decide) rfl (htX16_feed (58, .istore 6, 2) (gx_m 31 rfl)) ?_
        refine gx_Jjoin (pcJ := 143) (lvJ := fun (j_4 : Unit) => [(0, gx_r 17 (some x0))]) (stJ := fun (j_4 : Unit) => []) (fun _ => True) (fun j_4 _ => ?_) (fun kk4 hj4 => ?_)
        · refine gx_aload_n (pc := 143) (n := 0) (i := 0) rfl 0 rfl (htX16_feed (143, .aload_n 0, 1) (gx_m 74 rfl)) ?_
          refine gx_dup (pc := 144) rfl (htX16_feed (144, .dup, 1) (gx_m 75 rfl)) ?_
          refine gx_Jgi (pc := 145) (ci := 16) (kk := 4) (by decide) (Or.inl rfl) (by decide) (by decide) q1678 (htX16_feed (145, .getfield 358, 3) (gx_m 76 rfl)) (fun v11 hv11 => ?_)
          refine gx_bipush (pc := 148) (v := 20) (by decide) (htX16_feed (148, .bipush 20, 2) (gx_m 77 rfl)) ?_
          refine gx_iadd (pc := 150) (htX16_feed (150, .iadd, 1) (gx_m 78 rfl)) ?_
          refine gx_Jpi (pc := 151) (ci := 16) (kk := 4) (by decide) (Or.inl rfl) (by decide) rfl rfl q1678 (Or.inl rfl) (htX16_feed (151, .putfield 358, 3) (gx_m 79 rfl)) ?_
          refine gx_aload_n (pc := 154) (n := 0) (i := 0) rfl 0 rfl (htX16_feed (154, .aload_n 0, 1) (gx_m 80 rfl)) ?_
          refine gx_Jgi (pc := 155) (ci := 16) (kk := 4) (by decide) (Or.inl rfl) (by decide) (by decide) q1678 (htX16_feed (155, .getfield 358, 3) (gx_m 81 rfl)) (fun v12 hv12 => ?_)
          exact gx_Jiret (pc := 158) rfl (fun _ => trivial) (fun _ _ => rfl) (htX16_feed (158, .ireturn, 1) (gx_m 82 rfl))
        · refine gx_Jw (lv := [(0, gx_r 17 (some x0)), (1, gx_i x1), (2, gx_i x2), (3, gx_i x3), (4, gx_i x4), (5, gx_i x5), (6, gx_i 0)]) [1, 2, 3, 4, 5, 6, 0] rfl ?_
          refine gx_Jlp (pc := 60) (lvh := fun (s8 : Int32) => [(0, gx_r 17 (some x0)), (1, gx_i x1), (2, gx_i x2), (3, gx_i x3), (4, gx_i x4), (5, gx_i x5), (6, gx_i s8)]) (fun s8 kl4 ha4 hb4 => ?_) _
          unfold lb_X16_feed_1
          refine gx_iload (pc := 60) (i := 6) 6 rfl (htX16_feed (60, .iload 6, 2) (gx_m 32 rfl)) ?_
          refine gx_bipush (pc := 62) (v := 20) (by decide) (htX16_feed (62, .bipush 20, 2) (gx_m 33 rfl)) ?_
          refine gx_icmp_ge (pc := 64) (tgt := 143) (by decide) (htX16_feed (64, .if_icmp .ge 79, 3) (gx_m 34 rfl)) (fun c5 => ?_) (fun c5 => ?_)
          · refine gx_Jw (lv := [(0, gx_r 17 (some x0))]) [0] rfl ?_
            exact gx_Jout hb4 (hj4 () trivial)
          · refine gx_aload_n (pc := 67) (n := 0) (i := 0) rfl 0 rfl (htX16_feed (67, .aload_n 0, 1) (gx_m 35 rfl)) ?_
            refine gx_Jgs (pc := 68) (ci := 16) (kk := 1) (t2 := 101) (by decide) (by decide) rfl rfl rfl q1675 (htX16_feed (68, .getfield 9, 3) (gx_m 36 rfl)) ?_
            refine gx_aload_n (pc := 71) (n := 0) (i := 0) rfl 0 rfl (htX16_feed (71, .aload_n 0, 1) (gx_m 37 rfl)) ?_
            refine gx_Jgi (pc := 72) (ci := 16) (kk := 4) (by decide) (Or.inl rfl) (by decide) (by decide) q1678 (htX16_feed (72, .getfield 358, 3) (gx_m 38 rfl)) (fun v9 hv9 => ?_)
            refine gx_iload (pc := 75) (i := 6) 6 rfl (htX16_feed (75, .iload 6, 2) (gx_m 39 rfl)) ?_
            refine gx_iadd (pc := 77) (htX16_feed (77, .iadd, 1) (gx_m 40 rfl)) ?_
            refine gx_iload (pc := 78) (i := 6) 6 rfl (htX16_feed (78, .iload 6, 2) (gx_m 41 rfl)) ?_
            refine gx_iconst (pc := 80) (v := 4) (by decide) (htX16_feed (80, .iconst 4, 1) (gx_m 42 rfl)) ?_
            refine gx_Jjoin (pcJ := 124) (lvJ := fun (j10 : Int32) => [(0, gx_r 17 (some x0)), (1, gx_i x1), (2, gx_i x2), (3, gx_i x3), (4, gx_i x4), (5, gx_i x5), (6, gx_i s8)]) (stJ := fun (j10 : Int32) => [gx_i j10, gx_i (v9 + s8), gx_r 101 (some (1 :: x0))]) (fun _ => True) (fun j10 hj10 => ?_) (fun kk6 hj6 => ?_)
            · refine gx_bipush (pc := 124) (v := 24) (by decide) (htX16_feed (124, .bipush 24, 2) (gx_m 62 rfl)) ?_
              refine gx_iload (pc := 126) (i := 6) 6 rfl (htX16_feed (126, .iload 6, 2) (gx_m 63 rfl)) ?_
              refine gx_iconst (pc := 128) (v := 4) (by decide) (htX16_feed (128, .iconst 4, 1) (gx_m 64 rfl)) ?_
              refine gx_iremr (pc := 129) (by decide) (htX16_feed (129, .irem, 1) (gx_m 65 rfl)) ?_
              refine gx_bipush (pc := 130) (v := 8) (by decide) (htX16_feed (130, .bipush 8, 2) (gx_m 66 rfl)) ?_
              refine gx_imul (pc := 132) (htX16_feed (132, .imul, 1) (gx_m 67 rfl)) ?_
              refine gx_isub (pc := 133) (htX16_feed (133, .isub, 1) (gx_m 68 rfl)) ?_
              refine gx_iushr (pc := 134) (htX16_feed (134, .iushr, 1) (gx_m 69 rfl)) ?_
              refine gx_i2b (pc := 135) (htX16_feed (135, .i2b, 1) (gx_m 70 rfl)) ?_
              refine gx_Jbs (pc := 136) (htX16_feed (136, .bastore, 1) (gx_m 71 rfl)) ?_
              refine gx_iinc (pc := 137) (i := 6) (j := 6) (v := (s8 + 1)) (lv' := [(6, gx_i (s8 + 1)), (0, gx_r 17 (some x0)), (1, gx_i x1), (2, gx_i x2), (3, gx_i x3), (4, gx_i x4), (5, gx_i x5)]) rfl (gx_iv (by decide)) (by decide) rfl (htX16_feed (137, .iinc 6 1, 3) (gx_m 72 rfl)) ?_
              refine gx_goto (pc := 140) (tgt := 60) (by decide) (htX16_feed (140, .goto (-80), 3) (gx_m 73 rfl)) ?_
              refine gx_Jw (lv := [(0, gx_r 17 (some x0)), (1, gx_i x1), (2, gx_i x2), (3, gx_i x3), (4, gx_i x4), (5, gx_i x5), (6, gx_i (s8 + 1))]) [1, 2, 3, 4, 5, 6, 0] rfl ?_
              exact ha4 ((s8 + 1) : Int32)
            · refine gx_icmp_ge (pc := 81) (tgt := 88) (by decide) (htX16_feed (81, .if_icmp .ge 7, 3) (gx_m 43 rfl)) (fun c7 => ?_) (fun c7 => ?_)
              · refine gx_iload (pc := 88) (i := 6) 6 rfl (htX16_feed (88, .iload 6, 2) (gx_m 46 rfl)) ?_
                refine gx_bipush (pc := 90) (v := 8) (by decide) (htX16_feed (90, .bipush 8, 2) (gx_m 47 rfl)) ?_
                refine gx_icmp_ge (pc := 92) (tgt := 99) (by decide) (htX16_feed (92, .if_icmp .ge 7, 3) (gx_m 48 rfl)) (fun c8 => ?_) (fun c8 => ?_)
                · refine gx_iload (pc := 99) (i := 6) 6 rfl (htX16_feed (99, .iload 6, 2) (gx_m 51 rfl)) ?_
                  refine gx_bipush (pc := 101) (v := 12) (by decide) (htX16_feed (101, .bipush 12, 2) (gx_m 52 rfl)) ?_
                  refine gx_icmp_ge (pc := 103) (tgt := 110) (by decide) (htX16_feed (103, .if_icmp .ge 7, 3) (gx_m 53 rfl)) (fun c9 => ?_) (fun c9 => ?_)
                  · refine gx_iload (pc := 110) (i := 6) 6 rfl (htX16_feed (110, .iload 6, 2) (gx_m 56 rfl)) ?_
                    refine gx_bipush (pc := 112) (v := 16) (by decide) (htX16_feed (112, .bipush 16, 2) (gx_m 57 rfl)) ?_
                    refine gx_icmp_ge (pc := 114) (tgt := 122) (by decide) (htX16_feed (114, .if_icmp .ge 8, 3) (gx_m 58 rfl)) (fun c10 => ?_) (fun c10 => ?_)
                    · refine gx_iload (pc := 122) (i := 5) 5 rfl (htX16_feed (122, .iload 5, 2) (gx_m 61 rfl)) ?_
                      exact hj6 (x5 : Int32) trivial
                    · refine gx_iload (pc := 117) (i := 4) 4 rfl (htX16_feed (117, .iload 4, 2) (gx_m 59 rfl)) ?_
                      refine gx_goto (pc := 119) (tgt := 124) (by decide) (htX16_feed (119, .goto 5, 3) (gx_m 60 rfl)) ?_
                      exact hj6 (x4 : Int32) trivial
                  · refine gx_iload_n (pc := 106) (n := 3) (i := 3) rfl 3 rfl (htX16_feed (106, .iload_n 3, 1) (gx_m 54 rfl)) ?_
                    refine gx_goto (pc := 107) (tgt := 124) (by decide) (htX16_feed (107, .goto 17, 3) (gx_m 55 rfl)) ?_
                    exact hj6 (x3 : Int32) trivial
                · refine gx_iload_n (pc := 95) (n := 2) (i := 2) rfl 2 rfl (htX16_feed (95, .iload_n 2, 1) (gx_m 49 rfl)) ?_
                  refine gx_goto (pc := 96) (tgt := 124) (by decide) (htX16_feed (96, .goto 28, 3) (gx_m 50 rfl)) ?_
                  exact hj6 (x2 : Int32) trivial
              · refine gx_iload_n (pc := 84) (n := 1) (i := 1) rfl 1 rfl (htX16_feed (84, .iload_n 1, 1) (gx_m 44 rfl)) ?_
                refine gx_goto (pc := 85) (tgt := 124) (by decide) (htX16_feed (85, .goto 39, 3) (gx_m 45 rfl)) ?_
                exact hj6 (x1 : Int32) trivial
      · refine gx_aload_n (pc := 46) (n := 0) (i := 0) rfl 0 rfl (htX16_feed (46, .aload_n 0, 1) (gx_m 23 rfl)) ?_
        refine gx_iconst (pc := 47) (v := 1) (by decide) (htX16_feed (47, .iconst 1, 1) (gx_m 24 rfl)) ?_
        refine gx_Jci (pc := 48) (gx_hst (as := [gx_i 1]) (b := gx_r 17 (some x0))) (gx_runV (as := [gx_i 1]) (ci := 16) (ct_X16_no Y x0 1) (by decide) (Or.inl rfl) rfl rfl rfl rfl q2062 q2064 qs46 q117 q2065 rfl dd_X16_no (by decide) (by decide) (Nat.le_of_ble_eq_true rfl) (htX16_feed (48, .invokevirtual 370, 3) (gx_m 25 rfl))) (fun v13 => ?_)
        exact gx_Jiret (pc := 51) rfl (fun _ => trivial) (fun _ _ => rfl) (htX16_feed (51, .ireturn, 1) (gx_m 26 rfl))
    · refine gx_icmp_le (pc := 28) (tgt := 38) (by decide) (htX16_feed (28, .if_icmp .le 10, 3) (gx_m 15 rfl)) (fun c11 => ?_) (fun c11 => ?_)
      · refine gx_iconst (pc := 38) (v := 0) (by decide) (htX16_feed (38, .iconst 0, 1) (gx_m 19 rfl)) ?_
        exact hj2 (0 : Int32) trivial
      · refine gx_aload_n (pc := 31) (n := 0) (i := 0) rfl 0 rfl (htX16_feed (31, .aload_n 0, 1) (gx_m 16 rfl)) ?_
        refine gx_Jgi (pc := 32) (ci := 16) (kk := 6) (by decide) (Or.inl rfl) (by decide) (by decide) q1680 (htX16_feed (32, .getfield 367, 3) (gx_m 17 rfl)) (fun v6 hv6 => ?_)
        refine gx_goto (pc := 35) (tgt := 39) (by decide) (htX16_feed (35, .goto 4, 3) (gx_m 18 rfl)) ?_
        exact hj2 (v6 : Int32) trivial
  · refine gx_if_le (pc := 11) (y := 0) (tgt := 21) (by decide) (htX16_feed (11, .ifCond .le 10, 3) (gx_m 6 rfl)) (fun c12 => ?_) (fun c12 => ?_)
    · refine gx_iconst (pc := 21) (v := 0) (by decide) (htX16_feed (21, .iconst 0, 1) (gx_m 10 rfl)) ?_
      exact hj1 (0 : Int32) trivial
    · refine gx_aload_n (pc := 14) (n := 0) (i := 0) rfl 0 rfl (htX16_feed (14, .aload_n 0, 1) (gx_m 7 rfl)) ?_
      refine gx_Jgi (pc := 15) (ci := 16) (kk := 5) (by decide) (Or.inl rfl) (by decide) (by decide) q1679 (htX16_feed (15, .getfield 364, 3) (gx_m 8 rfl)) (fun v3 hv3 => ?_)
      refine gx_goto (pc := 18) (tgt := 22) (by decide) (htX16_feed (18, .goto 4, 3) (gx_m 9 rfl)) ?_
      exact hj1 (v3 : Int32) trivial
theorem ct_X16_end (Y : gx_Y) (x0 : gx_Nm) (x1 : Int32) : gx_Ct Y yX16_end (ws_ yX16_end cX16_end 4 (some .int)) 2 121 [gx_r 17 (some x0), gx_i x1] gx_Oi (f_X16_end x0 x1) := by
  refine gx_start (lv := [(0, gx_r 17 (some x0)), (1, gx_i x1)]) gx_Oi_r pn_X16 (Nat.le_of_ble_eq_true rfl) rfl ?_
  unfold f_X16_end
  refine gx_iload_n (pc := 0) (n := 1) (i := 1) rfl 1 rfl (htX16_end (0, .iload_n 1, 1) (gx_m 0 rfl)) ?_
  refine gx_Jcond (pcT := 18) (pcE := 24) (lv2 := [(0, gx_r 17 (some x0)), (1, gx_i x1)]) (st2 := []) ?_ ?_ (fun kk1 hT1 hE1 => ?_)
  · refine gx_aload_n (pc := 18) (n := 0) (i := 0) rfl 0 rfl (htX16_end (18, .aload_n 0, 1) (gx_m 9 rfl)) ?_
    refine gx_iconst (pc := 19) (v := 1) (by decide) (htX16_end (19, .iconst 1, 1) (gx_m 10 rfl)) ?_
    refine gx_Jci (pc := 20) (gx_hst (as := [gx_i 1]) (b := gx_r 17 (some x0))) (gx_runV (as := [gx_i 1]) (ci := 16) (ct_X16_no Y x0 1) (by decide) (Or.inl rfl) rfl rfl rfl rfl q2062 q2064 qs46 q117 q2065 rfl dd_X16_no (by decide) (by decide) (Nat.le_of_ble_eq_true rfl) (htX16_end (20, .invokevirtual 370, 3) (gx_m 11 rfl))) (fun v3 => ?_)
    exact gx_Jiret (pc := 23) rfl (fun _ => trivial) (fun _ _ => rfl) (htX16_end (23, .ireturn, 1) (gx_m 12 rfl))
  · refine gx_aload_n (pc := 24) (n := 0) (i := 0) rfl 0 rfl (htX16_end (24, .aload_n 0, 1) (gx_m 13 rfl)) ?_
    refine gx_iconst (pc := 25) (v := 0) (by decide) (htX16_end (25, .iconst 0, 1) (gx_m 14 rfl)) ?_
    refine gx_Jpi (pc := 26) (ci := 16) (kk := 0) (by decide) (Or.inl rfl) (by decide) rfl rfl q1674 (Or.inl rfl) (htX16_end (26, .putfield 312, 3) (gx_m 15 rfl)) ?_
    refine gx_aload_n (pc := 29) (n := 0) (i := 0) rfl 0 rfl (htX16_end (29, .aload_n 0, 1) (gx_m 16 rfl)) ?_
    refine gx_dup (pc := 30) rfl (htX16_end (30, .dup, 1) (gx_m 17 rfl)) ?_
    refine gx_Jgi (pc := 31) (ci := 16) (kk := 4) (by decide) (Or.inl rfl) (by decide) (by decide) q1678 (htX16_end (31, .getfield 358, 3) (gx_m 18 rfl)) (fun v4 hv4 => ?_)
    refine gx_iload_n (pc := 34) (n := 1) (i := 1) rfl 1 rfl (htX16_end (34, .iload_n 1, 1) (gx_m 19 rfl)) ?_
    refine gx_isub (pc := 35) (htX16_end (35, .isub, 1) (gx_m 20 rfl)) ?_
    refine gx_Jpi (pc := 36) (ci := 16) (kk := 4) (by decide) (Or.inl rfl) (by decide) rfl rfl q1678 (Or.inl rfl) (htX16_end (36, .putfield 358, 3) (gx_m 21 rfl)) ?_
    refine gx_aload_n (pc := 39) (n := 0) (i := 0) rfl 0 rfl (htX16_end (39, .aload_n 0, 1) (gx_m 22 rfl)) ?_
    refine gx_Jgi (pc := 40) (ci := 16) (kk := 7) (by decide) (Or.inl rfl) (by decide) (by decide) q1681 (htX16_end (40, .getfield 361, 3) (gx_m 23 rfl)) (fun v5 hv5 => ?_)
    refine gx_iconst (pc := 43) (v := 2) (by decide) (htX16_end (43, .iconst 2, 1) (gx_m 24 rfl)) ?_
    refine gx_Jjoin (pcJ := 88) (lvJ := fun (j_2 : Unit) => [(0, gx_r 17 (some x0))]) (stJ := fun (j_2 : Unit) => []) (fun _ => True) (fun j_2 hj_2 => ?_) (fun kk2 hj2 => ?_)
    · refine gx_aload_n (pc := 88) (n := 0) (i := 0) rfl 0 rfl (htX16_end (88, .aload_n 0, 1) (gx_m 49 rfl)) ?_
      refine gx_Jgi (pc := 89) (ci := 16) (kk := 7) (by decide) (Or.inl rfl) (by decide) (by decide) q1681 (htX16_end (89, .getfield 361, 3) (gx_m 50 rfl)) (fun v10 hv10 => ?_)
      refine gx_Jjoin (pcJ := 106) (lvJ := fun (j11 : gx_Nm) => [(0, gx_r 17 (some x0))]) (stJ := fun (j11 : gx_Nm) => [gx_r 101 (some j11)]) (fun _ => True) (fun j11 hj11 => ?_) (fun kk3 hj3 => ?_)
      · refine gx_astore_n (pc := 106) (n := 2) (i := 2) (lv' := [(2, gx_r 101 (some j11)), (0, gx_r 17 (some x0))]) rfl (by decide) rfl (htX16_end (106, .astore_n 2, 1) (gx_m 57 rfl)) ?_
        refine gx_iconst (pc := 107) (v := 0) (by decide) (htX16_end (107, .iconst 0, 1) (gx_m 58 rfl)) ?_
        refine gx_istore_n (pc := 108) (n := 3) (i := 3) (lv' := [(3, gx_i 0), (2, gx_r 101 (some j11)), (0, gx_r 17 (some x0))]) rfl (by decide) rfl (htX16_end (108, .istore_n 3, 1) (gx_m 59 rfl)) ?_
        refine gx_Jjoin (pcJ := 132) (lvJ := fun (j_4 : Unit) => [(0, gx_r 17 (some x0))]) (stJ := fun (j_4 : Unit) => []) (fun _ => True) (fun j_4 _ => ?_) (fun kk4 hj4 => ?_)
        · refine gx_aload_n (pc := 132) (n := 0) (i := 0) rfl 0 rfl (htX16_end (132, .aload_n 0, 1) (gx_m 73 rfl)) ?_
          refine gx_Jgi (pc := 133) (ci := 16) (kk := 7) (by decide) (Or.inl rfl) (by decide) (by decide) q1681 (htX16_end (133, .getfield 361, 3) (gx_m 74 rfl)) (fun v15 hv15 => ?_)
          refine gx_Jjoin (pcJ := 158) (lvJ := fun (j_5 : Unit) => [(0, gx_r 17 (some x0))]) (stJ := fun (j_5 : Unit) => []) (fun _ => True) (fun j_5 hj_5 => ?_) (fun kk5 hj5 => ?_)
          · refine gx_aload_n (pc := 158) (n := 0) (i := 0) rfl 0 rfl (htX16_end (158, .aload_n 0, 1) (gx_m 85 rfl)) ?_
            refine gx_dup (pc := 159) rfl (htX16_end (159, .dup, 1) (gx_m 86 rfl)) ?_
            refine gx_Jgi (pc := 160) (ci := 16) (kk := 7) (by decide) (Or.inl rfl) (by decide) (by decide) q1681 (htX16_end (160, .getfield 361, 3) (gx_m 87 rfl)) (fun v18 hv18 => ?_)
            refine gx_iconst (pc := 163) (v := 1) (by decide) (htX16_end (163, .iconst 1, 1) (gx_m 88 rfl)) ?_
            refine gx_iadd (pc := 164) (htX16_end (164, .iadd, 1) (gx_m 89 rfl)) ?_
            refine gx_Jpi (pc := 165) (ci := 16) (kk := 7) (by decide) (Or.inl rfl) (by decide) rfl rfl q1681 (Or.inl rfl) (htX16_end (165, .putfield 361, 3) (gx_m 90 rfl)) ?_
            refine gx_aload_n (pc := 168) (n := 0) (i := 0) rfl 0 rfl (htX16_end (168, .aload_n 0, 1) (gx_m 91 rfl)) ?_
            refine gx_iconst (pc := 169) (v := 0) (by decide) (htX16_end (169, .iconst 0, 1) (gx_m 92 rfl)) ?_
            refine gx_Jpi (pc := 170) (ci := 16) (kk := 4) (by decide) (Or.inl rfl) (by decide) rfl rfl q1678 (Or.inl rfl) (htX16_end (170, .putfield 358, 3) (gx_m 93 rfl)) ?_
            refine gx_aload_n (pc := 173) (n := 0) (i := 0) rfl 0 rfl (htX16_end (173, .aload_n 0, 1) (gx_m 94 rfl)) ?_
            refine gx_Jgi (pc := 174) (ci := 16) (kk := 7) (by decide) (Or.inl rfl) (by decide) (by decide) q1681 (htX16_end (174, .getfield 361, 3) (gx_m 95 rfl)) (fun v19 hv19 => ?_)
            exact gx_Jiret (pc := 177) rfl (fun _ => trivial) (fun _ _ => rfl) (htX16_end (177, .ireturn, 1) (gx_m 96 rfl))
          · refine gx_if_ne (pc := 136) (y := 0) (tgt := 150) (by decide) (htX16_end (136, .ifCond .ne 14, 3) (gx_m 75 rfl)) (fun c6 => ?_) (fun c6 => ?_)
            · refine gx_aload_n (pc := 139) (n := 0) (i := 0) rfl 0 rfl (htX16_end (139, .aload_n 0, 1) (gx_m 76 rfl)) ?_
              refine gx_aload_n (pc := 140) (n := 0) (i := 0) rfl 0 rfl (htX16_end (140, .aload_n 0, 1) (gx_m 77 rfl)) ?_
              refine gx_Jgi (pc := 141) (ci := 16) (kk := 4) (by decide) (Or.inl rfl) (by decide) (by decide) q1678 (htX16_end (141, .getfield 358, 3) (gx_m 78 rfl)) (fun v16 hv16 => ?_)
              refine gx_Jpi (pc := 144) (ci := 16) (kk := 5) (by decide) (Or.inl rfl) (by decide) rfl rfl q1679 (Or.inl rfl) (htX16_end (144, .putfield 364, 3) (gx_m 79 rfl)) ?_
              refine gx_goto (pc := 147) (tgt := 158) (by decide) (htX16_end (147, .goto 11, 3) (gx_m 80 rfl)) ?_
              exact hj5 () trivial
            · refine gx_aload_n (pc := 150) (n := 0) (i := 0) rfl 0 rfl (htX16_end (150, .aload_n 0, 1) (gx_m 81 rfl)) ?_
              refine gx_aload_n (pc := 151) (n := 0) (i := 0) rfl 0 rfl (htX16_end (151, .aload_n 0, 1) (gx_m 82 rfl)) ?_
              refine gx_Jgi (pc := 152) (ci := 16) (kk := 4) (by decide) (Or.inl rfl) (by decide) (by decide) q1678 (htX16_end (152, .getfield 358, 3) (gx_m 83 rfl)) (fun v17 hv17 => ?_)
              refine gx_Jpi (pc := 155) (ci := 16) (kk := 6) (by decide) (Or.inl rfl) (by decide) rfl rfl q1680 (Or.inl rfl) (htX16_end (155, .putfield 367, 3) (gx_m 84 rfl)) ?_
              exact hj5 () trivial
        · refine gx_Jw (lv := [(0, gx_r 17 (some x0)), (2, gx_r 101 (some j11)), (3, gx_i 0)]) [2, 1, 0] rfl ?_
          refine gx_Jlp (pc := 109) (lvh := fun (s12 : Int32) => [(0, gx_r 17 (some x0)), (2, gx_r 101 (some j11)), (3, gx_i s12)]) (fun s12 kl4 ha4 hb4 => ?_) _
          unfold lb_X16_end_2
          refine gx_iload_n (pc := 109) (n := 3) (i := 3) rfl 2 rfl (htX16_end (109, .iload_n 3, 1) (gx_m 60 rfl)) ?_
          refine gx_aload_n (pc := 110) (n := 0) (i := 0) rfl 0 rfl (htX16_end (110, .aload_n 0, 1) (gx_m 61 rfl)) ?_
          refine gx_Jgi (pc := 111) (ci := 16) (kk := 4) (by decide) (Or.inl rfl) (by decide) (by decide) q1678 (htX16_end (111, .getfield 358, 3) (gx_m 62 rfl)) (fun v13 hv13 => ?_)
          refine gx_icmp_ge (pc := 114) (tgt := 132) (by decide) (htX16_end (114, .if_icmp .ge 18, 3) (gx_m 63 rfl)) (fun c7 => ?_) (fun c7 => ?_)
          · refine gx_Jw (lv := [(0, gx_r 17 (some x0))]) [0] rfl ?_
            exact gx_Jout hb4 (hj4 () trivial)
          · refine gx_aload_n (pc := 117) (n := 2) (i := 2) rfl 1 rfl (htX16_end (117, .aload_n 2, 1) (gx_m 64 rfl)) ?_
            refine gx_iload_n (pc := 118) (n := 3) (i := 3) rfl 2 rfl (htX16_end (118, .iload_n 3, 1) (gx_m 65 rfl)) ?_
            refine gx_aload_n (pc := 119) (n := 0) (i := 0) rfl 0 rfl (htX16_end (119, .aload_n 0, 1) (gx_m 66 rfl)) ?_
            refine gx_Jgs (pc := 120) (ci := 16) (kk := 1) (t2 := 101) (by decide) (by decide) rfl rfl rfl q1675 (htX16_end (120, .getfield 9, 3) (gx_m 67 rfl)) ?_
            refine gx_iload_n (pc := 123) (n := 3) (i := 3) rfl 2 rfl (htX16_end (123, .iload_n 3, 1) (gx_m 68 rfl)) ?_
            refine gx_Jba (pc := 124) (htX16_end (124, .baload, 1) (gx_m 69 rfl)) (fun v14 => ?_)
            refine gx_Jbs (pc := 125) (htX16_end (125, .bastore, 1) (gx_m 70 rfl)) ?_
            refine gx_iinc (pc := 126) (i := 3) (j := 2) (v := (s12 + 1)) (lv' := [(3, gx_i (s12 + 1)), (0, gx_r 17 (some x0)), (2, gx_r 101 (some j11))]) rfl (gx_iv (by decide)) (by decide) rfl (htX16_end (126, .iinc 3 1, 3) (gx_m 71 rfl)) ?_
            refine gx_goto (pc := 129) (tgt := 109) (by decide) (htX16_end (129, .goto (-20), 3) (gx_m 72 rfl)) ?_
            refine gx_Jw (lv := [(0, gx_r 17 (some x0)), (2, gx_r 101 (some j11)), (3, gx_i (s12 + 1))]) [1, 2, 0] rfl ?_
            exact ha4 ((s12 + 1) : Int32)
      · refine gx_if_ne (pc := 92) (y := 0) (tgt := 102) (by decide) (htX16_end (92, .ifCond .ne 10, 3) (gx_m 51 rfl)) (fun c8 => ?_) (fun c8 => ?_)
        · refine gx_aload_n (pc := 95) (n := 0) (i := 0) rfl 0 rfl (htX16_end (95, .aload_n 0, 1) (gx_m 52 rfl)) ?_
          refine gx_Jgs (pc := 96) (ci := 16) (kk := 2) (t2 := 101) (by decide) (by decide) rfl rfl rfl q1676 (htX16_end (96, .getfield 13, 3) (gx_m 53 rfl)) ?_
          refine gx_goto (pc := 99) (tgt := 106) (by decide) (htX16_end (99, .goto 7, 3) (gx_m 54 rfl)) ?_
          exact hj3 ((2 :: x0) : gx_Nm) trivial
        · refine gx_aload_n (pc := 102) (n := 0) (i := 0) rfl 0 rfl (htX16_end (102, .aload_n 0, 1) (gx_m 55 rfl)) ?_
          refine gx_Jgs (pc := 103) (ci := 16) (kk := 3) (t2 := 101) (by decide) (by decide) rfl rfl rfl q1677 (htX16_end (103, .getfield 16, 3) (gx_m 56 rfl)) ?_
          exact hj3 ((3 :: x0) : gx_Nm) trivial
    · refine gx_icmp_ne (pc := 44) (tgt := 88) (by decide) (htX16_end (44, .if_icmp .ne 44, 3) (gx_m 25 rfl)) (fun c9 => ?_) (fun c9 => ?_)
      · refine gx_iconst (pc := 47) (v := 0) (by decide) (htX16_end (47, .iconst 0, 1) (gx_m 26 rfl)) ?_
        refine gx_istore_n (pc := 48) (n := 2) (i := 2) (lv' := [(2, gx_i 0), (0, gx_r 17 (some x0)), (1, gx_i x1)]) rfl (by decide) rfl (htX16_end (48, .istore_n 2, 1) (gx_m 27 rfl)) ?_
        refine gx_Jjoin (pcJ := 75) (lvJ := fun (j_10 : Unit) => [(0, gx_r 17 (some x0))]) (stJ := fun (j_10 : Unit) => []) (fun _ => True) (fun j_10 _ => ?_) (fun kk10 hj10 => ?_)
        · refine gx_aload_n (pc := 75) (n := 0) (i := 0) rfl 0 rfl (htX16_end (75, .aload_n 0, 1) (gx_m 42 rfl)) ?_
          refine gx_aload_n (pc := 76) (n := 0) (i := 0) rfl 0 rfl (htX16_end (76, .aload_n 0, 1) (gx_m 43 rfl)) ?_
          refine gx_Jgi (pc := 77) (ci := 16) (kk := 6) (by decide) (Or.inl rfl) (by decide) (by decide) q1680 (htX16_end (77, .getfield 367, 3) (gx_m 44 rfl)) (fun v9 hv9 => ?_)
          refine gx_Jpi (pc := 80) (ci := 16) (kk := 5) (by decide) (Or.inl rfl) (by decide) rfl rfl q1679 (Or.inl rfl) (htX16_end (80, .putfield 364, 3) (gx_m 45 rfl)) ?_
          refine gx_aload_n (pc := 83) (n := 0) (i := 0) rfl 0 rfl (htX16_end (83, .aload_n 0, 1) (gx_m 46 rfl)) ?_
          refine gx_iconst (pc := 84) (v := 1) (by decide) (htX16_end (84, .iconst 1, 1) (gx_m 47 rfl)) ?_
          refine gx_Jpi (pc := 85) (ci := 16) (kk := 7) (by decide) (Or.inl rfl) (by decide) rfl rfl q1681 (Or.inl rfl) (htX16_end (85, .putfield 361, 3) (gx_m 48 rfl)) ?_
          exact hj2 () trivial
        · refine gx_Jw (lv := [(0, gx_r 17 (some x0)), (2, gx_i 0)]) [1, 0] rfl ?_
          refine gx_Jlp (pc := 49) (lvh := fun (s6 : Int32) => [(0, gx_r 17 (some x0)), (2, gx_i s6)]) (fun s6 kl10 ha10 hb10 => ?_) _
          unfold lb_X16_end_1
          refine gx_iload_n (pc := 49) (n := 2) (i := 2) rfl 1 rfl (htX16_end (49, .iload_n 2, 1) (gx_m 28 rfl)) ?_
          refine gx_aload_n (pc := 50) (n := 0) (i := 0) rfl 0 rfl (htX16_end (50, .aload_n 0, 1) (gx_m 29 rfl)) ?_
          refine gx_Jgi (pc := 51) (ci := 16) (kk := 6) (by decide) (Or.inl rfl) (by decide) (by decide) q1680 (htX16_end (51, .getfield 367, 3) (gx_m 30 rfl)) (fun v7 hv7 => ?_)
          refine gx_icmp_ge (pc := 54) (tgt := 75) (by decide) (htX16_end (54, .if_icmp .ge 21, 3) (gx_m 31 rfl)) (fun c11 => ?_) (fun c11 => ?_)
          · refine gx_Jw (lv := [(0, gx_r 17 (some x0))]) [0] rfl ?_
            exact gx_Jout hb10 (hj10 () trivial)
          · refine gx_aload_n (pc := 57) (n := 0) (i := 0) rfl 0 rfl (htX16_end (57, .aload_n 0, 1) (gx_m 32 rfl)) ?_
            refine gx_Jgs (pc := 58) (ci := 16) (kk := 2) (t2 := 101) (by decide) (by decide) rfl rfl rfl q1676 (htX16_end (58, .getfield 13, 3) (gx_m 33 rfl)) ?_
            refine gx_iload_n (pc := 61) (n := 2) (i := 2) rfl 1 rfl (htX16_end (61, .iload_n 2, 1) (gx_m 34 rfl)) ?_
            refine gx_aload_n (pc := 62) (n := 0) (i := 0) rfl 0 rfl (htX16_end (62, .aload_n 0, 1) (gx_m 35 rfl)) ?_
            refine gx_Jgs (pc := 63) (ci := 16) (kk := 3) (t2 := 101) (by decide) (by decide) rfl rfl rfl q1677 (htX16_end (63, .getfield 16, 3) (gx_m 36 rfl)) ?_
            refine gx_iload_n (pc := 66) (n := 2) (i := 2) rfl 1 rfl (htX16_end (66, .iload_n 2, 1) (gx_m 37 rfl)) ?_
            refine gx_Jba (pc := 67) (htX16_end (67, .baload, 1) (gx_m 38 rfl)) (fun v8 => ?_)
            refine gx_Jbs (pc := 68) (htX16_end (68, .bastore, 1) (gx_m 39 rfl)) ?_
            refine gx_iinc (pc := 69) (i := 2) (j := 1) (v := (s6 + 1)) (lv' := [(2, gx_i (s6 + 1)), (0, gx_r 17 (some x0))]) rfl (gx_iv (by decide)) (by decide) rfl (htX16_end (69, .iinc 2 1, 3) (gx_m 40 rfl)) ?_
            refine gx_goto (pc := 72) (tgt := 49) (by decide) (htX16_end (72, .goto (-23), 3) (gx_m 41 rfl)) ?_
            refine gx_Jw (lv := [(0, gx_r 17 (some x0)), (2, gx_i (s6 + 1))]) [1, 0] rfl ?_
            exact ha10 ((s6 + 1) : Int32)
      · refine gx_Jw (lv := [(0, gx_r 17 (some x0))]) [0] rfl ?_
        exact hj2 () trivial
  · refine gx_if_lt (pc := 1) (y := 0) (tgt := 18) (by decide) (htX16_end (1, .ifCond .lt 17, 3) (gx_m 1 rfl)) (fun c12 => ?_) (fun c12 => ?_)
    · exact hT1
    · refine gx_iload_n (pc := 4) (n := 1) (i := 1) rfl 1 rfl (htX16_end (4, .iload_n 1, 1) (gx_m 2 rfl)) ?_
      refine gx_bipush (pc := 5) (v := 19) (by decide) (htX16_end (5, .bipush 19, 2) (gx_m 3 rfl)) ?_
      refine gx_icmp_gt (pc := 7) (tgt := 18) (by decide) (htX16_end (7, .if_icmp .gt 11, 3) (gx_m 4 rfl)) (fun c13 => ?_) (fun c13 => ?_)
      · exact hT1
      · refine gx_iload_n (pc := 10) (n := 1) (i := 1) rfl 1 rfl (htX16_end (10, .iload_n 1, 1) (gx_m 5 rfl)) ?_
        refine gx_aload_n (pc := 11) (n := 0) (i := 0) rfl 0 rfl (htX16_end (11, .aload_n 0, 1) (gx_m 6 rfl)) ?_
        refine gx_Jgi (pc := 12) (ci := 16) (kk := 4) (by decide) (Or.inl rfl) (by decide) (by decide) q1678 (htX16_end (12, .getfield 358, 3) (gx_m 7 rfl)) (fun v1 hv1 => ?_)
        refine gx_icmp_le (pc := 15) (tgt := 24) (by decide) (htX16_end (15, .if_icmp .le 9, 3) (gx_m 8 rfl)) (fun c14 => ?_) (fun c14 => ?_)
        · exact hE1
        · exact hT1
theorem ct_X16_taken (Y : gx_Y) (x0 : gx_Nm) : gx_Ct Y yX16_taken (ws_ yX16_taken cX16_taken 2 (some .int)) 1 100 [gx_r 17 (some x0)] gx_Oi (f_X16_taken x0) := by
  refine gx_start (lv := [(0, gx_r 17 (some x0))]) gx_Oi_r pn_X16 (Nat.le_of_ble_eq_true rfl) rfl ?_
  unfold f_X16_taken
  refine gx_aload_n (pc := 0) (n := 0) (i := 0) rfl 0 rfl (htX16_taken (0, .aload_n 0, 1) (gx_m 0 rfl)) ?_
  refine gx_Jgi (pc := 1) (ci := 16) (kk := 7) (by decide) (Or.inl rfl) (by decide) (by decide) q1681 (htX16_taken (1, .getfield 361, 3) (gx_m 1 rfl)) (fun v1 hv1 => ?_)
  refine gx_istore_n (pc := 4) (n := 1) (i := 1) (lv' := [(1, gx_i v1), (0, gx_r 17 (some x0))]) rfl (by decide) rfl (htX16_taken (4, .istore_n 1, 1) (gx_m 2 rfl)) ?_
  refine gx_aload_n (pc := 5) (n := 0) (i := 0) rfl 1 rfl (htX16_taken (5, .aload_n 0, 1) (gx_m 3 rfl)) ?_
  refine gx_iconst (pc := 6) (v := 0) (by decide) (htX16_taken (6, .iconst 0, 1) (gx_m 4 rfl)) ?_
  refine gx_Jpi (pc := 7) (ci := 16) (kk := 7) (by decide) (Or.inl rfl) (by decide) rfl rfl q1681 (Or.inl rfl) (htX16_taken (7, .putfield 361, 3) (gx_m 5 rfl)) ?_
  refine gx_iload_n (pc := 10) (n := 1) (i := 1) rfl 0 rfl (htX16_taken (10, .iload_n 1, 1) (gx_m 6 rfl)) ?_
  exact gx_Jiret (pc := 11) rfl (fun _ => trivial) (fun _ _ => rfl) (htX16_taken (11, .ireturn, 1) (gx_m 7 rfl))
theorem ct_X16_isKey (Y : gx_Y) (x0 : Int32) : gx_Ct Y yX16_isKey (ws_ yX16_isKey cX16_isKey 1 (some .boolean)) 1 100 [gx_i x0] gx_Oz (f_X16_isKey x0) := by
  refine gx_start (lv := [(0, gx_i x0)]) gx_Oz_r pn_X16 (Nat.le_of_ble_eq_true rfl) rfl ?_
  unfold f_X16_isKey
  refine gx_iload_n (pc := 0) (n := 0) (i := 0) rfl 0 rfl (htX16_isKey (0, .iload_n 0, 1) (gx_m 0 rfl)) ?_
  refine gx_iconst (pc := 1) (v := 1) (by decide) (htX16_isKey (1, .iconst 1, 1) (gx_m 1 rfl)) ?_
  refine gx_Jjoin (pcJ := 16) (lvJ := fun (j1 : Int32) => []) (stJ := fun (j1 : Int32) => [gx_i j1]) (fun (j1 : Int32) => j1 &&& 1 = j1) (fun j1 hj1 => ?_) (fun kk1 hj1 => ?_)
  · exact gx_Jzret (pc := 16) rfl hj1 (fun _ => hj1) (fun _ _ => rfl) (htX16_isKey (16, .ireturn, 1) (gx_m 9 rfl))
  · refine gx_icmp_lt (pc := 2) (tgt := 15) (by decide) (htX16_isKey (2, .if_icmp .lt 13, 3) (gx_m 2 rfl)) (fun c2 => ?_) (fun c2 => ?_)
    · refine gx_iconst (pc := 15) (v := 0) (by decide) (htX16_isKey (15, .iconst 0, 1) (gx_m 8 rfl)) ?_
      refine gx_Jw (lv := []) [] rfl ?_
      exact hj1 (0 : Int32) gx_b0
    · refine gx_iload_n (pc := 5) (n := 0) (i := 0) rfl 0 rfl (htX16_isKey (5, .iload_n 0, 1) (gx_m 3 rfl)) ?_
      refine gx_bipush (pc := 6) (v := 32) (by decide) (htX16_isKey (6, .bipush 32, 2) (gx_m 4 rfl)) ?_
      refine gx_icmp_gt (pc := 8) (tgt := 15) (by decide) (htX16_isKey (8, .if_icmp .gt 7, 3) (gx_m 5 rfl)) (fun c3 => ?_) (fun c3 => ?_)
      · refine gx_iconst (pc := 15) (v := 0) (by decide) (htX16_isKey (15, .iconst 0, 1) (gx_m 8 rfl)) ?_
        refine gx_Jw (lv := []) [] rfl ?_
        exact hj1 (0 : Int32) gx_b0
      · refine gx_iconst (pc := 11) (v := 1) (by decide) (htX16_isKey (11, .iconst 1, 1) (gx_m 6 rfl)) ?_
        refine gx_goto (pc := 12) (tgt := 16) (by decide) (htX16_isKey (12, .goto 4, 3) (gx_m 7 rfl)) ?_
        refine gx_Jw (lv := []) [] rfl ?_
        exact hj1 (1 : Int32) gx_b1
theorem ct_X16_keep (Y : gx_Y) (x0 : gx_Nm) (x1 : gx_Nm) (x2 : Int32) : gx_Ct Y yX16_keep (ws_ yX16_keep cX16_keep 4 (some .int)) 1 100 [gx_r 17 (some x0), gx_r 101 (some x1), gx_i x2] gx_Oi (f_X16_keep x0 x1 x2) := by
  refine gx_start (lv := [(0, gx_r 17 (some x0)), (1, gx_r 101 (some x1)), (2, gx_i x2)]) gx_Oi_r pn_X16 (Nat.le_of_ble_eq_true rfl) rfl ?_
  unfold f_X16_keep
  refine gx_iconst (pc := 0) (v := 0) (by decide) (htX16_keep (0, .iconst 0, 1) (gx_m 0 rfl)) ?_
  refine gx_istore_n (pc := 1) (n := 3) (i := 3) (lv' := [(3, gx_i 0), (0, gx_r 17 (some x0)), (1, gx_r 101 (some x1)), (2, gx_i x2)]) rfl (by decide) rfl (htX16_keep (1, .istore_n 3, 1) (gx_m 1 rfl)) ?_
  refine gx_Jjoin (pcJ := 27) (lvJ := fun (j_1 : Unit) => [(0, gx_r 17 (some x0)), (2, gx_i x2)]) (stJ := fun (j_1 : Unit) => []) (fun _ => True) (fun j_1 _ => ?_) (fun kk1 hj1 => ?_)
  · refine gx_aload_n (pc := 27) (n := 0) (i := 0) rfl 0 rfl (htX16_keep (27, .aload_n 0, 1) (gx_m 17 rfl)) ?_
    refine gx_dup (pc := 28) rfl (htX16_keep (28, .dup, 1) (gx_m 18 rfl)) ?_
    refine gx_Jgi (pc := 29) (ci := 16) (kk := 22) (by decide) (Or.inl rfl) (by decide) (by decide) q1696 (htX16_keep (29, .getfield 355, 3) (gx_m 19 rfl)) (fun v4 hv4 => ?_)
    refine gx_iload_n (pc := 32) (n := 2) (i := 2) rfl 1 rfl (htX16_keep (32, .iload_n 2, 1) (gx_m 20 rfl)) ?_
    refine gx_iadd (pc := 33) (htX16_keep (33, .iadd, 1) (gx_m 21 rfl)) ?_
    refine gx_Jpi (pc := 34) (ci := 16) (kk := 22) (by decide) (Or.inl rfl) (by decide) rfl rfl q1696 (Or.inl rfl) (htX16_keep (34, .putfield 355, 3) (gx_m 22 rfl)) ?_
    refine gx_aload_n (pc := 37) (n := 0) (i := 0) rfl 0 rfl (htX16_keep (37, .aload_n 0, 1) (gx_m 23 rfl)) ?_
    refine gx_Jgi (pc := 38) (ci := 16) (kk := 22) (by decide) (Or.inl rfl) (by decide) (by decide) q1696 (htX16_keep (38, .getfield 355, 3) (gx_m 24 rfl)) (fun v5 hv5 => ?_)
    refine gx_iload_n (pc := 41) (n := 2) (i := 2) rfl 1 rfl (htX16_keep (41, .iload_n 2, 1) (gx_m 25 rfl)) ?_
    refine gx_isub (pc := 42) (htX16_keep (42, .isub, 1) (gx_m 26 rfl)) ?_
    exact gx_Jiret (pc := 43) rfl (fun _ => trivial) (fun _ _ => rfl) (htX16_keep (43, .ireturn, 1) (gx_m 27 rfl))
  · refine gx_Jw (lv := [(0, gx_r 17 (some x0)), (1, gx_r 101 (some x1)), (2, gx_i x2), (3, gx_i 0)]) [1, 2, 3, 0] rfl ?_
    refine gx_Jlp (pc := 2) (lvh := fun (s1 : Int32) => [(0, gx_r 17 (some x0)), (1, gx_r 101 (some x1)), (2, gx_i x2), (3, gx_i s1)]) (fun s1 kl1 ha1 hb1 => ?_) _
    unfold lb_X16_keep_1
    refine gx_iload_n (pc := 2) (n := 3) (i := 3) rfl 3 rfl (htX16_keep (2, .iload_n 3, 1) (gx_m 2 rfl)) ?_
    refine gx_iload_n (pc := 3) (n := 2) (i := 2) rfl 2 rfl (htX16_keep (3, .iload_n 2, 1) (gx_m 3 rfl)) ?_
    refine gx_icmp_ge (pc := 4) (tgt := 27) (by decide) (htX16_keep (4, .if_icmp .ge 23, 3) (gx_m 4 rfl)) (fun c2 => ?_) (fun c2 => ?_)
    · refine gx_Jw (lv := [(0, gx_r 17 (some x0)), (2, gx_i x2)]) [0, 2] rfl ?_
      exact gx_Jout hb1 (hj1 () trivial)
    · refine gx_aload_n (pc := 7) (n := 0) (i := 0) rfl 0 rfl (htX16_keep (7, .aload_n 0, 1) (gx_m 5 rfl)) ?_
      refine gx_Jgs (pc := 8) (ci := 16) (kk := 23) (t2 := 101) (by decide) (by decide) rfl rfl rfl q1697 (htX16_keep (8, .getfield 57, 3) (gx_m 6 rfl)) ?_
      refine gx_aload_n (pc := 11) (n := 0) (i := 0) rfl 0 rfl (htX16_keep (11, .aload_n 0, 1) (gx_m 7 rfl)) ?_
      refine gx_Jgi (pc := 12) (ci := 16) (kk := 22) (by decide) (Or.inl rfl) (by decide) (by decide) q1696 (htX16_keep (12, .getfield 355, 3) (gx_m 8 rfl)) (fun v2 hv2 => ?_)
      refine gx_iload_n (pc := 15) (n := 3) (i := 3) rfl 3 rfl (htX16_keep (15, .iload_n 3, 1) (gx_m 9 rfl)) ?_
      refine gx_iadd (pc := 16) (htX16_keep (16, .iadd, 1) (gx_m 10 rfl)) ?_
      refine gx_aload_n (pc := 17) (n := 1) (i := 1) rfl 1 rfl (htX16_keep (17, .aload_n 1, 1) (gx_m 11 rfl)) ?_
      refine gx_iload_n (pc := 18) (n := 3) (i := 3) rfl 3 rfl (htX16_keep (18, .iload_n 3, 1) (gx_m 12 rfl)) ?_
      refine gx_Jba (pc := 19) (htX16_keep (19, .baload, 1) (gx_m 13 rfl)) (fun v3 => ?_)
      refine gx_Jbs (pc := 20) (htX16_keep (20, .bastore, 1) (gx_m 14 rfl)) ?_
      refine gx_iinc (pc := 21) (i := 3) (j := 3) (v := (s1 + 1)) (lv' := [(3, gx_i (s1 + 1)), (0, gx_r 17 (some x0)), (1, gx_r 101 (some x1)), (2, gx_i x2)]) rfl (gx_iv (by decide)) (by decide) rfl (htX16_keep (21, .iinc 3 1, 3) (gx_m 15 rfl)) ?_
      refine gx_goto (pc := 24) (tgt := 2) (by decide) (htX16_keep (24, .goto (-22), 3) (gx_m 16 rfl)) ?_
      refine gx_Jw (lv := [(0, gx_r 17 (some x0)), (1, gx_r 101 (some x1)), (2, gx_i x2), (3, gx_i (s1 + 1))]) [1, 2, 3, 0] rfl ?_
      exact ha1 ((s1 + 1) : Int32)
theorem ct_X16_part (Y : gx_Y) (x0 : gx_Nm) (x1 : Int32) (x2 : Int32) (x3 : Int32) (x4 : Int32) (x5 : Int32) (x6 : Int32) : gx_Ct Y yX16_part (ws_ yX16_part cX16_part 7 none) 2 123 [gx_r 17 (some x0), gx_i x1, gx_i x2, gx_i x3, gx_i x4, gx_i x5, gx_i x6] gx_Ov (f_X16_part x0 x1 x2 x3 x4 x5 x6) := by
  refine gx_start (lv := [(0, gx_r 17 (some x0)), (1, gx_i x1), (2, gx_i x2), (3, gx_i x3), (4, gx_i x4), (5, gx_i x5), (6, gx_i x6)]) gx_Ov_r pn_X16 (Nat.le_of_ble_eq_true rfl) rfl ?_
  unfold f_X16_part
  refine gx_aload_n (pc := 0) (n := 0) (i := 0) rfl 0 rfl (htX16_part (0, .aload_n 0, 1) (gx_m 0 rfl)) ?_
  refine gx_Jgs (pc := 1) (ci := 16) (kk := 12) (t2 := 100) (by decide) (by decide) rfl rfl rfl q1686 (htX16_part (1, .getfield 32, 3) (gx_m 1 rfl)) ?_
  refine gx_iload_n (pc := 4) (n := 1) (i := 1) rfl 1 rfl (htX16_part (4, .iload_n 1, 1) (gx_m 2 rfl)) ?_
  refine gx_iload_n (pc := 5) (n := 2) (i := 2) rfl 2 rfl (htX16_part (5, .iload_n 2, 1) (gx_m 3 rfl)) ?_
  refine gx_Jis (pc := 6) (htX16_part (6, .iastore, 1) (gx_m 4 rfl)) ?_
  refine gx_aload_n (pc := 7) (n := 0) (i := 0) rfl 0 rfl (htX16_part (7, .aload_n 0, 1) (gx_m 5 rfl)) ?_
  refine gx_Jgs (pc := 8) (ci := 16) (kk := 13) (t2 := 100) (by decide) (by decide) rfl rfl rfl q1687 (htX16_part (8, .getfield 35, 3) (gx_m 6 rfl)) ?_
  refine gx_iload_n (pc := 11) (n := 1) (i := 1) rfl 1 rfl (htX16_part (11, .iload_n 1, 1) (gx_m 7 rfl)) ?_
  refine gx_iload_n (pc := 12) (n := 3) (i := 3) rfl 3 rfl (htX16_part (12, .iload_n 3, 1) (gx_m 8 rfl)) ?_
  refine gx_Jis (pc := 13) (htX16_part (13, .iastore, 1) (gx_m 9 rfl)) ?_
  refine gx_aload_n (pc := 14) (n := 0) (i := 0) rfl 0 rfl (htX16_part (14, .aload_n 0, 1) (gx_m 10 rfl)) ?_
  refine gx_Jgs (pc := 15) (ci := 16) (kk := 14) (t2 := 100) (by decide) (by decide) rfl rfl rfl q1688 (htX16_part (15, .getfield 38, 3) (gx_m 11 rfl)) ?_
  refine gx_iload_n (pc := 18) (n := 1) (i := 1) rfl 1 rfl (htX16_part (18, .iload_n 1, 1) (gx_m 12 rfl)) ?_
  refine gx_iload (pc := 19) (i := 4) 4 rfl (htX16_part (19, .iload 4, 2) (gx_m 13 rfl)) ?_
  refine gx_Jis (pc := 21) (htX16_part (21, .iastore, 1) (gx_m 14 rfl)) ?_
  refine gx_aload_n (pc := 22) (n := 0) (i := 0) rfl 0 rfl (htX16_part (22, .aload_n 0, 1) (gx_m 15 rfl)) ?_
  refine gx_Jgs (pc := 23) (ci := 16) (kk := 16) (t2 := 100) (by decide) (by decide) rfl rfl rfl q1690 (htX16_part (23, .getfield 44, 3) (gx_m 16 rfl)) ?_
  refine gx_iload_n (pc := 26) (n := 1) (i := 1) rfl 1 rfl (htX16_part (26, .iload_n 1, 1) (gx_m 17 rfl)) ?_
  refine gx_iload (pc := 27) (i := 5) 5 rfl (htX16_part (27, .iload 5, 2) (gx_m 18 rfl)) ?_
  refine gx_Jis (pc := 29) (htX16_part (29, .iastore, 1) (gx_m 19 rfl)) ?_
  refine gx_aload_n (pc := 30) (n := 0) (i := 0) rfl 0 rfl (htX16_part (30, .aload_n 0, 1) (gx_m 20 rfl)) ?_
  refine gx_Jgs (pc := 31) (ci := 16) (kk := 18) (t2 := 100) (by decide) (by decide) rfl rfl rfl q1692 (htX16_part (31, .getfield 50, 3) (gx_m 21 rfl)) ?_
  refine gx_iload_n (pc := 34) (n := 1) (i := 1) rfl 1 rfl (htX16_part (34, .iload_n 1, 1) (gx_m 22 rfl)) ?_
  refine gx_iload (pc := 35) (i := 6) 6 rfl (htX16_part (35, .iload 6, 2) (gx_m 23 rfl)) ?_
  refine gx_Jis (pc := 37) (htX16_part (37, .iastore, 1) (gx_m 24 rfl)) ?_
  refine gx_aload_n (pc := 38) (n := 0) (i := 0) rfl 0 rfl (htX16_part (38, .aload_n 0, 1) (gx_m 25 rfl)) ?_
  refine gx_Jgs (pc := 39) (ci := 16) (kk := 15) (t2 := 100) (by decide) (by decide) rfl rfl rfl q1689 (htX16_part (39, .getfield 41, 3) (gx_m 26 rfl)) ?_
  refine gx_iload_n (pc := 42) (n := 1) (i := 1) rfl 1 rfl (htX16_part (42, .iload_n 1, 1) (gx_m 27 rfl)) ?_
  refine gx_aload_n (pc := 43) (n := 0) (i := 0) rfl 0 rfl (htX16_part (43, .aload_n 0, 1) (gx_m 28 rfl)) ?_
  refine gx_aload_n (pc := 44) (n := 0) (i := 0) rfl 0 rfl (htX16_part (44, .aload_n 0, 1) (gx_m 29 rfl)) ?_
  refine gx_Jgs (pc := 45) (ci := 16) (kk := 2) (t2 := 101) (by decide) (by decide) rfl rfl rfl q1676 (htX16_part (45, .getfield 13, 3) (gx_m 30 rfl)) ?_
  refine gx_iload (pc := 48) (i := 5) 5 rfl (htX16_part (48, .iload 5, 2) (gx_m 31 rfl)) ?_
  refine gx_Jci (pc := 50) (gx_hst (as := [gx_r 101 (some (2 :: x0)), gx_i x5]) (b := gx_r 17 (some x0))) (gx_runV (as := [gx_r 101 (some (2 :: x0)), gx_i x5]) (ci := 16) (ct_X16_keep Y x0 (2 :: x0) x5) (by decide) (Or.inl rfl) rfl rfl rfl rfl q2085 q2087 qs49 q117 q2088 rfl dd_X16_keep (by decide) (by decide) (Nat.le_of_ble_eq_true rfl) (htX16_part (50, .invokevirtual 374, 3) (gx_m 32 rfl))) (fun v1 => ?_)
  refine gx_Jis (pc := 53) (htX16_part (53, .iastore, 1) (gx_m 33 rfl)) ?_
  refine gx_aload_n (pc := 54) (n := 0) (i := 0) rfl 0 rfl (htX16_part (54, .aload_n 0, 1) (gx_m 34 rfl)) ?_
  refine gx_Jgs (pc := 55) (ci := 16) (kk := 17) (t2 := 100) (by decide) (by decide) rfl rfl rfl q1691 (htX16_part (55, .getfield 47, 3) (gx_m 35 rfl)) ?_
  refine gx_iload_n (pc := 58) (n := 1) (i := 1) rfl 1 rfl (htX16_part (58, .iload_n 1, 1) (gx_m 36 rfl)) ?_
  refine gx_aload_n (pc := 59) (n := 0) (i := 0) rfl 0 rfl (htX16_part (59, .aload_n 0, 1) (gx_m 37 rfl)) ?_
  refine gx_aload_n (pc := 60) (n := 0) (i := 0) rfl 0 rfl (htX16_part (60, .aload_n 0, 1) (gx_m 38 rfl)) ?_
  refine gx_Jgs (pc := 61) (ci := 16) (kk := 3) (t2 := 101) (by decide) (by decide) rfl rfl rfl q1677 (htX16_part (61, .getfield 16, 3) (gx_m 39 rfl)) ?_
  refine gx_iload (pc := 64) (i := 6) 6 rfl (htX16_part (64, .iload 6, 2) (gx_m 40 rfl)) ?_
  refine gx_Jci (pc := 66) (gx_hst (as := [gx_r 101 (some (3 :: x0)), gx_i x6]) (b := gx_r 17 (some x0))) (gx_runV (as := [gx_r 101 (some (3 :: x0)), gx_i x6]) (ci := 16) (ct_X16_keep Y x0 (3 :: x0) x6) (by decide) (Or.inl rfl) rfl rfl rfl rfl q2085 q2087 qs49 q117 q2088 rfl dd_X16_keep (by decide) (by decide) (Nat.le_of_ble_eq_true rfl) (htX16_part (66, .invokevirtual 374, 3) (gx_m 41 rfl))) (fun v2 => ?_)
  refine gx_Jis (pc := 69) (htX16_part (69, .iastore, 1) (gx_m 42 rfl)) ?_
  exact gx_Jvret (pc := 70) rfl (fun _ => trivial) (fun _ _ => rfl) (htX16_part (70, .return_, 1) (gx_m 43 rfl))
theorem ct_X16_when (Y : gx_Y) (x0 : gx_Nm) (x1 : Int32) (x2 : Int32) (x3 : Int32) : gx_Ct Y yX16_when (ws_ yX16_when cX16_when 5 none) 3 149 [gx_r 17 (some x0), gx_i x1, gx_i x2, gx_i x3] gx_Ov (f_X16_when x0 x1 x2 x3) := by
  refine gx_start (lv := [(0, gx_r 17 (some x0)), (1, gx_i x1), (2, gx_i x2), (3, gx_i x3)]) gx_Ov_r pn_X16 (Nat.le_of_ble_eq_true rfl) rfl ?_
  unfold f_X16_when
  refine gx_aload_n (pc := 0) (n := 0) (i := 0) rfl 0 rfl (htX16_when (0, .aload_n 0, 1) (gx_m 0 rfl)) ?_
  refine gx_Jci (pc := 1) (gx_hst (as := []) (b := gx_r 17 (some x0))) (gx_runV (as := []) (ci := 16) (ct_X16_taken Y x0) (by decide) (Or.inl rfl) rfl rfl rfl rfl q2074 q2076 qs47 q117 q2077 rfl dd_X16_taken (by decide) (by decide) (Nat.le_of_ble_eq_true rfl) (htX16_when (1, .invokevirtual 378, 3) (gx_m 1 rfl))) (fun v1 => ?_)
  refine gx_istore (pc := 4) (i := 4) (lv' := [(4, gx_i v1), (0, gx_r 17 (some x0)), (1, gx_i x1), (2, gx_i x2), (3, gx_i x3)]) (by decide) rfl (htX16_when (4, .istore 4, 2) (gx_m 2 rfl)) ?_
  refine gx_iload (pc := 6) (i := 4) 0 rfl (htX16_when (6, .iload 4, 2) (gx_m 3 rfl)) ?_
  refine gx_iconst (pc := 8) (v := 1) (by decide) (htX16_when (8, .iconst 1, 1) (gx_m 4 rfl)) ?_
  refine gx_Jcond (pcT := 40) (pcE := 46) (lv2 := [(4, gx_i v1), (0, gx_r 17 (some x0)), (1, gx_i x1), (2, gx_i x2), (3, gx_i x3)]) (st2 := []) ?_ ?_ (fun kk1 hT1 hE1 => ?_)
  · refine gx_aload_n (pc := 40) (n := 0) (i := 0) rfl 1 rfl (htX16_when (40, .aload_n 0, 1) (gx_m 20 rfl)) ?_
    refine gx_iconst (pc := 41) (v := 1) (by decide) (htX16_when (41, .iconst 1, 1) (gx_m 21 rfl)) ?_
    refine gx_Jpi (pc := 42) (ci := 16) (kk := 0) (by decide) (Or.inl rfl) (by decide) rfl rfl q1674 (Or.inl rfl) (htX16_when (42, .putfield 312, 3) (gx_m 22 rfl)) ?_
    exact gx_Jvret (pc := 45) rfl (fun _ => trivial) (fun _ _ => rfl) (htX16_when (45, .return_, 1) (gx_m 23 rfl))
  · refine gx_aload_n (pc := 46) (n := 0) (i := 0) rfl 1 rfl (htX16_when (46, .aload_n 0, 1) (gx_m 24 rfl)) ?_
    refine gx_aload_n (pc := 47) (n := 0) (i := 0) rfl 1 rfl (htX16_when (47, .aload_n 0, 1) (gx_m 25 rfl)) ?_
    refine gx_Jgs (pc := 48) (ci := 16) (kk := 9) (t2 := 100) (by decide) (by decide) rfl rfl rfl q1683 (htX16_when (48, .getfield 23, 3) (gx_m 26 rfl)) ?_
    refine gx_sipush (pc := 51) (v := 1501) (by decide) (htX16_when (51, .sipush 1501, 3) (gx_m 27 rfl)) ?_
    refine gx_Jia (pc := 54) (htX16_when (54, .iaload, 1) (gx_m 28 rfl)) (fun v5 => ?_)
    refine gx_iconst (pc := 55) (v := 4) (by decide) (htX16_when (55, .iconst 4, 1) (gx_m 29 rfl)) ?_
    refine gx_Jjoin (pcJ := 64) (lvJ := fun (j6 : Int32) => [(0, gx_r 17 (some x0)), (1, gx_i x1), (2, gx_i x2), (3, gx_i x3)]) (stJ := fun (j6 : Int32) => [gx_i j6, gx_r 17 (some x0)]) (fun _ => True) (fun j6 hj6 => ?_) (fun kk2 hj2 => ?_)
    · refine gx_Jpi (pc := 64) (ci := 16) (kk := 0) (by decide) (Or.inl rfl) (by decide) rfl rfl q1674 (Or.inl rfl) (htX16_when (64, .putfield 312, 3) (gx_m 34 rfl)) ?_
      refine gx_aload_n (pc := 67) (n := 0) (i := 0) rfl 0 rfl (htX16_when (67, .aload_n 0, 1) (gx_m 35 rfl)) ?_
      refine gx_Jgi (pc := 68) (ci := 16) (kk := 0) (by decide) (Or.inl rfl) (by decide) (by decide) q1674 (htX16_when (68, .getfield 312, 3) (gx_m 36 rfl)) (fun v7 hv7 => ?_)
      refine gx_if_eq (pc := 71) (y := 0) (tgt := 75) (by decide) (htX16_when (71, .ifCond .eq 4, 3) (gx_m 37 rfl)) (fun c3 => ?_) (fun c3 => ?_)
      · refine gx_aload_n (pc := 75) (n := 0) (i := 0) rfl 0 rfl (htX16_when (75, .aload_n 0, 1) (gx_m 39 rfl)) ?_
        refine gx_sipush (pc := 76) (v := 24016) (by decide) (htX16_when (76, .sipush 24016, 3) (gx_m 40 rfl)) ?_
        refine gx_aload_n (pc := 79) (n := 0) (i := 0) rfl 0 rfl (htX16_when (79, .aload_n 0, 1) (gx_m 41 rfl)) ?_
        refine gx_Jgs (pc := 80) (ci := 16) (kk := 9) (t2 := 100) (by decide) (by decide) rfl rfl rfl q1683 (htX16_when (80, .getfield 23, 3) (gx_m 42 rfl)) ?_
        refine gx_sipush (pc := 83) (v := 1501) (by decide) (htX16_when (83, .sipush 1501, 3) (gx_m 43 rfl)) ?_
        refine gx_Jia (pc := 86) (htX16_when (86, .iaload, 1) (gx_m 44 rfl)) (fun v8 => ?_)
        refine gx_iadd (pc := 87) (htX16_when (87, .iadd, 1) (gx_m 45 rfl)) ?_
        refine gx_iload_n (pc := 88) (n := 1) (i := 1) rfl 1 rfl (htX16_when (88, .iload_n 1, 1) (gx_m 46 rfl)) ?_
        refine gx_iload_n (pc := 89) (n := 2) (i := 2) rfl 2 rfl (htX16_when (89, .iload_n 2, 1) (gx_m 47 rfl)) ?_
        refine gx_iload_n (pc := 90) (n := 3) (i := 3) rfl 3 rfl (htX16_when (90, .iload_n 3, 1) (gx_m 48 rfl)) ?_
        refine gx_aload_n (pc := 91) (n := 0) (i := 0) rfl 0 rfl (htX16_when (91, .aload_n 0, 1) (gx_m 49 rfl)) ?_
        refine gx_Jgi (pc := 92) (ci := 16) (kk := 5) (by decide) (Or.inl rfl) (by decide) (by decide) q1679 (htX16_when (92, .getfield 364, 3) (gx_m 50 rfl)) (fun v9 hv9 => ?_)
        refine gx_iconst (pc := 95) (v := 0) (by decide) (htX16_when (95, .iconst 0, 1) (gx_m 51 rfl)) ?_
        refine gx_Jcv (pc := 96) (gx_hst (as := [gx_i (24016 + v8), gx_i x1, gx_i x2, gx_i x3, gx_i v9, gx_i 0]) (b := gx_r 17 (some x0))) (gx_runV (as := [gx_i (24016 + v8), gx_i x1, gx_i x2, gx_i x3, gx_i v9, gx_i 0]) (ci := 16) (ct_X16_part Y x0 (24016 + v8) x1 x2 x3 v9 0) (by decide) (Or.inl rfl) rfl rfl rfl rfl q2081 q2083 qs48 q117 q2084 rfl dd_X16_part (by decide) (by decide) (Nat.le_of_ble_eq_true rfl) (htX16_when (96, .invokevirtual 386, 3) (gx_m 52 rfl))) ?_
        refine gx_aload_n (pc := 99) (n := 0) (i := 0) rfl 0 rfl (htX16_when (99, .aload_n 0, 1) (gx_m 53 rfl)) ?_
        refine gx_Jgs (pc := 100) (ci := 16) (kk := 9) (t2 := 100) (by decide) (by decide) rfl rfl rfl q1683 (htX16_when (100, .getfield 23, 3) (gx_m 54 rfl)) ?_
        refine gx_sipush (pc := 103) (v := 1501) (by decide) (htX16_when (103, .sipush 1501, 3) (gx_m 55 rfl)) ?_
        refine gx_dup2 (pc := 106) rfl rfl (htX16_when (106, .dup2, 1) (gx_m 56 rfl)) ?_
        refine gx_Jia (pc := 107) (htX16_when (107, .iaload, 1) (gx_m 57 rfl)) (fun v10 => ?_)
        refine gx_iconst (pc := 108) (v := 1) (by decide) (htX16_when (108, .iconst 1, 1) (gx_m 58 rfl)) ?_
        refine gx_iadd (pc := 109) (htX16_when (109, .iadd, 1) (gx_m 59 rfl)) ?_
        refine gx_Jis (pc := 110) (htX16_when (110, .iastore, 1) (gx_m 60 rfl)) ?_
        exact gx_Jvret (pc := 111) rfl (fun _ => trivial) (fun _ _ => rfl) (htX16_when (111, .return_, 1) (gx_m 61 rfl))
      · exact gx_Jvret (pc := 74) rfl (fun _ => trivial) (fun _ _ => rfl) (htX16_when (74, .return_, 1) (gx_m 38 rfl))
    · refine gx_icmp_ne (pc := 56) (tgt := 63) (by decide) (htX16_when (56, .if_icmp .ne 7, 3) (gx_m 30 rfl)) (fun c4 => ?_) (fun c4 => ?_)
      · refine gx_iconst (pc := 59) (v := 2) (by decide) (htX16_when (59, .iconst 2, 1) (gx_m 31 rfl)) ?_
        refine gx_goto (pc := 60) (tgt := 64) (by decide) (htX16_when (60, .goto 4, 3) (gx_m 32 rfl)) ?_
        refine gx_Jw (lv := [(0, gx_r 17 (some x0)), (1, gx_i x1), (2, gx_i x2), (3, gx_i x3)]) [1, 2, 3, 4] rfl ?_
        exact hj2 (2 : Int32) trivial
      · refine gx_iconst (pc := 63) (v := 0) (by decide) (htX16_when (63, .iconst 0, 1) (gx_m 33 rfl)) ?_
        refine gx_Jw (lv := [(0, gx_r 17 (some x0)), (1, gx_i x1), (2, gx_i x2), (3, gx_i x3)]) [1, 2, 3, 4] rfl ?_
        exact hj2 (0 : Int32) trivial
  · refine gx_icmp_ne (pc := 9) (tgt := 40) (by decide) (htX16_when (9, .if_icmp .ne 31, 3) (gx_m 5 rfl)) (fun c5 => ?_) (fun c5 => ?_)
    · refine gx_aload_n (pc := 12) (n := 0) (i := 0) rfl 1 rfl (htX16_when (12, .aload_n 0, 1) (gx_m 6 rfl)) ?_
      refine gx_Jgi (pc := 13) (ci := 16) (kk := 5) (by decide) (Or.inl rfl) (by decide) (by decide) q1679 (htX16_when (13, .getfield 364, 3) (gx_m 7 rfl)) (fun v2 hv2 => ?_)
      refine gx_Jcz (pc := 16) (gx_hstS (as := [gx_i v2])) (gx_runS (as := [gx_i v2]) (ct_X16_isKey Y v2) rfl rfl rfl q2078 q2079 q117 q2080 rfl dd_X16_isKey (by decide) (by decide) (Nat.le_of_ble_eq_true rfl) (htX16_when (16, .invokestatic 382, 3) (gx_m 8 rfl))) (fun v3 hv3 => ?_)
      refine gx_if_eq (pc := 19) (y := 0) (tgt := 40) (by decide) (htX16_when (19, .ifCond .eq 21, 3) (gx_m 9 rfl)) (fun c6 => ?_) (fun c6 => ?_)
      · exact hT1
      · refine gx_iload_n (pc := 22) (n := 1) (i := 1) rfl 2 rfl (htX16_when (22, .iload_n 1, 1) (gx_m 10 rfl)) ?_
        refine gx_if_lt (pc := 23) (y := 0) (tgt := 40) (by decide) (htX16_when (23, .ifCond .lt 17, 3) (gx_m 11 rfl)) (fun c7 => ?_) (fun c7 => ?_)
        · exact hT1
        · refine gx_iload_n (pc := 26) (n := 1) (i := 1) rfl 2 rfl (htX16_when (26, .iload_n 1, 1) (gx_m 12 rfl)) ?_
          refine gx_iconst (pc := 27) (v := 3) (by decide) (htX16_when (27, .iconst 3, 1) (gx_m 13 rfl)) ?_
          refine gx_icmp_gt (pc := 28) (tgt := 40) (by decide) (htX16_when (28, .if_icmp .gt 12, 3) (gx_m 14 rfl)) (fun c8 => ?_) (fun c8 => ?_)
          · exact hT1
          · refine gx_iload_n (pc := 31) (n := 2) (i := 2) rfl 3 rfl (htX16_when (31, .iload_n 2, 1) (gx_m 15 rfl)) ?_
            refine gx_if_lt (pc := 32) (y := 0) (tgt := 40) (by decide) (htX16_when (32, .ifCond .lt 8, 3) (gx_m 16 rfl)) (fun c9 => ?_) (fun c9 => ?_)
            · exact hT1
            · refine gx_iload_n (pc := 35) (n := 2) (i := 2) rfl 3 rfl (htX16_when (35, .iload_n 2, 1) (gx_m 17 rfl)) ?_
              refine gx_iconst (pc := 36) (v := 3) (by decide) (htX16_when (36, .iconst 3, 1) (gx_m 18 rfl)) ?_
              refine gx_icmp_le (pc := 37) (tgt := 46) (by decide) (htX16_when (37, .if_icmp .le 9, 3) (gx_m 19 rfl)) (fun c10 => ?_) (fun c10 => ?_)
              · exact hE1
              · exact hT1
    · exact hT1
theorem ct_X16_step (Y : gx_Y) (x0 : gx_Nm) (x1 : Int32) (x2 : Int32) (x3 : Int32) (x4 : Int32) (x5 : Int32) : gx_Ct Y yX16_step (ws_ yX16_step cX16_step 7 none) 3 149 [gx_r 17 (some x0), gx_i x1, gx_i x2, gx_i x3, gx_i x4, gx_i x5] gx_Ov (f_X16_step x0 x1 x2 x3 x4 x5) := by
  refine gx_start (lv := [(0, gx_r 17 (some x0)), (1, gx_i x1), (2, gx_i x2), (3, gx_i x3), (4, gx_i x4), (5, gx_i x5)]) gx_Ov_r pn_X16 (Nat.le_of_ble_eq_true rfl) rfl ?_
  unfold f_X16_step
  refine gx_iload_n (pc := 0) (n := 1) (i := 1) rfl 1 rfl (htX16_step (0, .iload_n 1, 1) (gx_m 0 rfl)) ?_
  refine gx_iconst (pc := 1) (v := 1) (by decide) (htX16_step (1, .iconst 1, 1) (gx_m 1 rfl)) ?_
  refine gx_Jjoin (pcJ := 24) (lvJ := fun (j3 : Int32) => [(0, gx_r 17 (some x0)), (1, gx_i x1), (2, gx_i x2), (3, gx_i x3), (4, gx_i x4), (5, gx_i x5)]) (stJ := fun (j3 : Int32) => [gx_i j3]) (fun _ => True) (fun j3 hj3 => ?_) (fun kk1 hj1 => ?_)
  · refine gx_istore (pc := 24) (i := 6) (lv' := [(6, gx_i j3), (0, gx_r 17 (some x0)), (1, gx_i x1), (2, gx_i x2), (3, gx_i x3), (4, gx_i x4), (5, gx_i x5)]) (by decide) rfl (htX16_step (24, .istore 6, 2) (gx_m 12 rfl)) ?_
    refine gx_aload_n (pc := 26) (n := 0) (i := 0) rfl 1 rfl (htX16_step (26, .aload_n 0, 1) (gx_m 13 rfl)) ?_
    refine gx_iload (pc := 27) (i := 6) 0 rfl (htX16_step (27, .iload 6, 2) (gx_m 14 rfl)) ?_
    refine gx_bipush (pc := 29) (v := 6) (by decide) (htX16_step (29, .bipush 6, 2) (gx_m 15 rfl)) ?_
    refine gx_Jjoin (pcJ := 39) (lvJ := fun (j4 : Int32) => [(0, gx_r 17 (some x0)), (1, gx_i x1), (2, gx_i x2), (3, gx_i x3), (4, gx_i x4), (5, gx_i x5), (6, gx_i j3)]) (stJ := fun (j4 : Int32) => [gx_i j4, gx_r 17 (some x0)]) (fun _ => True) (fun j4 hj4 => ?_) (fun kk2 hj2 => ?_)
    · refine gx_Jpi (pc := 39) (ci := 16) (kk := 0) (by decide) (Or.inl rfl) (by decide) rfl rfl q1674 (Or.inl rfl) (htX16_step (39, .putfield 312, 3) (gx_m 20 rfl)) ?_
      refine gx_aload_n (pc := 42) (n := 0) (i := 0) rfl 0 rfl (htX16_step (42, .aload_n 0, 1) (gx_m 21 rfl)) ?_
      refine gx_Jgi (pc := 43) (ci := 16) (kk := 0) (by decide) (Or.inl rfl) (by decide) (by decide) q1674 (htX16_step (43, .getfield 312, 3) (gx_m 22 rfl)) (fun v5 hv5 => ?_)
      refine gx_if_eq (pc := 46) (y := 0) (tgt := 50) (by decide) (htX16_step (46, .ifCond .eq 4, 3) (gx_m 23 rfl)) (fun c3 => ?_) (fun c3 => ?_)
      · refine gx_aload_n (pc := 50) (n := 0) (i := 0) rfl 0 rfl (htX16_step (50, .aload_n 0, 1) (gx_m 25 rfl)) ?_
        refine gx_sipush (pc := 51) (v := 24016) (by decide) (htX16_step (51, .sipush 24016, 3) (gx_m 26 rfl)) ?_
        refine gx_iload_n (pc := 54) (n := 1) (i := 1) rfl 1 rfl (htX16_step (54, .iload_n 1, 1) (gx_m 27 rfl)) ?_
        refine gx_iconst (pc := 55) (v := 1) (by decide) (htX16_step (55, .iconst 1, 1) (gx_m 28 rfl)) ?_
        refine gx_Jjoin (pcJ := 65) (lvJ := fun (j6 : Int32) => [(0, gx_r 17 (some x0)), (1, gx_i x1), (2, gx_i x2), (3, gx_i x3), (4, gx_i x4), (5, gx_i x5), (6, gx_i j3)]) (stJ := fun (j6 : Int32) => [gx_i j6, gx_i 24016, gx_r 17 (some x0)]) (fun _ => True) (fun j6 hj6 => ?_) (fun kk4 hj4 => ?_)
        · refine gx_iadd (pc := 65) (htX16_step (65, .iadd, 1) (gx_m 33 rfl)) ?_
          refine gx_iload (pc := 66) (i := 6) 6 rfl (htX16_step (66, .iload 6, 2) (gx_m 34 rfl)) ?_
          refine gx_iadd (pc := 68) (htX16_step (68, .iadd, 1) (gx_m 35 rfl)) ?_
          refine gx_iload_n (pc := 69) (n := 2) (i := 2) rfl 2 rfl (htX16_step (69, .iload_n 2, 1) (gx_m 36 rfl)) ?_
          refine gx_iconst (pc := 70) (v := 0) (by decide) (htX16_step (70, .iconst 0, 1) (gx_m 37 rfl)) ?_
          refine gx_iload_n (pc := 71) (n := 3) (i := 3) rfl 3 rfl (htX16_step (71, .iload_n 3, 1) (gx_m 38 rfl)) ?_
          refine gx_iload (pc := 72) (i := 4) 4 rfl (htX16_step (72, .iload 4, 2) (gx_m 39 rfl)) ?_
          refine gx_iload (pc := 74) (i := 5) 5 rfl (htX16_step (74, .iload 5, 2) (gx_m 40 rfl)) ?_
          refine gx_Jcv (pc := 76) (gx_hst (as := [gx_i ((24016 + j6) + j3), gx_i x2, gx_i 0, gx_i x3, gx_i x4, gx_i x5]) (b := gx_r 17 (some x0))) (gx_runV (as := [gx_i ((24016 + j6) + j3), gx_i x2, gx_i 0, gx_i x3, gx_i x4, gx_i x5]) (ci := 16) (ct_X16_part Y x0 ((24016 + j6) + j3) x2 0 x3 x4 x5) (by decide) (Or.inl rfl) rfl rfl rfl rfl q2081 q2083 qs48 q117 q2084 rfl dd_X16_part (by decide) (by decide) (Nat.le_of_ble_eq_true rfl) (htX16_step (76, .invokevirtual 386, 3) (gx_m 41 rfl))) ?_
          refine gx_iload_n (pc := 79) (n := 1) (i := 1) rfl 1 rfl (htX16_step (79, .iload_n 1, 1) (gx_m 42 rfl)) ?_
          refine gx_iconst (pc := 80) (v := 1) (by decide) (htX16_step (80, .iconst 1, 1) (gx_m 43 rfl)) ?_
          refine gx_Jjoin (pcJ := 111) (lvJ := fun (j_5 : Unit) => []) (stJ := fun (j_5 : Unit) => []) (fun _ => True) (fun j_5 hj_5 => ?_) (fun kk5 hj5 => ?_)
          · exact gx_Jvret (pc := 111) rfl (fun _ => trivial) (fun _ _ => rfl) (htX16_step (111, .return_, 1) (gx_m 62 rfl))
          · refine gx_icmp_ne (pc := 81) (tgt := 99) (by decide) (htX16_step (81, .if_icmp .ne 18, 3) (gx_m 44 rfl)) (fun c6 => ?_) (fun c6 => ?_)
            · refine gx_aload_n (pc := 84) (n := 0) (i := 0) rfl 0 rfl (htX16_step (84, .aload_n 0, 1) (gx_m 45 rfl)) ?_
              refine gx_Jgs (pc := 85) (ci := 16) (kk := 10) (t2 := 100) (by decide) (by decide) rfl rfl rfl q1684 (htX16_step (85, .getfield 26, 3) (gx_m 46 rfl)) ?_
              refine gx_sipush (pc := 88) (v := 1501) (by decide) (htX16_step (88, .sipush 1501, 3) (gx_m 47 rfl)) ?_
              refine gx_dup2 (pc := 91) rfl rfl (htX16_step (91, .dup2, 1) (gx_m 48 rfl)) ?_
              refine gx_Jia (pc := 92) (htX16_step (92, .iaload, 1) (gx_m 49 rfl)) (fun v7 => ?_)
              refine gx_iconst (pc := 93) (v := 1) (by decide) (htX16_step (93, .iconst 1, 1) (gx_m 50 rfl)) ?_
              refine gx_iadd (pc := 94) (htX16_step (94, .iadd, 1) (gx_m 51 rfl)) ?_
              refine gx_Jis (pc := 95) (htX16_step (95, .iastore, 1) (gx_m 52 rfl)) ?_
              refine gx_goto (pc := 96) (tgt := 111) (by decide) (htX16_step (96, .goto 15, 3) (gx_m 53 rfl)) ?_
              refine gx_Jw (lv := []) [] rfl ?_
              exact hj5 () trivial
            · refine gx_aload_n (pc := 99) (n := 0) (i := 0) rfl 0 rfl (htX16_step (99, .aload_n 0, 1) (gx_m 54 rfl)) ?_
              refine gx_Jgs (pc := 100) (ci := 16) (kk := 11) (t2 := 100) (by decide) (by decide) rfl rfl rfl q1685 (htX16_step (100, .getfield 29, 3) (gx_m 55 rfl)) ?_
              refine gx_sipush (pc := 103) (v := 1501) (by decide) (htX16_step (103, .sipush 1501, 3) (gx_m 56 rfl)) ?_
              refine gx_dup2 (pc := 106) rfl rfl (htX16_step (106, .dup2, 1) (gx_m 57 rfl)) ?_
              refine gx_Jia (pc := 107) (htX16_step (107, .iaload, 1) (gx_m 58 rfl)) (fun v8 => ?_)
              refine gx_iconst (pc := 108) (v := 1) (by decide) (htX16_step (108, .iconst 1, 1) (gx_m 59 rfl)) ?_
              refine gx_iadd (pc := 109) (htX16_step (109, .iadd, 1) (gx_m 60 rfl)) ?_
              refine gx_Jis (pc := 110) (htX16_step (110, .iastore, 1) (gx_m 61 rfl)) ?_
              refine gx_Jw (lv := []) [] rfl ?_
              exact hj5 () trivial
        · refine gx_icmp_ne (pc := 56) (tgt := 63) (by decide) (htX16_step (56, .if_icmp .ne 7, 3) (gx_m 29 rfl)) (fun c7 => ?_) (fun c7 => ?_)
          · refine gx_iconst (pc := 59) (v := 4) (by decide) (htX16_step (59, .iconst 4, 1) (gx_m 30 rfl)) ?_
            refine gx_goto (pc := 60) (tgt := 65) (by decide) (htX16_step (60, .goto 5, 3) (gx_m 31 rfl)) ?_
            exact hj4 (4 : Int32) trivial
          · refine gx_bipush (pc := 63) (v := 10) (by decide) (htX16_step (63, .bipush 10, 2) (gx_m 32 rfl)) ?_
            exact hj4 (10 : Int32) trivial
      · exact gx_Jvret (pc := 49) rfl (fun _ => trivial) (fun _ _ => rfl) (htX16_step (49, .return_, 1) (gx_m 24 rfl))
    · refine gx_icmp_ne (pc := 31) (tgt := 38) (by decide) (htX16_step (31, .if_icmp .ne 7, 3) (gx_m 16 rfl)) (fun c8 => ?_) (fun c8 => ?_)
      · refine gx_iconst (pc := 34) (v := 2) (by decide) (htX16_step (34, .iconst 2, 1) (gx_m 17 rfl)) ?_
        refine gx_goto (pc := 35) (tgt := 39) (by decide) (htX16_step (35, .goto 4, 3) (gx_m 18 rfl)) ?_
        refine gx_Jw (lv := [(0, gx_r 17 (some x0)), (1, gx_i x1), (2, gx_i x2), (3, gx_i x3), (4, gx_i x4), (5, gx_i x5), (6, gx_i j3)]) [1, 2, 3, 4, 5, 6, 0] rfl ?_
        exact hj2 (2 : Int32) trivial
      · refine gx_iconst (pc := 38) (v := 0) (by decide) (htX16_step (38, .iconst 0, 1) (gx_m 19 rfl)) ?_
        refine gx_Jw (lv := [(0, gx_r 17 (some x0)), (1, gx_i x1), (2, gx_i x2), (3, gx_i x3), (4, gx_i x4), (5, gx_i x5), (6, gx_i j3)]) [1, 2, 3, 4, 5, 6, 0] rfl ?_
        exact hj2 (0 : Int32) trivial
  · refine gx_icmp_ne (pc := 2) (tgt := 16) (by decide) (htX16_step (2, .if_icmp .ne 14, 3) (gx_m 2 rfl)) (fun c9 => ?_) (fun c9 => ?_)
    · refine gx_aload_n (pc := 5) (n := 0) (i := 0) rfl 0 rfl (htX16_step (5, .aload_n 0, 1) (gx_m 3 rfl)) ?_
      refine gx_Jgs (pc := 6) (ci := 16) (kk := 10) (t2 := 100) (by decide) (by decide) rfl rfl rfl q1684 (htX16_step (6, .getfield 26, 3) (gx_m 4 rfl)) ?_
      refine gx_sipush (pc := 9) (v := 1501) (by decide) (htX16_step (9, .sipush 1501, 3) (gx_m 5 rfl)) ?_
      refine gx_Jia (pc := 12) (htX16_step (12, .iaload, 1) (gx_m 6 rfl)) (fun v1 => ?_)
      refine gx_goto (pc := 13) (tgt := 24) (by decide) (htX16_step (13, .goto 11, 3) (gx_m 7 rfl)) ?_
      exact hj1 (v1 : Int32) trivial
    · refine gx_aload_n (pc := 16) (n := 0) (i := 0) rfl 0 rfl (htX16_step (16, .aload_n 0, 1) (gx_m 8 rfl)) ?_
      refine gx_Jgs (pc := 17) (ci := 16) (kk := 11) (t2 := 100) (by decide) (by decide) rfl rfl rfl q1685 (htX16_step (17, .getfield 29, 3) (gx_m 9 rfl)) ?_
      refine gx_sipush (pc := 20) (v := 1501) (by decide) (htX16_step (20, .sipush 1501, 3) (gx_m 10 rfl)) ?_
      refine gx_Jia (pc := 23) (htX16_step (23, .iaload, 1) (gx_m 11 rfl)) (fun v2 => ?_)
      exact hj1 (v2 : Int32) trivial
theorem ct_X16_put (Y : gx_Y) (x0 : gx_Nm) (x1 : Int32) (x2 : Int32) : gx_Ct Y yX16_put (ws_ yX16_put cX16_put 4 none) 4 175 [gx_r 17 (some x0), gx_i x1, gx_i x2] gx_Ov (f_X16_put x0 x1 x2) := by
  refine gx_start (lv := [(0, gx_r 17 (some x0)), (1, gx_i x1), (2, gx_i x2)]) gx_Ov_r pn_X16 (Nat.le_of_ble_eq_true rfl) rfl ?_
  unfold f_X16_put
  refine gx_aload_n (pc := 0) (n := 0) (i := 0) rfl 0 rfl (htX16_put (0, .aload_n 0, 1) (gx_m 0 rfl)) ?_
  refine gx_Jci (pc := 1) (gx_hst (as := []) (b := gx_r 17 (some x0))) (gx_runV (as := []) (ci := 16) (ct_X16_taken Y x0) (by decide) (Or.inl rfl) rfl rfl rfl rfl q2074 q2076 qs47 q117 q2077 rfl dd_X16_taken (by decide) (by decide) (Nat.le_of_ble_eq_true rfl) (htX16_put (1, .invokevirtual 378, 3) (gx_m 1 rfl))) (fun v1 => ?_)
  refine gx_istore_n (pc := 4) (n := 3) (i := 3) (lv' := [(3, gx_i v1), (0, gx_r 17 (some x0)), (1, gx_i x1), (2, gx_i x2)]) rfl (by decide) rfl (htX16_put (4, .istore_n 3, 1) (gx_m 2 rfl)) ?_
  refine gx_iload_n (pc := 5) (n := 3) (i := 3) rfl 0 rfl (htX16_put (5, .iload_n 3, 1) (gx_m 3 rfl)) ?_
  refine gx_iconst (pc := 6) (v := 2) (by decide) (htX16_put (6, .iconst 2, 1) (gx_m 4 rfl)) ?_
  refine gx_Jcond (pcT := 48) (pcE := 54) (lv2 := [(3, gx_i v1), (0, gx_r 17 (some x0)), (1, gx_i x1), (2, gx_i x2)]) (st2 := []) ?_ ?_ (fun kk1 hT1 hE1 => ?_)
  · refine gx_aload_n (pc := 48) (n := 0) (i := 0) rfl 1 rfl (htX16_put (48, .aload_n 0, 1) (gx_m 24 rfl)) ?_
    refine gx_iconst (pc := 49) (v := 1) (by decide) (htX16_put (49, .iconst 1, 1) (gx_m 25 rfl)) ?_
    refine gx_Jpi (pc := 50) (ci := 16) (kk := 0) (by decide) (Or.inl rfl) (by decide) rfl rfl q1674 (Or.inl rfl) (htX16_put (50, .putfield 312, 3) (gx_m 26 rfl)) ?_
    exact gx_Jvret (pc := 53) rfl (fun _ => trivial) (fun _ _ => rfl) (htX16_put (53, .return_, 1) (gx_m 27 rfl))
  · refine gx_aload_n (pc := 54) (n := 0) (i := 0) rfl 1 rfl (htX16_put (54, .aload_n 0, 1) (gx_m 28 rfl)) ?_
    refine gx_iload_n (pc := 55) (n := 1) (i := 1) rfl 2 rfl (htX16_put (55, .iload_n 1, 1) (gx_m 29 rfl)) ?_
    refine gx_iconst (pc := 56) (v := 0) (by decide) (htX16_put (56, .iconst 0, 1) (gx_m 30 rfl)) ?_
    refine gx_iload_n (pc := 57) (n := 2) (i := 2) rfl 3 rfl (htX16_put (57, .iload_n 2, 1) (gx_m 31 rfl)) ?_
    refine gx_aload_n (pc := 58) (n := 0) (i := 0) rfl 1 rfl (htX16_put (58, .aload_n 0, 1) (gx_m 32 rfl)) ?_
    refine gx_Jgi (pc := 59) (ci := 16) (kk := 5) (by decide) (Or.inl rfl) (by decide) (by decide) q1679 (htX16_put (59, .getfield 364, 3) (gx_m 33 rfl)) (fun v6 hv6 => ?_)
    refine gx_aload_n (pc := 62) (n := 0) (i := 0) rfl 1 rfl (htX16_put (62, .aload_n 0, 1) (gx_m 34 rfl)) ?_
    refine gx_Jgi (pc := 63) (ci := 16) (kk := 6) (by decide) (Or.inl rfl) (by decide) (by decide) q1680 (htX16_put (63, .getfield 367, 3) (gx_m 35 rfl)) (fun v7 hv7 => ?_)
    refine gx_Jcv (pc := 66) (gx_hst (as := [gx_i x1, gx_i 0, gx_i x2, gx_i v6, gx_i v7]) (b := gx_r 17 (some x0))) (gx_runV (as := [gx_i x1, gx_i 0, gx_i x2, gx_i v6, gx_i v7]) (ci := 16) (ct_X16_step Y x0 x1 0 x2 v6 v7) (by decide) (Or.inl rfl) rfl rfl rfl rfl q2093 q2095 qs50 q117 q2096 rfl dd_X16_step (by decide) (by decide) (Nat.le_of_ble_eq_true rfl) (htX16_put (66, .invokevirtual 390, 3) (gx_m 36 rfl))) ?_
    exact gx_Jvret (pc := 69) rfl (fun _ => trivial) (fun _ _ => rfl) (htX16_put (69, .return_, 1) (gx_m 37 rfl))
  · refine gx_icmp_ne (pc := 7) (tgt := 48) (by decide) (htX16_put (7, .if_icmp .ne 41, 3) (gx_m 5 rfl)) (fun c2 => ?_) (fun c2 => ?_)
    · refine gx_aload_n (pc := 10) (n := 0) (i := 0) rfl 1 rfl (htX16_put (10, .aload_n 0, 1) (gx_m 6 rfl)) ?_
      refine gx_Jgi (pc := 11) (ci := 16) (kk := 5) (by decide) (Or.inl rfl) (by decide) (by decide) q1679 (htX16_put (11, .getfield 364, 3) (gx_m 7 rfl)) (fun v2 hv2 => ?_)
      refine gx_Jcz (pc := 14) (gx_hstS (as := [gx_i v2])) (gx_runS (as := [gx_i v2]) (ct_X16_isKey Y v2) rfl rfl rfl q2078 q2079 q117 q2080 rfl dd_X16_isKey (by decide) (by decide) (Nat.le_of_ble_eq_true rfl) (htX16_put (14, .invokestatic 382, 3) (gx_m 8 rfl))) (fun v3 hv3 => ?_)
      refine gx_if_eq (pc := 17) (y := 0) (tgt := 48) (by decide) (htX16_put (17, .ifCond .eq 31, 3) (gx_m 9 rfl)) (fun c3 => ?_) (fun c3 => ?_)
      · exact hT1
      · refine gx_aload_n (pc := 20) (n := 0) (i := 0) rfl 1 rfl (htX16_put (20, .aload_n 0, 1) (gx_m 10 rfl)) ?_
        refine gx_Jgi (pc := 21) (ci := 16) (kk := 6) (by decide) (Or.inl rfl) (by decide) (by decide) q1680 (htX16_put (21, .getfield 367, 3) (gx_m 11 rfl)) (fun v4 hv4 => ?_)
        refine gx_bipush (pc := 24) (v := 64) (by decide) (htX16_put (24, .bipush 64, 2) (gx_m 12 rfl)) ?_
        refine gx_icmp_gt (pc := 26) (tgt := 48) (by decide) (htX16_put (26, .if_icmp .gt 22, 3) (gx_m 13 rfl)) (fun c4 => ?_) (fun c4 => ?_)
        · exact hT1
        · refine gx_iload_n (pc := 29) (n := 1) (i := 1) rfl 2 rfl (htX16_put (29, .iload_n 1, 1) (gx_m 14 rfl)) ?_
          refine gx_if_lt (pc := 30) (y := 0) (tgt := 48) (by decide) (htX16_put (30, .ifCond .lt 18, 3) (gx_m 15 rfl)) (fun c5 => ?_) (fun c5 => ?_)
          · exact hT1
          · refine gx_iload_n (pc := 33) (n := 1) (i := 1) rfl 2 rfl (htX16_put (33, .iload_n 1, 1) (gx_m 16 rfl)) ?_
            refine gx_iconst (pc := 34) (v := 1) (by decide) (htX16_put (34, .iconst 1, 1) (gx_m 17 rfl)) ?_
            refine gx_icmp_gt (pc := 35) (tgt := 48) (by decide) (htX16_put (35, .if_icmp .gt 13, 3) (gx_m 18 rfl)) (fun c6 => ?_) (fun c6 => ?_)
            · exact hT1
            · refine gx_iload_n (pc := 38) (n := 2) (i := 2) rfl 3 rfl (htX16_put (38, .iload_n 2, 1) (gx_m 19 rfl)) ?_
              refine gx_if_lt (pc := 39) (y := 0) (tgt := 48) (by decide) (htX16_put (39, .ifCond .lt 9, 3) (gx_m 20 rfl)) (fun c7 => ?_) (fun c7 => ?_)
              · exact hT1
              · refine gx_iload_n (pc := 42) (n := 2) (i := 2) rfl 3 rfl (htX16_put (42, .iload_n 2, 1) (gx_m 21 rfl)) ?_
                refine gx_bipush (pc := 43) (v := 99) (by decide) (htX16_put (43, .bipush 99, 2) (gx_m 22 rfl)) ?_
                refine gx_icmp_le (pc := 45) (tgt := 54) (by decide) (htX16_put (45, .if_icmp .le 9, 3) (gx_m 23 rfl)) (fun c8 => ?_) (fun c8 => ?_)
                · exact hE1
                · exact hT1
    · exact hT1
theorem ct_X16_erase (Y : gx_Y) (x0 : gx_Nm) (x1 : Int32) : gx_Ct Y yX16_erase (ws_ yX16_erase cX16_erase 3 none) 4 175 [gx_r 17 (some x0), gx_i x1] gx_Ov (f_X16_erase x0 x1) := by
  refine gx_start (lv := [(0, gx_r 17 (some x0)), (1, gx_i x1)]) gx_Ov_r pn_X16 (Nat.le_of_ble_eq_true rfl) rfl ?_
  unfold f_X16_erase
  refine gx_aload_n (pc := 0) (n := 0) (i := 0) rfl 0 rfl (htX16_erase (0, .aload_n 0, 1) (gx_m 0 rfl)) ?_
  refine gx_Jci (pc := 1) (gx_hst (as := []) (b := gx_r 17 (some x0))) (gx_runV (as := []) (ci := 16) (ct_X16_taken Y x0) (by decide) (Or.inl rfl) rfl rfl rfl rfl q2074 q2076 qs47 q117 q2077 rfl dd_X16_taken (by decide) (by decide) (Nat.le_of_ble_eq_true rfl) (htX16_erase (1, .invokevirtual 378, 3) (gx_m 1 rfl))) (fun v1 => ?_)
  refine gx_istore_n (pc := 4) (n := 2) (i := 2) (lv' := [(2, gx_i v1), (0, gx_r 17 (some x0)), (1, gx_i x1)]) rfl (by decide) rfl (htX16_erase (4, .istore_n 2, 1) (gx_m 2 rfl)) ?_
  refine gx_iload_n (pc := 5) (n := 2) (i := 2) rfl 0 rfl (htX16_erase (5, .iload_n 2, 1) (gx_m 3 rfl)) ?_
  refine gx_iconst (pc := 6) (v := 2) (by decide) (htX16_erase (6, .iconst 2, 1) (gx_m 4 rfl)) ?_
  refine gx_Jcond (pcT := 38) (pcE := 44) (lv2 := [(2, gx_i v1), (0, gx_r 17 (some x0)), (1, gx_i x1)]) (st2 := []) ?_ ?_ (fun kk1 hT1 hE1 => ?_)
  · refine gx_aload_n (pc := 38) (n := 0) (i := 0) rfl 1 rfl (htX16_erase (38, .aload_n 0, 1) (gx_m 19 rfl)) ?_
    refine gx_iconst (pc := 39) (v := 1) (by decide) (htX16_erase (39, .iconst 1, 1) (gx_m 20 rfl)) ?_
    refine gx_Jpi (pc := 40) (ci := 16) (kk := 0) (by decide) (Or.inl rfl) (by decide) rfl rfl q1674 (Or.inl rfl) (htX16_erase (40, .putfield 312, 3) (gx_m 21 rfl)) ?_
    exact gx_Jvret (pc := 43) rfl (fun _ => trivial) (fun _ _ => rfl) (htX16_erase (43, .return_, 1) (gx_m 22 rfl))
  · refine gx_aload_n (pc := 44) (n := 0) (i := 0) rfl 1 rfl (htX16_erase (44, .aload_n 0, 1) (gx_m 23 rfl)) ?_
    refine gx_iload_n (pc := 45) (n := 1) (i := 1) rfl 2 rfl (htX16_erase (45, .iload_n 1, 1) (gx_m 24 rfl)) ?_
    refine gx_iconst (pc := 46) (v := 1) (by decide) (htX16_erase (46, .iconst 1, 1) (gx_m 25 rfl)) ?_
    refine gx_iconst (pc := 47) (v := 0) (by decide) (htX16_erase (47, .iconst 0, 1) (gx_m 26 rfl)) ?_
    refine gx_aload_n (pc := 48) (n := 0) (i := 0) rfl 1 rfl (htX16_erase (48, .aload_n 0, 1) (gx_m 27 rfl)) ?_
    refine gx_Jgi (pc := 49) (ci := 16) (kk := 5) (by decide) (Or.inl rfl) (by decide) (by decide) q1679 (htX16_erase (49, .getfield 364, 3) (gx_m 28 rfl)) (fun v6 hv6 => ?_)
    refine gx_aload_n (pc := 52) (n := 0) (i := 0) rfl 1 rfl (htX16_erase (52, .aload_n 0, 1) (gx_m 29 rfl)) ?_
    refine gx_Jgi (pc := 53) (ci := 16) (kk := 6) (by decide) (Or.inl rfl) (by decide) (by decide) q1680 (htX16_erase (53, .getfield 367, 3) (gx_m 30 rfl)) (fun v7 hv7 => ?_)
    refine gx_Jcv (pc := 56) (gx_hst (as := [gx_i x1, gx_i 1, gx_i 0, gx_i v6, gx_i v7]) (b := gx_r 17 (some x0))) (gx_runV (as := [gx_i x1, gx_i 1, gx_i 0, gx_i v6, gx_i v7]) (ci := 16) (ct_X16_step Y x0 x1 1 0 v6 v7) (by decide) (Or.inl rfl) rfl rfl rfl rfl q2093 q2095 qs50 q117 q2096 rfl dd_X16_step (by decide) (by decide) (Nat.le_of_ble_eq_true rfl) (htX16_erase (56, .invokevirtual 390, 3) (gx_m 31 rfl))) ?_
    exact gx_Jvret (pc := 59) rfl (fun _ => trivial) (fun _ _ => rfl) (htX16_erase (59, .return_, 1) (gx_m 32 rfl))
  · refine gx_icmp_ne (pc := 7) (tgt := 38) (by decide) (htX16_erase (7, .if_icmp .ne 31, 3) (gx_m 5 rfl)) (fun c2 => ?_) (fun c2 => ?_)
    · refine gx_aload_n (pc := 10) (n := 0) (i := 0) rfl 1 rfl (htX16_erase (10, .aload_n 0, 1) (gx_m 6 rfl)) ?_
      refine gx_Jgi (pc := 11) (ci := 16) (kk := 5) (by decide) (Or.inl rfl) (by decide) (by decide) q1679 (htX16_erase (11, .getfield 364, 3) (gx_m 7 rfl)) (fun v2 hv2 => ?_)
      refine gx_Jcz (pc := 14) (gx_hstS (as := [gx_i v2])) (gx_runS (as := [gx_i v2]) (ct_X16_isKey Y v2) rfl rfl rfl q2078 q2079 q117 q2080 rfl dd_X16_isKey (by decide) (by decide) (Nat.le_of_ble_eq_true rfl) (htX16_erase (14, .invokestatic 382, 3) (gx_m 8 rfl))) (fun v3 hv3 => ?_)
      refine gx_if_eq (pc := 17) (y := 0) (tgt := 38) (by decide) (htX16_erase (17, .ifCond .eq 21, 3) (gx_m 9 rfl)) (fun c3 => ?_) (fun c3 => ?_)
      · exact hT1
      · refine gx_aload_n (pc := 20) (n := 0) (i := 0) rfl 1 rfl (htX16_erase (20, .aload_n 0, 1) (gx_m 10 rfl)) ?_
        refine gx_Jgi (pc := 21) (ci := 16) (kk := 6) (by decide) (Or.inl rfl) (by decide) (by decide) q1680 (htX16_erase (21, .getfield 367, 3) (gx_m 11 rfl)) (fun v4 hv4 => ?_)
        refine gx_bipush (pc := 24) (v := 64) (by decide) (htX16_erase (24, .bipush 64, 2) (gx_m 12 rfl)) ?_
        refine gx_icmp_gt (pc := 26) (tgt := 38) (by decide) (htX16_erase (26, .if_icmp .gt 12, 3) (gx_m 13 rfl)) (fun c4 => ?_) (fun c4 => ?_)
        · exact hT1
        · refine gx_iload_n (pc := 29) (n := 1) (i := 1) rfl 2 rfl (htX16_erase (29, .iload_n 1, 1) (gx_m 14 rfl)) ?_
          refine gx_if_lt (pc := 30) (y := 0) (tgt := 38) (by decide) (htX16_erase (30, .ifCond .lt 8, 3) (gx_m 15 rfl)) (fun c5 => ?_) (fun c5 => ?_)
          · exact hT1
          · refine gx_iload_n (pc := 33) (n := 1) (i := 1) rfl 2 rfl (htX16_erase (33, .iload_n 1, 1) (gx_m 16 rfl)) ?_
            refine gx_iconst (pc := 34) (v := 1) (by decide) (htX16_erase (34, .iconst 1, 1) (gx_m 17 rfl)) ?_
            refine gx_icmp_le (pc := 35) (tgt := 44) (by decide) (htX16_erase (35, .if_icmp .le 9, 3) (gx_m 18 rfl)) (fun c6 => ?_) (fun c6 => ?_)
            · exact hE1
            · exact hT1
    · exact hT1
theorem ct_X16_lease (Y : gx_Y) (x0 : gx_Nm) (x1 : Int32) (x2 : Int32) (x3 : Int32) : gx_Ct Y yX16_lease (ws_ yX16_lease cX16_lease 5 none) 4 175 [gx_r 17 (some x0), gx_i x1, gx_i x2, gx_i x3] gx_Ov (f_X16_lease x0 x1 x2 x3) := by
  refine gx_start (lv := [(0, gx_r 17 (some x0)), (1, gx_i x1), (2, gx_i x2), (3, gx_i x3)]) gx_Ov_r pn_X16 (Nat.le_of_ble_eq_true rfl) rfl ?_
  unfold f_X16_lease
  refine gx_aload_n (pc := 0) (n := 0) (i := 0) rfl 0 rfl (htX16_lease (0, .aload_n 0, 1) (gx_m 0 rfl)) ?_
  refine gx_Jci (pc := 1) (gx_hst (as := []) (b := gx_r 17 (some x0))) (gx_runV (as := []) (ci := 16) (ct_X16_taken Y x0) (by decide) (Or.inl rfl) rfl rfl rfl rfl q2074 q2076 qs47 q117 q2077 rfl dd_X16_taken (by decide) (by decide) (Nat.le_of_ble_eq_true rfl) (htX16_lease (1, .invokevirtual 378, 3) (gx_m 1 rfl))) (fun v1 => ?_)
  refine gx_istore (pc := 4) (i := 4) (lv' := [(4, gx_i v1), (0, gx_r 17 (some x0)), (1, gx_i x1), (2, gx_i x2), (3, gx_i x3)]) (by decide) rfl (htX16_lease (4, .istore 4, 2) (gx_m 2 rfl)) ?_
  refine gx_iload (pc := 6) (i := 4) 0 rfl (htX16_lease (6, .iload 4, 2) (gx_m 3 rfl)) ?_
  refine gx_Jcond (pcT := 31) (pcE := 37) (lv2 := [(4, gx_i v1), (0, gx_r 17 (some x0)), (1, gx_i x1), (2, gx_i x2), (3, gx_i x3)]) (st2 := []) ?_ ?_ (fun kk1 hT1 hE1 => ?_)
  · refine gx_aload_n (pc := 31) (n := 0) (i := 0) rfl 1 rfl (htX16_lease (31, .aload_n 0, 1) (gx_m 16 rfl)) ?_
    refine gx_iconst (pc := 32) (v := 1) (by decide) (htX16_lease (32, .iconst 1, 1) (gx_m 17 rfl)) ?_
    refine gx_Jpi (pc := 33) (ci := 16) (kk := 0) (by decide) (Or.inl rfl) (by decide) rfl rfl q1674 (Or.inl rfl) (htX16_lease (33, .putfield 312, 3) (gx_m 18 rfl)) ?_
    exact gx_Jvret (pc := 36) rfl (fun _ => trivial) (fun _ _ => rfl) (htX16_lease (36, .return_, 1) (gx_m 19 rfl))
  · refine gx_aload_n (pc := 37) (n := 0) (i := 0) rfl 1 rfl (htX16_lease (37, .aload_n 0, 1) (gx_m 20 rfl)) ?_
    refine gx_iload_n (pc := 38) (n := 1) (i := 1) rfl 2 rfl (htX16_lease (38, .iload_n 1, 1) (gx_m 21 rfl)) ?_
    refine gx_iload_n (pc := 39) (n := 3) (i := 3) rfl 4 rfl (htX16_lease (39, .iload_n 3, 1) (gx_m 22 rfl)) ?_
    refine gx_Jjoin (pcJ := 48) (lvJ := fun (j3 : Int32) => [(2, gx_i x2)]) (stJ := fun (j3 : Int32) => [gx_i j3, gx_i x1, gx_r 17 (some x0)]) (fun _ => True) (fun j3 hj3 => ?_) (fun kk2 hj2 => ?_)
    · refine gx_iload_n (pc := 48) (n := 2) (i := 2) rfl 0 rfl (htX16_lease (48, .iload_n 2, 1) (gx_m 27 rfl)) ?_
      refine gx_iconst (pc := 49) (v := 0) (by decide) (htX16_lease (49, .iconst 0, 1) (gx_m 28 rfl)) ?_
      refine gx_iconst (pc := 50) (v := 0) (by decide) (htX16_lease (50, .iconst 0, 1) (gx_m 29 rfl)) ?_
      refine gx_Jcv (pc := 51) (gx_hst (as := [gx_i x1, gx_i j3, gx_i x2, gx_i 0, gx_i 0]) (b := gx_r 17 (some x0))) (gx_runV (as := [gx_i x1, gx_i j3, gx_i x2, gx_i 0, gx_i 0]) (ci := 16) (ct_X16_step Y x0 x1 j3 x2 0 0) (by decide) (Or.inl rfl) rfl rfl rfl rfl q2093 q2095 qs50 q117 q2096 rfl dd_X16_step (by decide) (by decide) (Nat.le_of_ble_eq_true rfl) (htX16_lease (51, .invokevirtual 390, 3) (gx_m 30 rfl))) ?_
      exact gx_Jvret (pc := 54) rfl (fun _ => trivial) (fun _ _ => rfl) (htX16_lease (54, .return_, 1) (gx_m 31 rfl))
    · refine gx_if_eq (pc := 40) (y := 0) (tgt := 47) (by decide) (htX16_lease (40, .ifCond .eq 7, 3) (gx_m 23 rfl)) (fun c3 => ?_) (fun c3 => ?_)
      · refine gx_iconst (pc := 47) (v := 2) (by decide) (htX16_lease (47, .iconst 2, 1) (gx_m 26 rfl)) ?_
        refine gx_Jw (lv := [(2, gx_i x2)]) [3] rfl ?_
        exact hj2 (2 : Int32) trivial
      · refine gx_iconst (pc := 43) (v := 3) (by decide) (htX16_lease (43, .iconst 3, 1) (gx_m 24 rfl)) ?_
        refine gx_goto (pc := 44) (tgt := 48) (by decide) (htX16_lease (44, .goto 4, 3) (gx_m 25 rfl)) ?_
        refine gx_Jw (lv := [(2, gx_i x2)]) [3] rfl ?_
        exact hj2 (3 : Int32) trivial
  · refine gx_if_ne (pc := 8) (y := 0) (tgt := 31) (by decide) (htX16_lease (8, .ifCond .ne 23, 3) (gx_m 4 rfl)) (fun c4 => ?_) (fun c4 => ?_)
    · refine gx_iload_n (pc := 11) (n := 1) (i := 1) rfl 2 rfl (htX16_lease (11, .iload_n 1, 1) (gx_m 5 rfl)) ?_
      refine gx_if_lt (pc := 12) (y := 0) (tgt := 31) (by decide) (htX16_lease (12, .ifCond .lt 19, 3) (gx_m 6 rfl)) (fun c5 => ?_) (fun c5 => ?_)
      · exact hT1
      · refine gx_iload_n (pc := 15) (n := 1) (i := 1) rfl 2 rfl (htX16_lease (15, .iload_n 1, 1) (gx_m 7 rfl)) ?_
        refine gx_iconst (pc := 16) (v := 1) (by decide) (htX16_lease (16, .iconst 1, 1) (gx_m 8 rfl)) ?_
        refine gx_icmp_gt (pc := 17) (tgt := 31) (by decide) (htX16_lease (17, .if_icmp .gt 14, 3) (gx_m 9 rfl)) (fun c6 => ?_) (fun c6 => ?_)
        · exact hT1
        · refine gx_iload_n (pc := 20) (n := 2) (i := 2) rfl 3 rfl (htX16_lease (20, .iload_n 2, 1) (gx_m 10 rfl)) ?_
          refine gx_iconst (pc := 21) (v := 1) (by decide) (htX16_lease (21, .iconst 1, 1) (gx_m 11 rfl)) ?_
          refine gx_icmp_lt (pc := 22) (tgt := 31) (by decide) (htX16_lease (22, .if_icmp .lt 9, 3) (gx_m 12 rfl)) (fun c7 => ?_) (fun c7 => ?_)
          · exact hT1
          · refine gx_iload_n (pc := 25) (n := 2) (i := 2) rfl 3 rfl (htX16_lease (25, .iload_n 2, 1) (gx_m 13 rfl)) ?_
            refine gx_bipush (pc := 26) (v := 99) (by decide) (htX16_lease (26, .bipush 99, 2) (gx_m 14 rfl)) ?_
            refine gx_icmp_le (pc := 28) (tgt := 37) (by decide) (htX16_lease (28, .if_icmp .le 9, 3) (gx_m 15 rfl)) (fun c8 => ?_) (fun c8 => ?_)
            · exact hE1
            · exact hT1
    · exact hT1
theorem ct_X16_forget (Y : gx_Y) (x0 : gx_Nm) : gx_Ct Y yX16_forget (ws_ yX16_forget cX16_forget 1 none) 2 120 [gx_r 17 (some x0)] gx_Ov (f_X16_forget x0) := by
  refine gx_start (lv := [(0, gx_r 17 (some x0))]) gx_Ov_r pn_X16 (Nat.le_of_ble_eq_true rfl) rfl ?_
  unfold f_X16_forget
  refine gx_aload_n (pc := 0) (n := 0) (i := 0) rfl 0 rfl (htX16_forget (0, .aload_n 0, 1) (gx_m 0 rfl)) ?_
  refine gx_iconst (pc := 1) (v := 0) (by decide) (htX16_forget (1, .iconst 0, 1) (gx_m 1 rfl)) ?_
  refine gx_Jpi (pc := 2) (ci := 16) (kk := 0) (by decide) (Or.inl rfl) (by decide) rfl rfl q1674 (Or.inl rfl) (htX16_forget (2, .putfield 312, 3) (gx_m 2 rfl)) ?_
  refine gx_aload_n (pc := 5) (n := 0) (i := 0) rfl 0 rfl (htX16_forget (5, .aload_n 0, 1) (gx_m 3 rfl)) ?_
  refine gx_Jcv (pc := 6) (gx_hst (as := []) (b := gx_r 17 (some x0))) (gx_runV (as := []) (ci := 16) (ct_X16_clearDraft Y x0) (by decide) (Or.inl rfl) rfl rfl rfl rfl q2050 q2052 qs44 q117 q2053 rfl dd_X16_clearDraft (by decide) (by decide) (Nat.le_of_ble_eq_true rfl) (htX16_forget (6, .invokevirtual 348, 3) (gx_m 4 rfl))) ?_
  exact gx_Jvret (pc := 9) rfl (fun _ => trivial) (fun _ _ => rfl) (htX16_forget (9, .return_, 1) (gx_m 5 rfl))
theorem ct_X16_up (Y : gx_Y) (x0 : gx_Nm) (x1 : Int32) : gx_Ct Y yX16_up (ws_ yX16_up cX16_up 2 (some .boolean)) 1 100 [gx_r 17 (some x0), gx_i x1] gx_Oz (f_X16_up x0 x1) := by
  refine gx_start (lv := [(0, gx_r 17 (some x0)), (1, gx_i x1)]) gx_Oz_r pn_X16 (Nat.le_of_ble_eq_true rfl) rfl ?_
  unfold f_X16_up
  refine gx_iload_n (pc := 0) (n := 1) (i := 1) rfl 1 rfl (htX16_up (0, .iload_n 1, 1) (gx_m 0 rfl)) ?_
  refine gx_Jjoin (pcJ := 26) (lvJ := fun (j3 : Int32) => []) (stJ := fun (j3 : Int32) => [gx_i j3]) (fun (j3 : Int32) => j3 &&& 1 = j3) (fun j3 hj3 => ?_) (fun kk1 hj1 => ?_)
  · exact gx_Jzret (pc := 26) rfl hj3 (fun _ => hj3) (fun _ _ => rfl) (htX16_up (26, .ireturn, 1) (gx_m 14 rfl))
  · refine gx_if_lt (pc := 1) (y := 0) (tgt := 25) (by decide) (htX16_up (1, .ifCond .lt 24, 3) (gx_m 1 rfl)) (fun c2 => ?_) (fun c2 => ?_)
    · refine gx_iconst (pc := 25) (v := 0) (by decide) (htX16_up (25, .iconst 0, 1) (gx_m 13 rfl)) ?_
      refine gx_Jw (lv := []) [] rfl ?_
      exact hj1 (0 : Int32) gx_b0
    · refine gx_iload_n (pc := 4) (n := 1) (i := 1) rfl 1 rfl (htX16_up (4, .iload_n 1, 1) (gx_m 2 rfl)) ?_
      refine gx_aload_n (pc := 5) (n := 0) (i := 0) rfl 0 rfl (htX16_up (5, .aload_n 0, 1) (gx_m 3 rfl)) ?_
      refine gx_Jgi (pc := 6) (ci := 16) (kk := 29) (by decide) (Or.inl rfl) (by decide) (by decide) q1703 (htX16_up (6, .getfield 315, 3) (gx_m 4 rfl)) (fun v1 hv1 => ?_)
      refine gx_icmp_ge (pc := 9) (tgt := 25) (by decide) (htX16_up (9, .if_icmp .ge 16, 3) (gx_m 5 rfl)) (fun c3 => ?_) (fun c3 => ?_)
      · refine gx_iconst (pc := 25) (v := 0) (by decide) (htX16_up (25, .iconst 0, 1) (gx_m 13 rfl)) ?_
        refine gx_Jw (lv := []) [] rfl ?_
        exact hj1 (0 : Int32) gx_b0
      · refine gx_aload_n (pc := 12) (n := 0) (i := 0) rfl 0 rfl (htX16_up (12, .aload_n 0, 1) (gx_m 6 rfl)) ?_
        refine gx_Jgs (pc := 13) (ci := 16) (kk := 30) (t2 := 102) (by decide) (by decide) rfl rfl rfl q1704 (htX16_up (13, .getfield 76, 3) (gx_m 7 rfl)) ?_
        refine gx_iload_n (pc := 16) (n := 1) (i := 1) rfl 1 rfl (htX16_up (16, .iload_n 1, 1) (gx_m 8 rfl)) ?_
        refine gx_Jza (pc := 17) (htX16_up (17, .baload, 1) (gx_m 9 rfl)) (fun v2 => ?_)
        refine gx_if_ne (pc := 18) (y := 0) (tgt := 25) (by decide) (htX16_up (18, .ifCond .ne 7, 3) (gx_m 10 rfl)) (fun c4 => ?_) (fun c4 => ?_)
        · refine gx_iconst (pc := 21) (v := 1) (by decide) (htX16_up (21, .iconst 1, 1) (gx_m 11 rfl)) ?_
          refine gx_goto (pc := 22) (tgt := 26) (by decide) (htX16_up (22, .goto 4, 3) (gx_m 12 rfl)) ?_
          refine gx_Jw (lv := []) [] rfl ?_
          exact hj1 (1 : Int32) gx_b1
        · refine gx_iconst (pc := 25) (v := 0) (by decide) (htX16_up (25, .iconst 0, 1) (gx_m 13 rfl)) ?_
          refine gx_Jw (lv := []) [] rfl ?_
          exact hj1 (0 : Int32) gx_b0
theorem ct_X16_fromDraft (Y : gx_Y) (x0 : gx_Nm) (x1 : Int32) : gx_Ct Y yX16_fromDraft (ws_ yX16_fromDraft cX16_fromDraft 6 (some .int)) 2 120 [gx_r 17 (some x0), gx_i x1] gx_Oi (f_X16_fromDraft x0 x1) := by
  refine gx_start (lv := [(0, gx_r 17 (some x0)), (1, gx_i x1)]) gx_Oi_r pn_X16 (Nat.le_of_ble_eq_true rfl) rfl ?_
  unfold f_X16_fromDraft
  refine gx_aload_n (pc := 0) (n := 0) (i := 0) rfl 0 rfl (htX16_fromDraft_0 (0, .aload_n 0, 1) (gx_m 0 rfl)) ?_
  refine gx_Jgi (pc := 1) (ci := 16) (kk := 20) (by decide) (Or.inl rfl) (by decide) (by decide) q1694 (htX16_fromDraft_0 (1, .getfield 318, 3) (gx_m 1 rfl)) (fun v1 hv1 => ?_)
  refine gx_istore_n (pc := 4) (n := 2) (i := 2) (lv' := [(2, gx_i v1), (0, gx_r 17 (some x0)), (1, gx_i x1)]) rfl (by decide) rfl (htX16_fromDraft_0 (4, .istore_n 2, 1) (gx_m 2 rfl)) ?_
  refine gx_aload_n (pc := 5) (n := 0) (i := 0) rfl 1 rfl (htX16_fromDraft_0 (5, .aload_n 0, 1) (gx_m 3 rfl)) ?_
  refine gx_dup (pc := 6) rfl (htX16_fromDraft_0 (6, .dup, 1) (gx_m 4 rfl)) ?_
  refine gx_Jgi (pc := 7) (ci := 16) (kk := 20) (by decide) (Or.inl rfl) (by decide) (by decide) q1694 (htX16_fromDraft_0 (7, .getfield 318, 3) (gx_m 5 rfl)) (fun v2 hv2 => ?_)
  refine gx_iconst (pc := 10) (v := 1) (by decide) (htX16_fromDraft_0 (10, .iconst 1, 1) (gx_m 6 rfl)) ?_
  refine gx_iadd (pc := 11) (htX16_fromDraft_0 (11, .iadd, 1) (gx_m 7 rfl)) ?_
  refine gx_Jpi (pc := 12) (ci := 16) (kk := 20) (by decide) (Or.inl rfl) (by decide) rfl rfl q1694 (Or.inl rfl) (htX16_fromDraft_0 (12, .putfield 318, 3) (gx_m 8 rfl)) ?_
  refine gx_aload_n (pc := 15) (n := 0) (i := 0) rfl 1 rfl (htX16_fromDraft_0 (15, .aload_n 0, 1) (gx_m 9 rfl)) ?_
  refine gx_Jgs (pc := 16) (ci := 16) (kk := 8) (t2 := 100) (by decide) (by decide) rfl rfl rfl q1682 (htX16_fromDraft_0 (16, .getfield 19, 3) (gx_m 10 rfl)) ?_
  refine gx_iload_n (pc := 19) (n := 2) (i := 2) rfl 0 rfl (htX16_fromDraft_0 (19, .iload_n 2, 1) (gx_m 11 rfl)) ?_
  refine gx_iload_n (pc := 20) (n := 1) (i := 1) rfl 2 rfl (htX16_fromDraft_0 (20, .iload_n 1, 1) (gx_m 12 rfl)) ?_
  refine gx_Jis (pc := 21) (htX16_fromDraft_0 (21, .iastore, 1) (gx_m 13 rfl)) ?_
  refine gx_aload_n (pc := 22) (n := 0) (i := 0) rfl 1 rfl (htX16_fromDraft_0 (22, .aload_n 0, 1) (gx_m 14 rfl)) ?_
  refine gx_Jgs (pc := 23) (ci := 16) (kk := 9) (t2 := 100) (by decide) (by decide) rfl rfl rfl q1683 (htX16_fromDraft_0 (23, .getfield 23, 3) (gx_m 15 rfl)) ?_
  refine gx_iload_n (pc := 26) (n := 2) (i := 2) rfl 0 rfl (htX16_fromDraft_0 (26, .iload_n 2, 1) (gx_m 16 rfl)) ?_
  refine gx_aload_n (pc := 27) (n := 0) (i := 0) rfl 1 rfl (htX16_fromDraft_0 (27, .aload_n 0, 1) (gx_m 17 rfl)) ?_
  refine gx_Jgs (pc := 28) (ci := 16) (kk := 9) (t2 := 100) (by decide) (by decide) rfl rfl rfl q1683 (htX16_fromDraft_0 (28, .getfield 23, 3) (gx_m 18 rfl)) ?_
  refine gx_sipush (pc := 31) (v := 1501) (by decide) (htX16_fromDraft_0 (31, .sipush 1501, 3) (gx_m 19 rfl)) ?_
  refine gx_Jia (pc := 34) (htX16_fromDraft_0 (34, .iaload, 1) (gx_m 20 rfl)) (fun v3 => ?_)
  refine gx_Jis (pc := 35) (htX16_fromDraft_0 (35, .iastore, 1) (gx_m 21 rfl)) ?_
  refine gx_aload_n (pc := 36) (n := 0) (i := 0) rfl 1 rfl (htX16_fromDraft_0 (36, .aload_n 0, 1) (gx_m 22 rfl)) ?_
  refine gx_Jgs (pc := 37) (ci := 16) (kk := 10) (t2 := 100) (by decide) (by decide) rfl rfl rfl q1684 (htX16_fromDraft_0 (37, .getfield 26, 3) (gx_m 23 rfl)) ?_
  refine gx_iload_n (pc := 40) (n := 2) (i := 2) rfl 0 rfl (htX16_fromDraft_0 (40, .iload_n 2, 1) (gx_m 24 rfl)) ?_
  refine gx_aload_n (pc := 41) (n := 0) (i := 0) rfl 1 rfl (htX16_fromDraft_0 (41, .aload_n 0, 1) (gx_m 25 rfl)) ?_
  refine gx_Jgs (pc := 42) (ci := 16) (kk := 10) (t2 := 100) (by decide) (by decide) rfl rfl rfl q1684 (htX16_fromDraft_0 (42, .getfield 26, 3) (gx_m 26 rfl)) ?_
  refine gx_sipush (pc := 45) (v := 1501) (by decide) (htX16_fromDraft_0 (45, .sipush 1501, 3) (gx_m 27 rfl)) ?_
  refine gx_Jia (pc := 48) (htX16_fromDraft_0 (48, .iaload, 1) (gx_m 28 rfl)) (fun v4 => ?_)
  refine gx_Jis (pc := 49) (htX16_fromDraft_0 (49, .iastore, 1) (gx_m 29 rfl)) ?_
  refine gx_aload_n (pc := 50) (n := 0) (i := 0) rfl 1 rfl (htX16_fromDraft_0 (50, .aload_n 0, 1) (gx_m 30 rfl)) ?_
  refine gx_Jgs (pc := 51) (ci := 16) (kk := 11) (t2 := 100) (by decide) (by decide) rfl rfl rfl q1685 (htX16_fromDraft_0 (51, .getfield 29, 3) (gx_m 31 rfl)) ?_
  refine gx_iload_n (pc := 54) (n := 2) (i := 2) rfl 0 rfl (htX16_fromDraft_0 (54, .iload_n 2, 1) (gx_m 32 rfl)) ?_
  refine gx_aload_n (pc := 55) (n := 0) (i := 0) rfl 1 rfl (htX16_fromDraft_0 (55, .aload_n 0, 1) (gx_m 33 rfl)) ?_
  refine gx_Jgs (pc := 56) (ci := 16) (kk := 11) (t2 := 100) (by decide) (by decide) rfl rfl rfl q1685 (htX16_fromDraft_0 (56, .getfield 29, 3) (gx_m 34 rfl)) ?_
  refine gx_sipush (pc := 59) (v := 1501) (by decide) (htX16_fromDraft_0 (59, .sipush 1501, 3) (gx_m 35 rfl)) ?_
  refine gx_Jia (pc := 62) (htX16_fromDraft_0 (62, .iaload, 1) (gx_m 36 rfl)) (fun v5 => ?_)
  refine gx_Jis (pc := 63) (htX16_fromDraft_0 (63, .iastore, 1) (gx_m 37 rfl)) ?_
  refine gx_iconst (pc := 64) (v := 0) (by decide) (htX16_fromDraft_0 (64, .iconst 0, 1) (gx_m 38 rfl)) ?_
  refine gx_istore_n (pc := 65) (n := 3) (i := 3) (lv' := [(3, gx_i 0), (2, gx_i v1), (0, gx_r 17 (some x0)), (1, gx_i x1)]) rfl (by decide) rfl (htX16_fromDraft_0 (65, .istore_n 3, 1) (gx_m 39 rfl)) ?_
  refine gx_Jjoin (pcJ := 201) (lvJ := fun (j_1 : Unit) => [(0, gx_r 17 (some x0)), (2, gx_i v1)]) (stJ := fun (j_1 : Unit) => []) (fun _ => True) (fun j_1 _ => ?_) (fun kk1 hj1 => ?_)
  · refine gx_iconst (pc := 201) (v := 0) (by decide) (htX16_fromDraft_1 (201, .iconst 0, 1) (gx_m 17 rfl)) ?_
    refine gx_istore_n (pc := 202) (n := 3) (i := 3) (lv' := [(3, gx_i 0), (0, gx_r 17 (some x0)), (2, gx_i v1)]) rfl (by decide) rfl (htX16_fromDraft_1 (202, .istore_n 3, 1) (gx_m 18 rfl)) ?_
    refine gx_Jjoin (pcJ := 234) (lvJ := fun (j_2 : Unit) => [(0, gx_r 17 (some x0)), (2, gx_i v1)]) (stJ := fun (j_2 : Unit) => []) (fun _ => True) (fun j_2 _ => ?_) (fun kk2 hj2 => ?_)
    · refine gx_aload_n (pc := 234) (n := 0) (i := 0) rfl 0 rfl (htX16_fromDraft_1 (234, .aload_n 0, 1) (gx_m 36 rfl)) ?_
      refine gx_dup (pc := 235) rfl (htX16_fromDraft_1 (235, .dup, 1) (gx_m 37 rfl)) ?_
      refine gx_Jgi (pc := 236) (ci := 16) (kk := 21) (by decide) (Or.inl rfl) (by decide) (by decide) q1695 (htX16_fromDraft_1 (236, .getfield 321, 3) (gx_m 38 rfl)) (fun v20 hv20 => ?_)
      refine gx_aload_n (pc := 239) (n := 0) (i := 0) rfl 0 rfl (htX16_fromDraft_1 (239, .aload_n 0, 1) (gx_m 39 rfl)) ?_
      refine gx_Jgi (pc := 240) (ci := 16) (kk := 22) (by decide) (Or.inl rfl) (by decide) (by decide) q1696 (htX16_fromDraft_1 (240, .getfield 355, 3) (gx_m 40 rfl)) (fun v21 hv21 => ?_)
      refine gx_iadd (pc := 243) (htX16_fromDraft_1 (243, .iadd, 1) (gx_m 41 rfl)) ?_
      refine gx_Jpi (pc := 244) (ci := 16) (kk := 21) (by decide) (Or.inl rfl) (by decide) rfl rfl q1695 (Or.inl rfl) (htX16_fromDraft_1 (244, .putfield 321, 3) (gx_m 42 rfl)) ?_
      refine gx_aload_n (pc := 247) (n := 0) (i := 0) rfl 0 rfl (htX16_fromDraft_1 (247, .aload_n 0, 1) (gx_m 43 rfl)) ?_
      refine gx_Jcv (pc := 248) (gx_hst (as := []) (b := gx_r 17 (some x0))) (gx_runV (as := []) (ci := 16) (ct_X16_clearDraft Y x0) (by decide) (Or.inl rfl) rfl rfl rfl rfl q2050 q2052 qs44 q117 q2053 rfl dd_X16_clearDraft (by decide) (by decide) (Nat.le_of_ble_eq_true rfl) (htX16_fromDraft_1 (248, .invokevirtual 348, 3) (gx_m 44 rfl))) ?_
      refine gx_iload_n (pc := 251) (n := 2) (i := 2) rfl 1 rfl (htX16_fromDraft_1 (251, .iload_n 2, 1) (gx_m 45 rfl)) ?_
      exact gx_Jiret (pc := 252) rfl (fun _ => trivial) (fun _ _ => rfl) (htX16_fromDraft_1 (252, .ireturn, 1) (gx_m 46 rfl))
    · refine gx_Jw (lv := [(0, gx_r 17 (some x0)), (2, gx_i v1), (3, gx_i 0)]) [1, 2, 0] rfl ?_
      refine gx_Jlp (pc := 203) (lvh := fun (s16 : Int32) => [(0, gx_r 17 (some x0)), (2, gx_i v1), (3, gx_i s16)]) (fun s16 kl2 ha2 hb2 => ?_) _
      unfold lb_X16_fromDraft_2
      refine gx_iload_n (pc := 203) (n := 3) (i := 3) rfl 2 rfl (htX16_fromDraft_1 (203, .iload_n 3, 1) (gx_m 19 rfl)) ?_
      refine gx_aload_n (pc := 204) (n := 0) (i := 0) rfl 0 rfl (htX16_fromDraft_1 (204, .aload_n 0, 1) (gx_m 20 rfl)) ?_
      refine gx_Jgi (pc := 205) (ci := 16) (kk := 22) (by decide) (Or.inl rfl) (by decide) (by decide) q1696 (htX16_fromDraft_1 (205, .getfield 355, 3) (gx_m 21 rfl)) (fun v17 hv17 => ?_)
      refine gx_icmp_ge (pc := 208) (tgt := 234) (by decide) (htX16_fromDraft_1 (208, .if_icmp .ge 26, 3) (gx_m 22 rfl)) (fun c3 => ?_) (fun c3 => ?_)
      · refine gx_Jw (lv := [(0, gx_r 17 (some x0)), (2, gx_i v1)]) [0, 1] rfl ?_
        exact gx_Jout hb2 (hj2 () trivial)
      · refine gx_aload_n (pc := 211) (n := 0) (i := 0) rfl 0 rfl (htX16_fromDraft_1 (211, .aload_n 0, 1) (gx_m 23 rfl)) ?_
        refine gx_Jgs (pc := 212) (ci := 16) (kk := 19) (t2 := 101) (by decide) (by decide) rfl rfl rfl q1693 (htX16_fromDraft_1 (212, .getfield 54, 3) (gx_m 24 rfl)) ?_
        refine gx_aload_n (pc := 215) (n := 0) (i := 0) rfl 0 rfl (htX16_fromDraft_1 (215, .aload_n 0, 1) (gx_m 25 rfl)) ?_
        refine gx_Jgi (pc := 216) (ci := 16) (kk := 21) (by decide) (Or.inl rfl) (by decide) (by decide) q1695 (htX16_fromDraft_1 (216, .getfield 321, 3) (gx_m 26 rfl)) (fun v18 hv18 => ?_)
        refine gx_iload_n (pc := 219) (n := 3) (i := 3) rfl 2 rfl (htX16_fromDraft_1 (219, .iload_n 3, 1) (gx_m 27 rfl)) ?_
        refine gx_iadd (pc := 220) (htX16_fromDraft_1 (220, .iadd, 1) (gx_m 28 rfl)) ?_
        refine gx_aload_n (pc := 221) (n := 0) (i := 0) rfl 0 rfl (htX16_fromDraft_1 (221, .aload_n 0, 1) (gx_m 29 rfl)) ?_
        refine gx_Jgs (pc := 222) (ci := 16) (kk := 23) (t2 := 101) (by decide) (by decide) rfl rfl rfl q1697 (htX16_fromDraft_1 (222, .getfield 57, 3) (gx_m 30 rfl)) ?_
        refine gx_iload_n (pc := 225) (n := 3) (i := 3) rfl 2 rfl (htX16_fromDraft_1 (225, .iload_n 3, 1) (gx_m 31 rfl)) ?_
        refine gx_Jba (pc := 226) (htX16_fromDraft_1 (226, .baload, 1) (gx_m 32 rfl)) (fun v19 => ?_)
        refine gx_Jbs (pc := 227) (htX16_fromDraft_1 (227, .bastore, 1) (gx_m 33 rfl)) ?_
        refine gx_iinc (pc := 228) (i := 3) (j := 2) (v := (s16 + 1)) (lv' := [(3, gx_i (s16 + 1)), (0, gx_r 17 (some x0)), (2, gx_i v1)]) rfl (gx_iv (by decide)) (by decide) rfl (htX16_fromDraft_1 (228, .iinc 3 1, 3) (gx_m 34 rfl)) ?_
        refine gx_goto (pc := 231) (tgt := 203) (by decide) (htX16_fromDraft_1 (231, .goto (-28), 3) (gx_m 35 rfl)) ?_
        refine gx_Jw (lv := [(0, gx_r 17 (some x0)), (2, gx_i v1), (3, gx_i (s16 + 1))]) [1, 2, 0] rfl ?_
        exact ha2 ((s16 + 1) : Int32)
  · refine gx_Jw (lv := [(0, gx_r 17 (some x0)), (2, gx_i v1), (3, gx_i 0)]) [2, 1, 0] rfl ?_
    refine gx_Jlp (pc := 66) (lvh := fun (s6 : Int32) => [(0, gx_r 17 (some x0)), (2, gx_i v1), (3, gx_i s6)]) (fun s6 kl1 ha1 hb1 => ?_) _
    unfold lb_X16_fromDraft_1
    refine gx_iload_n (pc := 66) (n := 3) (i := 3) rfl 2 rfl (htX16_fromDraft_0 (66, .iload_n 3, 1) (gx_m 40 rfl)) ?_
    refine gx_bipush (pc := 67) (v := 16) (by decide) (htX16_fromDraft_0 (67, .bipush 16, 2) (gx_m 41 rfl)) ?_
    refine gx_icmp_ge (pc := 69) (tgt := 201) (by decide) (htX16_fromDraft_0 (69, .if_icmp .ge 132, 3) (gx_m 42 rfl)) (fun c4 => ?_) (fun c4 => ?_)
    · refine gx_Jw (lv := [(0, gx_r 17 (some x0)), (2, gx_i v1)]) [0, 1] rfl ?_
      exact gx_Jout hb1 (hj1 () trivial)
    · refine gx_sipush (pc := 72) (v := 24016) (by decide) (htX16_fromDraft_0 (72, .sipush 24016, 3) (gx_m 43 rfl)) ?_
      refine gx_iload_n (pc := 75) (n := 3) (i := 3) rfl 2 rfl (htX16_fromDraft_0 (75, .iload_n 3, 1) (gx_m 44 rfl)) ?_
      refine gx_iadd (pc := 76) (htX16_fromDraft_0 (76, .iadd, 1) (gx_m 45 rfl)) ?_
      refine gx_istore (pc := 77) (i := 4) (lv' := [(4, gx_i (24016 + s6)), (0, gx_r 17 (some x0)), (2, gx_i v1), (3, gx_i s6)]) (by decide) rfl (htX16_fromDraft_0 (77, .istore 4, 2) (gx_m 46 rfl)) ?_
      refine gx_bipush (pc := 79) (v := 16) (by decide) (htX16_fromDraft_0 (79, .bipush 16, 2) (gx_m 47 rfl)) ?_
      refine gx_iload_n (pc := 81) (n := 2) (i := 2) rfl 2 rfl (htX16_fromDraft_0 (81, .iload_n 2, 1) (gx_m 48 rfl)) ?_
      refine gx_imul (pc := 82) (htX16_fromDraft_0 (82, .imul, 1) (gx_m 49 rfl)) ?_
      refine gx_iload_n (pc := 83) (n := 3) (i := 3) rfl 3 rfl (htX16_fromDraft_0 (83, .iload_n 3, 1) (gx_m 50 rfl)) ?_
      refine gx_iadd (pc := 84) (htX16_fromDraft_0 (84, .iadd, 1) (gx_m 51 rfl)) ?_
      refine gx_istore (pc := 85) (i := 5) (lv' := [(5, gx_i ((16 * v1) + s6)), (4, gx_i (24016 + s6)), (0, gx_r 17 (some x0)), (2, gx_i v1), (3, gx_i s6)]) (by decide) rfl (htX16_fromDraft_0 (85, .istore 5, 2) (gx_m 52 rfl)) ?_
      refine gx_aload_n (pc := 87) (n := 0) (i := 0) rfl 2 rfl (htX16_fromDraft_0 (87, .aload_n 0, 1) (gx_m 53 rfl)) ?_
      refine gx_Jgs (pc := 88) (ci := 16) (kk := 12) (t2 := 100) (by decide) (by decide) rfl rfl rfl q1686 (htX16_fromDraft_0 (88, .getfield 32, 3) (gx_m 54 rfl)) ?_
      refine gx_iload (pc := 91) (i := 5) 0 rfl (htX16_fromDraft_0 (91, .iload 5, 2) (gx_m 55 rfl)) ?_
      refine gx_aload_n (pc := 93) (n := 0) (i := 0) rfl 2 rfl (htX16_fromDraft_0 (93, .aload_n 0, 1) (gx_m 56 rfl)) ?_
      refine gx_Jgs (pc := 94) (ci := 16) (kk := 12) (t2 := 100) (by decide) (by decide) rfl rfl rfl q1686 (htX16_fromDraft_0 (94, .getfield 32, 3) (gx_m 57 rfl)) ?_
      refine gx_iload (pc := 97) (i := 4) 1 rfl (htX16_fromDraft_0 (97, .iload 4, 2) (gx_m 58 rfl)) ?_
      refine gx_Jia (pc := 99) (htX16_fromDraft_0 (99, .iaload, 1) (gx_m 59 rfl)) (fun v7 => ?_)
      refine gx_Jis (pc := 100) (htX16_fromDraft_0 (100, .iastore, 1) (gx_m 60 rfl)) ?_
      refine gx_aload_n (pc := 101) (n := 0) (i := 0) rfl 2 rfl (htX16_fromDraft_0 (101, .aload_n 0, 1) (gx_m 61 rfl)) ?_
      refine gx_Jgs (pc := 102) (ci := 16) (kk := 13) (t2 := 100) (by decide) (by decide) rfl rfl rfl q1687 (htX16_fromDraft_0 (102, .getfield 35, 3) (gx_m 62 rfl)) ?_
      refine gx_iload (pc := 105) (i := 5) 0 rfl (htX16_fromDraft_0 (105, .iload 5, 2) (gx_m 63 rfl)) ?_
      refine gx_aload_n (pc := 107) (n := 0) (i := 0) rfl 2 rfl (htX16_fromDraft_0 (107, .aload_n 0, 1) (gx_m 64 rfl)) ?_
      refine gx_Jgs (pc := 108) (ci := 16) (kk := 13) (t2 := 100) (by decide) (by decide) rfl rfl rfl q1687 (htX16_fromDraft_0 (108, .getfield 35, 3) (gx_m 65 rfl)) ?_
      refine gx_iload (pc := 111) (i := 4) 1 rfl (htX16_fromDraft_0 (111, .iload 4, 2) (gx_m 66 rfl)) ?_
      refine gx_Jia (pc := 113) (htX16_fromDraft_0 (113, .iaload, 1) (gx_m 67 rfl)) (fun v8 => ?_)
      refine gx_Jis (pc := 114) (htX16_fromDraft_0 (114, .iastore, 1) (gx_m 68 rfl)) ?_
      refine gx_aload_n (pc := 115) (n := 0) (i := 0) rfl 2 rfl (htX16_fromDraft_0 (115, .aload_n 0, 1) (gx_m 69 rfl)) ?_
      refine gx_Jgs (pc := 116) (ci := 16) (kk := 14) (t2 := 100) (by decide) (by decide) rfl rfl rfl q1688 (htX16_fromDraft_0 (116, .getfield 38, 3) (gx_m 70 rfl)) ?_
      refine gx_iload (pc := 119) (i := 5) 0 rfl (htX16_fromDraft_0 (119, .iload 5, 2) (gx_m 71 rfl)) ?_
      refine gx_aload_n (pc := 121) (n := 0) (i := 0) rfl 2 rfl (htX16_fromDraft_0 (121, .aload_n 0, 1) (gx_m 72 rfl)) ?_
      refine gx_Jgs (pc := 122) (ci := 16) (kk := 14) (t2 := 100) (by decide) (by decide) rfl rfl rfl q1688 (htX16_fromDraft_0 (122, .getfield 38, 3) (gx_m 73 rfl)) ?_
      refine gx_iload (pc := 125) (i := 4) 1 rfl (htX16_fromDraft_0 (125, .iload 4, 2) (gx_m 74 rfl)) ?_
      refine gx_Jia (pc := 127) (htX16_fromDraft_0 (127, .iaload, 1) (gx_m 75 rfl)) (fun v9 => ?_)
      refine gx_Jis (pc := 128) (htX16_fromDraft_0 (128, .iastore, 1) (gx_m 76 rfl)) ?_
      refine gx_aload_n (pc := 129) (n := 0) (i := 0) rfl 2 rfl (htX16_fromDraft_0 (129, .aload_n 0, 1) (gx_m 77 rfl)) ?_
      refine gx_Jgs (pc := 130) (ci := 16) (kk := 16) (t2 := 100) (by decide) (by decide) rfl rfl rfl q1690 (htX16_fromDraft_0 (130, .getfield 44, 3) (gx_m 78 rfl)) ?_
      refine gx_iload (pc := 133) (i := 5) 0 rfl (htX16_fromDraft_0 (133, .iload 5, 2) (gx_m 79 rfl)) ?_
      refine gx_aload_n (pc := 135) (n := 0) (i := 0) rfl 2 rfl (htX16_fromDraft_0 (135, .aload_n 0, 1) (gx_m 80 rfl)) ?_
      refine gx_Jgs (pc := 136) (ci := 16) (kk := 16) (t2 := 100) (by decide) (by decide) rfl rfl rfl q1690 (htX16_fromDraft_0 (136, .getfield 44, 3) (gx_m 81 rfl)) ?_
      refine gx_iload (pc := 139) (i := 4) 1 rfl (htX16_fromDraft_0 (139, .iload 4, 2) (gx_m 82 rfl)) ?_
      refine gx_Jia (pc := 141) (htX16_fromDraft_0 (141, .iaload, 1) (gx_m 83 rfl)) (fun v10 => ?_)
      refine gx_Jis (pc := 142) (htX16_fromDraft_0 (142, .iastore, 1) (gx_m 84 rfl)) ?_
      refine gx_aload_n (pc := 143) (n := 0) (i := 0) rfl 2 rfl (htX16_fromDraft_0 (143, .aload_n 0, 1) (gx_m 85 rfl)) ?_
      refine gx_Jgs (pc := 144) (ci := 16) (kk := 18) (t2 := 100) (by decide) (by decide) rfl rfl rfl q1692 (htX16_fromDraft_0 (144, .getfield 50, 3) (gx_m 86 rfl)) ?_
      refine gx_iload (pc := 147) (i := 5) 0 rfl (htX16_fromDraft_0 (147, .iload 5, 2) (gx_m 87 rfl)) ?_
      refine gx_aload_n (pc := 149) (n := 0) (i := 0) rfl 2 rfl (htX16_fromDraft_0 (149, .aload_n 0, 1) (gx_m 88 rfl)) ?_
      refine gx_Jgs (pc := 150) (ci := 16) (kk := 18) (t2 := 100) (by decide) (by decide) rfl rfl rfl q1692 (htX16_fromDraft_0 (150, .getfield 50, 3) (gx_m 89 rfl)) ?_
      refine gx_iload (pc := 153) (i := 4) 1 rfl (htX16_fromDraft_0 (153, .iload 4, 2) (gx_m 90 rfl)) ?_
      refine gx_Jia (pc := 155) (htX16_fromDraft_0 (155, .iaload, 1) (gx_m 91 rfl)) (fun v11 => ?_)
      refine gx_Jis (pc := 156) (htX16_fromDraft_0 (156, .iastore, 1) (gx_m 92 rfl)) ?_
      refine gx_aload_n (pc := 157) (n := 0) (i := 0) rfl 2 rfl (htX16_fromDraft_0 (157, .aload_n 0, 1) (gx_m 93 rfl)) ?_
      refine gx_Jgs (pc := 158) (ci := 16) (kk := 15) (t2 := 100) (by decide) (by decide) rfl rfl rfl q1689 (htX16_fromDraft_0 (158, .getfield 41, 3) (gx_m 94 rfl)) ?_
      refine gx_iload (pc := 161) (i := 5) 0 rfl (htX16_fromDraft_0 (161, .iload 5, 2) (gx_m 95 rfl)) ?_
      refine gx_aload_n (pc := 163) (n := 0) (i := 0) rfl 2 rfl (htX16_fromDraft_0 (163, .aload_n 0, 1) (gx_m 96 rfl)) ?_
      refine gx_Jgi (pc := 164) (ci := 16) (kk := 21) (by decide) (Or.inl rfl) (by decide) (by decide) q1695 (htX16_fromDraft_0 (164, .getfield 321, 3) (gx_m 97 rfl)) (fun v12 hv12 => ?_)
      refine gx_aload_n (pc := 167) (n := 0) (i := 0) rfl 2 rfl (htX16_fromDraft_0 (167, .aload_n 0, 1) (gx_m 98 rfl)) ?_
      refine gx_Jgs (pc := 168) (ci := 16) (kk := 15) (t2 := 100) (by decide) (by decide) rfl rfl rfl q1689 (htX16_fromDraft_0 (168, .getfield 41, 3) (gx_m 99 rfl)) ?_
      refine gx_iload (pc := 171) (i := 4) 1 rfl (htX16_fromDraft_1 (171, .iload 4, 2) (gx_m 0 rfl)) ?_
      refine gx_Jia (pc := 173) (htX16_fromDraft_1 (173, .iaload, 1) (gx_m 1 rfl)) (fun v13 => ?_)
      refine gx_iadd (pc := 174) (htX16_fromDraft_1 (174, .iadd, 1) (gx_m 2 rfl)) ?_
      refine gx_Jis (pc := 175) (htX16_fromDraft_1 (175, .iastore, 1) (gx_m 3 rfl)) ?_
      refine gx_aload_n (pc := 176) (n := 0) (i := 0) rfl 2 rfl (htX16_fromDraft_1 (176, .aload_n 0, 1) (gx_m 4 rfl)) ?_
      refine gx_Jgs (pc := 177) (ci := 16) (kk := 17) (t2 := 100) (by decide) (by decide) rfl rfl rfl q1691 (htX16_fromDraft_1 (177, .getfield 47, 3) (gx_m 5 rfl)) ?_
      refine gx_iload (pc := 180) (i := 5) 0 rfl (htX16_fromDraft_1 (180, .iload 5, 2) (gx_m 6 rfl)) ?_
      refine gx_aload_n (pc := 182) (n := 0) (i := 0) rfl 2 rfl (htX16_fromDraft_1 (182, .aload_n 0, 1) (gx_m 7 rfl)) ?_
      refine gx_Jgi (pc := 183) (ci := 16) (kk := 21) (by decide) (Or.inl rfl) (by decide) (by decide) q1695 (htX16_fromDraft_1 (183, .getfield 321, 3) (gx_m 8 rfl)) (fun v14 hv14 => ?_)
      refine gx_aload_n (pc := 186) (n := 0) (i := 0) rfl 2 rfl (htX16_fromDraft_1 (186, .aload_n 0, 1) (gx_m 9 rfl)) ?_
      refine gx_Jgs (pc := 187) (ci := 16) (kk := 17) (t2 := 100) (by decide) (by decide) rfl rfl rfl q1691 (htX16_fromDraft_1 (187, .getfield 47, 3) (gx_m 10 rfl)) ?_
      refine gx_iload (pc := 190) (i := 4) 1 rfl (htX16_fromDraft_1 (190, .iload 4, 2) (gx_m 11 rfl)) ?_
      refine gx_Jia (pc := 192) (htX16_fromDraft_1 (192, .iaload, 1) (gx_m 12 rfl)) (fun v15 => ?_)
      refine gx_iadd (pc := 193) (htX16_fromDraft_1 (193, .iadd, 1) (gx_m 13 rfl)) ?_
      refine gx_Jis (pc := 194) (htX16_fromDraft_1 (194, .iastore, 1) (gx_m 14 rfl)) ?_
      refine gx_iinc (pc := 195) (i := 3) (j := 4) (v := (s6 + 1)) (lv' := [(3, gx_i (s6 + 1)), (5, gx_i ((16 * v1) + s6)), (4, gx_i (24016 + s6)), (0, gx_r 17 (some x0)), (2, gx_i v1)]) rfl (gx_iv (by decide)) (by decide) rfl (htX16_fromDraft_1 (195, .iinc 3 1, 3) (gx_m 15 rfl)) ?_
      refine gx_goto (pc := 198) (tgt := 66) (by decide) (htX16_fromDraft_1 (198, .goto (-132), 3) (gx_m 16 rfl)) ?_
      refine gx_Jw (lv := [(0, gx_r 17 (some x0)), (2, gx_i v1), (3, gx_i (s6 + 1))]) [3, 4, 0] rfl ?_
      exact ha1 ((s6 + 1) : Int32)
theorem ct_X16_record (Y : gx_Y) (x0 : gx_Nm) (x1 : Int32) (x2 : Int32) (x3 : Int32) (x4 : Int32) (x5 : Int32) : gx_Ct Y yX16_record (ws_ yX16_record cX16_record 6 none) 1 100 [gx_r 17 (some x0), gx_i x1, gx_i x2, gx_i x3, gx_i x4, gx_i x5] gx_Ov (f_X16_record x0 x1 x2 x3 x4 x5) := by
  refine gx_start (lv := [(0, gx_r 17 (some x0)), (1, gx_i x1), (2, gx_i x2), (3, gx_i x3), (4, gx_i x4), (5, gx_i x5)]) gx_Ov_r pn_X16 (Nat.le_of_ble_eq_true rfl) rfl ?_
  unfold f_X16_record
  refine gx_aload_n (pc := 0) (n := 0) (i := 0) rfl 0 rfl (htX16_record (0, .aload_n 0, 1) (gx_m 0 rfl)) ?_
  refine gx_Jgs (pc := 1) (ci := 16) (kk := 57) (t2 := 100) (by decide) (by decide) rfl rfl rfl q1731 (htX16_record (1, .getfield 163, 3) (gx_m 1 rfl)) ?_
  refine gx_aload_n (pc := 4) (n := 0) (i := 0) rfl 0 rfl (htX16_record (4, .aload_n 0, 1) (gx_m 2 rfl)) ?_
  refine gx_Jgi (pc := 5) (ci := 16) (kk := 62) (by decide) (Or.inl rfl) (by decide) (by decide) q1736 (htX16_record (5, .getfield 324, 3) (gx_m 3 rfl)) (fun v1 hv1 => ?_)
  refine gx_iload_n (pc := 8) (n := 1) (i := 1) rfl 1 rfl (htX16_record (8, .iload_n 1, 1) (gx_m 4 rfl)) ?_
  refine gx_Jis (pc := 9) (htX16_record (9, .iastore, 1) (gx_m 5 rfl)) ?_
  refine gx_aload_n (pc := 10) (n := 0) (i := 0) rfl 0 rfl (htX16_record (10, .aload_n 0, 1) (gx_m 6 rfl)) ?_
  refine gx_Jgs (pc := 11) (ci := 16) (kk := 58) (t2 := 100) (by decide) (by decide) rfl rfl rfl q1732 (htX16_record (11, .getfield 166, 3) (gx_m 7 rfl)) ?_
  refine gx_aload_n (pc := 14) (n := 0) (i := 0) rfl 0 rfl (htX16_record (14, .aload_n 0, 1) (gx_m 8 rfl)) ?_
  refine gx_Jgi (pc := 15) (ci := 16) (kk := 62) (by decide) (Or.inl rfl) (by decide) (by decide) q1736 (htX16_record (15, .getfield 324, 3) (gx_m 9 rfl)) (fun v2 hv2 => ?_)
  refine gx_iload_n (pc := 18) (n := 2) (i := 2) rfl 2 rfl (htX16_record (18, .iload_n 2, 1) (gx_m 10 rfl)) ?_
  refine gx_Jis (pc := 19) (htX16_record (19, .iastore, 1) (gx_m 11 rfl)) ?_
  refine gx_aload_n (pc := 20) (n := 0) (i := 0) rfl 0 rfl (htX16_record (20, .aload_n 0, 1) (gx_m 12 rfl)) ?_
  refine gx_Jgs (pc := 21) (ci := 16) (kk := 59) (t2 := 100) (by decide) (by decide) rfl rfl rfl q1733 (htX16_record (21, .getfield 169, 3) (gx_m 13 rfl)) ?_
  refine gx_aload_n (pc := 24) (n := 0) (i := 0) rfl 0 rfl (htX16_record (24, .aload_n 0, 1) (gx_m 14 rfl)) ?_
  refine gx_Jgi (pc := 25) (ci := 16) (kk := 62) (by decide) (Or.inl rfl) (by decide) (by decide) q1736 (htX16_record (25, .getfield 324, 3) (gx_m 15 rfl)) (fun v3 hv3 => ?_)
  refine gx_iload_n (pc := 28) (n := 3) (i := 3) rfl 3 rfl (htX16_record (28, .iload_n 3, 1) (gx_m 16 rfl)) ?_
  refine gx_Jis (pc := 29) (htX16_record (29, .iastore, 1) (gx_m 17 rfl)) ?_
  refine gx_aload_n (pc := 30) (n := 0) (i := 0) rfl 0 rfl (htX16_record (30, .aload_n 0, 1) (gx_m 18 rfl)) ?_
  refine gx_Jgs (pc := 31) (ci := 16) (kk := 60) (t2 := 100) (by decide) (by decide) rfl rfl rfl q1734 (htX16_record (31, .getfield 172, 3) (gx_m 19 rfl)) ?_
  refine gx_aload_n (pc := 34) (n := 0) (i := 0) rfl 0 rfl (htX16_record (34, .aload_n 0, 1) (gx_m 20 rfl)) ?_
  refine gx_Jgi (pc := 35) (ci := 16) (kk := 62) (by decide) (Or.inl rfl) (by decide) (by decide) q1736 (htX16_record (35, .getfield 324, 3) (gx_m 21 rfl)) (fun v4 hv4 => ?_)
  refine gx_iload (pc := 38) (i := 4) 4 rfl (htX16_record (38, .iload 4, 2) (gx_m 22 rfl)) ?_
  refine gx_Jis (pc := 40) (htX16_record (40, .iastore, 1) (gx_m 23 rfl)) ?_
  refine gx_aload_n (pc := 41) (n := 0) (i := 0) rfl 0 rfl (htX16_record (41, .aload_n 0, 1) (gx_m 24 rfl)) ?_
  refine gx_Jgs (pc := 42) (ci := 16) (kk := 61) (t2 := 100) (by decide) (by decide) rfl rfl rfl q1735 (htX16_record (42, .getfield 175, 3) (gx_m 25 rfl)) ?_
  refine gx_aload_n (pc := 45) (n := 0) (i := 0) rfl 0 rfl (htX16_record (45, .aload_n 0, 1) (gx_m 26 rfl)) ?_
  refine gx_Jgi (pc := 46) (ci := 16) (kk := 62) (by decide) (Or.inl rfl) (by decide) (by decide) q1736 (htX16_record (46, .getfield 324, 3) (gx_m 27 rfl)) (fun v5 hv5 => ?_)
  refine gx_iload (pc := 49) (i := 5) 5 rfl (htX16_record (49, .iload 5, 2) (gx_m 28 rfl)) ?_
  refine gx_Jis (pc := 51) (htX16_record (51, .iastore, 1) (gx_m 29 rfl)) ?_
  refine gx_aload_n (pc := 52) (n := 0) (i := 0) rfl 0 rfl (htX16_record (52, .aload_n 0, 1) (gx_m 30 rfl)) ?_
  refine gx_dup (pc := 53) rfl (htX16_record (53, .dup, 1) (gx_m 31 rfl)) ?_
  refine gx_Jgi (pc := 54) (ci := 16) (kk := 62) (by decide) (Or.inl rfl) (by decide) (by decide) q1736 (htX16_record (54, .getfield 324, 3) (gx_m 32 rfl)) (fun v6 hv6 => ?_)
  refine gx_iconst (pc := 57) (v := 1) (by decide) (htX16_record (57, .iconst 1, 1) (gx_m 33 rfl)) ?_
  refine gx_iadd (pc := 58) (htX16_record (58, .iadd, 1) (gx_m 34 rfl)) ?_
  refine gx_Jpi (pc := 59) (ci := 16) (kk := 62) (by decide) (Or.inl rfl) (by decide) rfl rfl q1736 (Or.inl rfl) (htX16_record (59, .putfield 324, 3) (gx_m 35 rfl)) ?_
  refine gx_aload_n (pc := 62) (n := 0) (i := 0) rfl 0 rfl (htX16_record (62, .aload_n 0, 1) (gx_m 36 rfl)) ?_
  refine gx_Jgs (pc := 63) (ci := 16) (kk := 63) (t2 := 100) (by decide) (by decide) rfl rfl rfl q1737 (htX16_record (63, .getfield 178, 3) (gx_m 37 rfl)) ?_
  refine gx_iload_n (pc := 66) (n := 1) (i := 1) rfl 1 rfl (htX16_record (66, .iload_n 1, 1) (gx_m 38 rfl)) ?_
  refine gx_dup2 (pc := 67) rfl rfl (htX16_record (67, .dup2, 1) (gx_m 39 rfl)) ?_
  refine gx_Jia (pc := 68) (htX16_record (68, .iaload, 1) (gx_m 40 rfl)) (fun v7 => ?_)
  refine gx_iconst (pc := 69) (v := 1) (by decide) (htX16_record (69, .iconst 1, 1) (gx_m 41 rfl)) ?_
  refine gx_iadd (pc := 70) (htX16_record (70, .iadd, 1) (gx_m 42 rfl)) ?_
  refine gx_Jis (pc := 71) (htX16_record (71, .iastore, 1) (gx_m 43 rfl)) ?_
  exact gx_Jvret (pc := 72) rfl (fun _ => trivial) (fun _ _ => rfl) (htX16_record (72, .return_, 1) (gx_m 44 rfl))
theorem ct_X16_add (Y : gx_Y) (x0 : gx_Nm) (x1 : Int32) (x2 : Int32) (x3 : Int32) : gx_Ct Y yX16_add (ws_ yX16_add cX16_add 4 none) 2 125 [gx_r 17 (some x0), gx_i x1, gx_i x2, gx_i x3] gx_Ov (f_X16_add x0 x1 x2 x3) := by
  refine gx_start (lv := [(0, gx_r 17 (some x0)), (1, gx_i x1), (2, gx_i x2), (3, gx_i x3)]) gx_Ov_r pn_X16 (Nat.le_of_ble_eq_true rfl) rfl ?_
  unfold f_X16_add
  refine gx_aload_n (pc := 0) (n := 0) (i := 0) rfl 0 rfl (htX16_add (0, .aload_n 0, 1) (gx_m 0 rfl)) ?_
  refine gx_Jgs (pc := 1) (ci := 16) (kk := 37) (t2 := 105) (by decide) (by decide) rfl rfl rfl q1711 (htX16_add (1, .getfield 100, 3) (gx_m 1 rfl)) ?_
  refine gx_iload_n (pc := 4) (n := 1) (i := 1) rfl 1 rfl (htX16_add (4, .iload_n 1, 1) (gx_m 2 rfl)) ?_
  refine gx_Jra (pc := 5) (t := 5) (t2 := 100) (by decide) (by decide) rfl (htX16_add (5, .aaload, 1) (gx_m 3 rfl)) (fun v1 => ?_)
  refine gx_iload_n (pc := 6) (n := 2) (i := 2) rfl 2 rfl (htX16_add (6, .iload_n 2, 1) (gx_m 4 rfl)) ?_
  refine gx_iload_n (pc := 7) (n := 3) (i := 3) rfl 3 rfl (htX16_add (7, .iload_n 3, 1) (gx_m 5 rfl)) ?_
  refine gx_Jis (pc := 8) (htX16_add (8, .iastore, 1) (gx_m 6 rfl)) ?_
  refine gx_aload_n (pc := 9) (n := 0) (i := 0) rfl 0 rfl (htX16_add (9, .aload_n 0, 1) (gx_m 7 rfl)) ?_
  refine gx_Jgs (pc := 10) (ci := 16) (kk := 36) (t2 := 100) (by decide) (by decide) rfl rfl rfl q1710 (htX16_add (10, .getfield 95, 3) (gx_m 8 rfl)) ?_
  refine gx_iload_n (pc := 13) (n := 1) (i := 1) rfl 1 rfl (htX16_add (13, .iload_n 1, 1) (gx_m 9 rfl)) ?_
  refine gx_iload_n (pc := 14) (n := 2) (i := 2) rfl 2 rfl (htX16_add (14, .iload_n 2, 1) (gx_m 10 rfl)) ?_
  refine gx_Jis (pc := 15) (htX16_add (15, .iastore, 1) (gx_m 11 rfl)) ?_
  refine gx_aload_n (pc := 16) (n := 0) (i := 0) rfl 0 rfl (htX16_add (16, .aload_n 0, 1) (gx_m 12 rfl)) ?_
  refine gx_iload_n (pc := 17) (n := 1) (i := 1) rfl 1 rfl (htX16_add (17, .iload_n 1, 1) (gx_m 13 rfl)) ?_
  refine gx_iconst (pc := 18) (v := 1) (by decide) (htX16_add (18, .iconst 1, 1) (gx_m 14 rfl)) ?_
  refine gx_iload_n (pc := 19) (n := 2) (i := 2) rfl 2 rfl (htX16_add (19, .iload_n 2, 1) (gx_m 15 rfl)) ?_
  refine gx_iload_n (pc := 20) (n := 3) (i := 3) rfl 3 rfl (htX16_add (20, .iload_n 3, 1) (gx_m 16 rfl)) ?_
  refine gx_iconst (pc := 21) (v := 0) (by decide) (htX16_add (21, .iconst 0, 1) (gx_m 17 rfl)) ?_
  refine gx_Jcv (pc := 22) (gx_hst (as := [gx_i x1, gx_i 1, gx_i x2, gx_i x3, gx_i 0]) (b := gx_r 17 (some x0))) (gx_runV (as := [gx_i x1, gx_i 1, gx_i x2, gx_i x3, gx_i 0]) (ci := 16) (ct_X16_record Y x0 x1 1 x2 x3 0) (by decide) (Or.inl rfl) rfl rfl rfl rfl q2126 q2128 qs54 q117 q2129 rfl dd_X16_record (by decide) (by decide) (Nat.le_of_ble_eq_true rfl) (htX16_add (22, .invokevirtual 458, 3) (gx_m 18 rfl))) ?_
  exact gx_Jvret (pc := 25) rfl (fun _ => trivial) (fun _ _ => rfl) (htX16_add (25, .return_, 1) (gx_m 19 rfl))
theorem ct_X16_message (Y : gx_Y) (x0 : gx_Nm) (x1 : Int32) (x2 : Int32) (x3 : Int32) : gx_Ct Y yX16_message (ws_ yX16_message cX16_message 5 (some .int)) 1 100 [gx_r 17 (some x0), gx_i x1, gx_i x2, gx_i x3] gx_Oi (f_X16_message x0 x1 x2 x3) := by
  refine gx_start (lv := [(0, gx_r 17 (some x0)), (1, gx_i x1), (2, gx_i x2), (3, gx_i x3)]) gx_Oi_r pn_X16 (Nat.le_of_ble_eq_true rfl) rfl ?_
  unfold f_X16_message
  refine gx_aload_n (pc := 0) (n := 0) (i := 0) rfl 0 rfl (htX16_message (0, .aload_n 0, 1) (gx_m 0 rfl)) ?_
  refine gx_Jgi (pc := 1) (ci := 16) (kk := 75) (by decide) (Or.inl rfl) (by decide) (by decide) q1749 (htX16_message (1, .getfield 327, 3) (gx_m 1 rfl)) (fun v1 hv1 => ?_)
  refine gx_istore (pc := 4) (i := 4) (lv' := [(4, gx_i v1), (0, gx_r 17 (some x0)), (1, gx_i x1), (2, gx_i x2), (3, gx_i x3)]) (by decide) rfl (htX16_message (4, .istore 4, 2) (gx_m 2 rfl)) ?_
  refine gx_aload_n (pc := 6) (n := 0) (i := 0) rfl 1 rfl (htX16_message (6, .aload_n 0, 1) (gx_m 3 rfl)) ?_
  refine gx_dup (pc := 7) rfl (htX16_message (7, .dup, 1) (gx_m 4 rfl)) ?_
  refine gx_Jgi (pc := 8) (ci := 16) (kk := 75) (by decide) (Or.inl rfl) (by decide) (by decide) q1749 (htX16_message (8, .getfield 327, 3) (gx_m 5 rfl)) (fun v2 hv2 => ?_)
  refine gx_iconst (pc := 11) (v := 1) (by decide) (htX16_message (11, .iconst 1, 1) (gx_m 6 rfl)) ?_
  refine gx_iadd (pc := 12) (htX16_message (12, .iadd, 1) (gx_m 7 rfl)) ?_
  refine gx_Jpi (pc := 13) (ci := 16) (kk := 75) (by decide) (Or.inl rfl) (by decide) rfl rfl q1749 (Or.inl rfl) (htX16_message (13, .putfield 327, 3) (gx_m 8 rfl)) ?_
  refine gx_aload_n (pc := 16) (n := 0) (i := 0) rfl 1 rfl (htX16_message (16, .aload_n 0, 1) (gx_m 9 rfl)) ?_
  refine gx_Jgs (pc := 17) (ci := 16) (kk := 64) (t2 := 100) (by decide) (by decide) rfl rfl rfl q1738 (htX16_message (17, .getfield 181, 3) (gx_m 10 rfl)) ?_
  refine gx_iload (pc := 20) (i := 4) 0 rfl (htX16_message (20, .iload 4, 2) (gx_m 11 rfl)) ?_
  refine gx_iload_n (pc := 22) (n := 1) (i := 1) rfl 2 rfl (htX16_message (22, .iload_n 1, 1) (gx_m 12 rfl)) ?_
  refine gx_Jis (pc := 23) (htX16_message (23, .iastore, 1) (gx_m 13 rfl)) ?_
  refine gx_aload_n (pc := 24) (n := 0) (i := 0) rfl 1 rfl (htX16_message (24, .aload_n 0, 1) (gx_m 14 rfl)) ?_
  refine gx_Jgs (pc := 25) (ci := 16) (kk := 65) (t2 := 100) (by decide) (by decide) rfl rfl rfl q1739 (htX16_message (25, .getfield 184, 3) (gx_m 15 rfl)) ?_
  refine gx_iload (pc := 28) (i := 4) 0 rfl (htX16_message (28, .iload 4, 2) (gx_m 16 rfl)) ?_
  refine gx_iload_n (pc := 30) (n := 2) (i := 2) rfl 3 rfl (htX16_message (30, .iload_n 2, 1) (gx_m 17 rfl)) ?_
  refine gx_Jis (pc := 31) (htX16_message (31, .iastore, 1) (gx_m 18 rfl)) ?_
  refine gx_aload_n (pc := 32) (n := 0) (i := 0) rfl 1 rfl (htX16_message (32, .aload_n 0, 1) (gx_m 19 rfl)) ?_
  refine gx_Jgs (pc := 33) (ci := 16) (kk := 66) (t2 := 100) (by decide) (by decide) rfl rfl rfl q1740 (htX16_message (33, .getfield 187, 3) (gx_m 20 rfl)) ?_
  refine gx_iload (pc := 36) (i := 4) 0 rfl (htX16_message (36, .iload 4, 2) (gx_m 21 rfl)) ?_
  refine gx_iload_n (pc := 38) (n := 3) (i := 3) rfl 4 rfl (htX16_message (38, .iload_n 3, 1) (gx_m 22 rfl)) ?_
  refine gx_Jis (pc := 39) (htX16_message (39, .iastore, 1) (gx_m 23 rfl)) ?_
  refine gx_aload_n (pc := 40) (n := 0) (i := 0) rfl 1 rfl (htX16_message (40, .aload_n 0, 1) (gx_m 24 rfl)) ?_
  refine gx_Jgs (pc := 41) (ci := 16) (kk := 67) (t2 := 100) (by decide) (by decide) rfl rfl rfl q1741 (htX16_message (41, .getfield 190, 3) (gx_m 25 rfl)) ?_
  refine gx_iload (pc := 44) (i := 4) 0 rfl (htX16_message (44, .iload 4, 2) (gx_m 26 rfl)) ?_
  refine gx_aload_n (pc := 46) (n := 0) (i := 0) rfl 1 rfl (htX16_message (46, .aload_n 0, 1) (gx_m 27 rfl)) ?_
  refine gx_Jgs (pc := 47) (ci := 16) (kk := 31) (t2 := 100) (by decide) (by decide) rfl rfl rfl q1705 (htX16_message (47, .getfield 80, 3) (gx_m 28 rfl)) ?_
  refine gx_iload_n (pc := 50) (n := 2) (i := 2) rfl 3 rfl (htX16_message (50, .iload_n 2, 1) (gx_m 29 rfl)) ?_
  refine gx_Jia (pc := 51) (htX16_message (51, .iaload, 1) (gx_m 30 rfl)) (fun v3 => ?_)
  refine gx_Jis (pc := 52) (htX16_message (52, .iastore, 1) (gx_m 31 rfl)) ?_
  refine gx_aload_n (pc := 53) (n := 0) (i := 0) rfl 1 rfl (htX16_message (53, .aload_n 0, 1) (gx_m 32 rfl)) ?_
  refine gx_Jgs (pc := 54) (ci := 16) (kk := 68) (t2 := 100) (by decide) (by decide) rfl rfl rfl q1742 (htX16_message (54, .getfield 193, 3) (gx_m 33 rfl)) ?_
  refine gx_iload (pc := 57) (i := 4) 0 rfl (htX16_message (57, .iload 4, 2) (gx_m 34 rfl)) ?_
  refine gx_iconst (pc := 59) (v := 0) (by decide) (htX16_message (59, .iconst 0, 1) (gx_m 35 rfl)) ?_
  refine gx_Jis (pc := 60) (htX16_message (60, .iastore, 1) (gx_m 36 rfl)) ?_
  refine gx_aload_n (pc := 61) (n := 0) (i := 0) rfl 1 rfl (htX16_message (61, .aload_n 0, 1) (gx_m 37 rfl)) ?_
  refine gx_Jgs (pc := 62) (ci := 16) (kk := 69) (t2 := 100) (by decide) (by decide) rfl rfl rfl q1743 (htX16_message (62, .getfield 196, 3) (gx_m 38 rfl)) ?_
  refine gx_iload (pc := 65) (i := 4) 0 rfl (htX16_message (65, .iload 4, 2) (gx_m 39 rfl)) ?_
  refine gx_iconst (pc := 67) (v := 0) (by decide) (htX16_message (67, .iconst 0, 1) (gx_m 40 rfl)) ?_
  refine gx_Jis (pc := 68) (htX16_message (68, .iastore, 1) (gx_m 41 rfl)) ?_
  refine gx_aload_n (pc := 69) (n := 0) (i := 0) rfl 1 rfl (htX16_message (69, .aload_n 0, 1) (gx_m 42 rfl)) ?_
  refine gx_Jgs (pc := 70) (ci := 16) (kk := 70) (t2 := 100) (by decide) (by decide) rfl rfl rfl q1744 (htX16_message (70, .getfield 199, 3) (gx_m 43 rfl)) ?_
  refine gx_iload (pc := 73) (i := 4) 0 rfl (htX16_message (73, .iload 4, 2) (gx_m 44 rfl)) ?_
  refine gx_iconst (pc := 75) (v := 0) (by decide) (htX16_message (75, .iconst 0, 1) (gx_m 45 rfl)) ?_
  refine gx_Jis (pc := 76) (htX16_message (76, .iastore, 1) (gx_m 46 rfl)) ?_
  refine gx_aload_n (pc := 77) (n := 0) (i := 0) rfl 1 rfl (htX16_message (77, .aload_n 0, 1) (gx_m 47 rfl)) ?_
  refine gx_Jgs (pc := 78) (ci := 16) (kk := 71) (t2 := 100) (by decide) (by decide) rfl rfl rfl q1745 (htX16_message (78, .getfield 202, 3) (gx_m 48 rfl)) ?_
  refine gx_iload (pc := 81) (i := 4) 0 rfl (htX16_message (81, .iload 4, 2) (gx_m 49 rfl)) ?_
  refine gx_iconst (pc := 83) (v := 0) (by decide) (htX16_message (83, .iconst 0, 1) (gx_m 50 rfl)) ?_
  refine gx_Jis (pc := 84) (htX16_message (84, .iastore, 1) (gx_m 51 rfl)) ?_
  refine gx_aload_n (pc := 85) (n := 0) (i := 0) rfl 1 rfl (htX16_message (85, .aload_n 0, 1) (gx_m 52 rfl)) ?_
  refine gx_Jgs (pc := 86) (ci := 16) (kk := 72) (t2 := 100) (by decide) (by decide) rfl rfl rfl q1746 (htX16_message (86, .getfield 205, 3) (gx_m 53 rfl)) ?_
  refine gx_iload (pc := 89) (i := 4) 0 rfl (htX16_message (89, .iload 4, 2) (gx_m 54 rfl)) ?_
  refine gx_iconst (pc := 91) (v := 0) (by decide) (htX16_message (91, .iconst 0, 1) (gx_m 55 rfl)) ?_
  refine gx_Jis (pc := 92) (htX16_message (92, .iastore, 1) (gx_m 56 rfl)) ?_
  refine gx_iload (pc := 93) (i := 4) 0 rfl (htX16_message (93, .iload 4, 2) (gx_m 57 rfl)) ?_
  exact gx_Jiret (pc := 95) rfl (fun _ => trivial) (fun _ _ => rfl) (htX16_message (95, .ireturn, 1) (gx_m 58 rfl))
theorem ct_X16_toNet (Y : gx_Y) (x0 : gx_Nm) (x1 : Int32) : gx_Ct Y yX16_toNet (ws_ yX16_toNet cX16_toNet 2 (some .boolean)) 1 100 [gx_r 17 (some x0), gx_i x1] gx_Oz (f_X16_toNet x0 x1) := by
  refine gx_start (lv := [(0, gx_r 17 (some x0)), (1, gx_i x1)]) gx_Oz_r pn_X16 (Nat.le_of_ble_eq_true rfl) rfl ?_
  unfold f_X16_toNet
  refine gx_aload_n (pc := 0) (n := 0) (i := 0) rfl 0 rfl (htX16_toNet (0, .aload_n 0, 1) (gx_m 0 rfl)) ?_
  refine gx_Jgi (pc := 1) (ci := 16) (kk := 78) (by decide) (Or.inl rfl) (by decide) (by decide) q1752 (htX16_toNet (1, .getfield 333, 3) (gx_m 1 rfl)) (fun v1 hv1 => ?_)
  refine gx_sipush (pc := 4) (v := 200) (by decide) (htX16_toNet (4, .sipush 200, 3) (gx_m 2 rfl)) ?_
  refine gx_icmp_ne (pc := 7) (tgt := 22) (by decide) (htX16_toNet (7, .if_icmp .ne 15, 3) (gx_m 3 rfl)) (fun c1 => ?_) (fun c1 => ?_)
  · refine gx_aload_n (pc := 10) (n := 0) (i := 0) rfl 0 rfl (htX16_toNet (10, .aload_n 0, 1) (gx_m 4 rfl)) ?_
    refine gx_dup (pc := 11) rfl (htX16_toNet (11, .dup, 1) (gx_m 5 rfl)) ?_
    refine gx_Jgi (pc := 12) (ci := 16) (kk := 76) (by decide) (Or.inl rfl) (by decide) (by decide) q1750 (htX16_toNet (12, .getfield 330, 3) (gx_m 6 rfl)) (fun v2 hv2 => ?_)
    refine gx_iconst (pc := 15) (v := 1) (by decide) (htX16_toNet (15, .iconst 1, 1) (gx_m 7 rfl)) ?_
    refine gx_iadd (pc := 16) (htX16_toNet (16, .iadd, 1) (gx_m 8 rfl)) ?_
    refine gx_Jpi (pc := 17) (ci := 16) (kk := 76) (by decide) (Or.inl rfl) (by decide) rfl rfl q1750 (Or.inl rfl) (htX16_toNet (17, .putfield 330, 3) (gx_m 9 rfl)) ?_
    refine gx_iconst (pc := 20) (v := 0) (by decide) (htX16_toNet (20, .iconst 0, 1) (gx_m 10 rfl)) ?_
    exact gx_Jzret (pc := 21) rfl gx_b0 (fun _ => gx_b0) (fun _ _ => rfl) (htX16_toNet (21, .ireturn, 1) (gx_m 11 rfl))
  · refine gx_aload_n (pc := 22) (n := 0) (i := 0) rfl 0 rfl (htX16_toNet (22, .aload_n 0, 1) (gx_m 12 rfl)) ?_
    refine gx_Jgs (pc := 23) (ci := 16) (kk := 77) (t2 := 100) (by decide) (by decide) rfl rfl rfl q1751 (htX16_toNet (23, .getfield 215, 3) (gx_m 13 rfl)) ?_
    refine gx_aload_n (pc := 26) (n := 0) (i := 0) rfl 0 rfl (htX16_toNet (26, .aload_n 0, 1) (gx_m 14 rfl)) ?_
    refine gx_Jgi (pc := 27) (ci := 16) (kk := 78) (by decide) (Or.inl rfl) (by decide) (by decide) q1752 (htX16_toNet (27, .getfield 333, 3) (gx_m 15 rfl)) (fun v3 hv3 => ?_)
    refine gx_iload_n (pc := 30) (n := 1) (i := 1) rfl 1 rfl (htX16_toNet (30, .iload_n 1, 1) (gx_m 16 rfl)) ?_
    refine gx_Jis (pc := 31) (htX16_toNet (31, .iastore, 1) (gx_m 17 rfl)) ?_
    refine gx_aload_n (pc := 32) (n := 0) (i := 0) rfl 0 rfl (htX16_toNet (32, .aload_n 0, 1) (gx_m 18 rfl)) ?_
    refine gx_dup (pc := 33) rfl (htX16_toNet (33, .dup, 1) (gx_m 19 rfl)) ?_
    refine gx_Jgi (pc := 34) (ci := 16) (kk := 78) (by decide) (Or.inl rfl) (by decide) (by decide) q1752 (htX16_toNet (34, .getfield 333, 3) (gx_m 20 rfl)) (fun v4 hv4 => ?_)
    refine gx_iconst (pc := 37) (v := 1) (by decide) (htX16_toNet (37, .iconst 1, 1) (gx_m 21 rfl)) ?_
    refine gx_iadd (pc := 38) (htX16_toNet (38, .iadd, 1) (gx_m 22 rfl)) ?_
    refine gx_Jpi (pc := 39) (ci := 16) (kk := 78) (by decide) (Or.inl rfl) (by decide) rfl rfl q1752 (Or.inl rfl) (htX16_toNet (39, .putfield 333, 3) (gx_m 23 rfl)) ?_
    refine gx_iconst (pc := 42) (v := 1) (by decide) (htX16_toNet (42, .iconst 1, 1) (gx_m 24 rfl)) ?_
    exact gx_Jzret (pc := 43) rfl gx_b1 (fun _ => gx_b1) (fun _ _ => rfl) (htX16_toNet (43, .ireturn, 1) (gx_m 25 rfl))
theorem ct_X16_send (Y : gx_Y) (x0 : gx_Nm) (x1 : Int32) : gx_Ct Y yX16_send (ws_ yX16_send cX16_send 4 none) 2 121 [gx_r 17 (some x0), gx_i x1] gx_Ov (f_X16_send x0 x1) := by
  refine gx_start (lv := [(0, gx_r 17 (some x0)), (1, gx_i x1)]) gx_Ov_r pn_X16 (Nat.le_of_ble_eq_true rfl) rfl ?_
  unfold f_X16_send
  refine gx_aload_n (pc := 0) (n := 0) (i := 0) rfl 0 rfl (htX16_send (0, .aload_n 0, 1) (gx_m 0 rfl)) ?_
  refine gx_Jgs (pc := 1) (ci := 16) (kk := 65) (t2 := 100) (by decide) (by decide) rfl rfl rfl q1739 (htX16_send (1, .getfield 184, 3) (gx_m 1 rfl)) ?_
  refine gx_iload_n (pc := 4) (n := 1) (i := 1) rfl 1 rfl (htX16_send (4, .iload_n 1, 1) (gx_m 2 rfl)) ?_
  refine gx_Jia (pc := 5) (htX16_send (5, .iaload, 1) (gx_m 3 rfl)) (fun v1 => ?_)
  refine gx_istore_n (pc := 6) (n := 2) (i := 2) (lv' := [(2, gx_i v1), (0, gx_r 17 (some x0)), (1, gx_i x1)]) rfl (by decide) rfl (htX16_send (6, .istore_n 2, 1) (gx_m 4 rfl)) ?_
  refine gx_aload_n (pc := 7) (n := 0) (i := 0) rfl 1 rfl (htX16_send (7, .aload_n 0, 1) (gx_m 5 rfl)) ?_
  refine gx_Jgs (pc := 8) (ci := 16) (kk := 63) (t2 := 100) (by decide) (by decide) rfl rfl rfl q1737 (htX16_send (8, .getfield 178, 3) (gx_m 6 rfl)) ?_
  refine gx_iload_n (pc := 11) (n := 2) (i := 2) rfl 0 rfl (htX16_send (11, .iload_n 2, 1) (gx_m 7 rfl)) ?_
  refine gx_Jia (pc := 12) (htX16_send (12, .iaload, 1) (gx_m 8 rfl)) (fun v2 => ?_)
  refine gx_Jjoin (pcJ := 55) (lvJ := fun (j_1 : Unit) => []) (stJ := fun (j_1 : Unit) => []) (fun _ => True) (fun j_1 hj_1 => ?_) (fun kk1 hj1 => ?_)
  · exact gx_Jvret (pc := 55) rfl (fun _ => trivial) (fun _ _ => rfl) (htX16_send (55, .return_, 1) (gx_m 33 rfl))
  · refine gx_if_le (pc := 13) (y := 0) (tgt := 49) (by decide) (htX16_send (13, .ifCond .le 36, 3) (gx_m 9 rfl)) (fun c2 => ?_) (fun c2 => ?_)
    · refine gx_aload_n (pc := 49) (n := 0) (i := 0) rfl 1 rfl (htX16_send (49, .aload_n 0, 1) (gx_m 29 rfl)) ?_
      refine gx_iload_n (pc := 50) (n := 1) (i := 1) rfl 2 rfl (htX16_send (50, .iload_n 1, 1) (gx_m 30 rfl)) ?_
      refine gx_Jcz (pc := 51) (gx_hst (as := [gx_i x1]) (b := gx_r 17 (some x0))) (gx_runV (as := [gx_i x1]) (ci := 16) (ct_X16_toNet Y x0 x1) (by decide) (Or.inl rfl) rfl rfl rfl rfl q2146 q2148 qs59 q117 q2149 rfl dd_X16_toNet (by decide) (by decide) (Nat.le_of_ble_eq_true rfl) (htX16_send (51, .invokevirtual 468, 3) (gx_m 31 rfl))) (fun v3 hv3 => ?_)
      refine gx_istore_n (pc := 54) (n := 3) (i := 3) (lv' := [(3, gx_i v3), (2, gx_i v1), (0, gx_r 17 (some x0)), (1, gx_i x1)]) rfl (by decide) rfl (htX16_send (54, .istore_n 3, 1) (gx_m 32 rfl)) ?_
      refine gx_Jw (lv := []) [] rfl ?_
      exact hj1 () trivial
    · refine gx_aload_n (pc := 16) (n := 0) (i := 0) rfl 1 rfl (htX16_send (16, .aload_n 0, 1) (gx_m 10 rfl)) ?_
      refine gx_Jgs (pc := 17) (ci := 16) (kk := 79) (t2 := 100) (by decide) (by decide) rfl rfl rfl q1753 (htX16_send (17, .getfield 218, 3) (gx_m 11 rfl)) ?_
      refine gx_aload_n (pc := 20) (n := 0) (i := 0) rfl 1 rfl (htX16_send (20, .aload_n 0, 1) (gx_m 12 rfl)) ?_
      refine gx_Jgi (pc := 21) (ci := 16) (kk := 81) (by decide) (Or.inl rfl) (by decide) (by decide) q1755 (htX16_send (21, .getfield 336, 3) (gx_m 13 rfl)) (fun v4 hv4 => ?_)
      refine gx_iload_n (pc := 24) (n := 1) (i := 1) rfl 2 rfl (htX16_send (24, .iload_n 1, 1) (gx_m 14 rfl)) ?_
      refine gx_Jis (pc := 25) (htX16_send (25, .iastore, 1) (gx_m 15 rfl)) ?_
      refine gx_aload_n (pc := 26) (n := 0) (i := 0) rfl 1 rfl (htX16_send (26, .aload_n 0, 1) (gx_m 16 rfl)) ?_
      refine gx_Jgs (pc := 27) (ci := 16) (kk := 80) (t2 := 100) (by decide) (by decide) rfl rfl rfl q1754 (htX16_send (27, .getfield 221, 3) (gx_m 17 rfl)) ?_
      refine gx_aload_n (pc := 30) (n := 0) (i := 0) rfl 1 rfl (htX16_send (30, .aload_n 0, 1) (gx_m 18 rfl)) ?_
      refine gx_Jgi (pc := 31) (ci := 16) (kk := 81) (by decide) (Or.inl rfl) (by decide) (by decide) q1755 (htX16_send (31, .getfield 336, 3) (gx_m 19 rfl)) (fun v5 hv5 => ?_)
      refine gx_iload_n (pc := 34) (n := 2) (i := 2) rfl 0 rfl (htX16_send (34, .iload_n 2, 1) (gx_m 20 rfl)) ?_
      refine gx_Jis (pc := 35) (htX16_send (35, .iastore, 1) (gx_m 21 rfl)) ?_
      refine gx_aload_n (pc := 36) (n := 0) (i := 0) rfl 1 rfl (htX16_send (36, .aload_n 0, 1) (gx_m 22 rfl)) ?_
      refine gx_dup (pc := 37) rfl (htX16_send (37, .dup, 1) (gx_m 23 rfl)) ?_
      refine gx_Jgi (pc := 38) (ci := 16) (kk := 81) (by decide) (Or.inl rfl) (by decide) (by decide) q1755 (htX16_send (38, .getfield 336, 3) (gx_m 24 rfl)) (fun v6 hv6 => ?_)
      refine gx_iconst (pc := 41) (v := 1) (by decide) (htX16_send (41, .iconst 1, 1) (gx_m 25 rfl)) ?_
      refine gx_iadd (pc := 42) (htX16_send (42, .iadd, 1) (gx_m 26 rfl)) ?_
      refine gx_Jpi (pc := 43) (ci := 16) (kk := 81) (by decide) (Or.inl rfl) (by decide) rfl rfl q1755 (Or.inl rfl) (htX16_send (43, .putfield 336, 3) (gx_m 27 rfl)) ?_
      refine gx_goto (pc := 46) (tgt := 55) (by decide) (htX16_send (46, .goto 9, 3) (gx_m 28 rfl)) ?_
      refine gx_Jw (lv := []) [] rfl ?_
      exact hj1 () trivial
theorem ct_X16_termAt (Y : gx_Y) (x0 : gx_Nm) (x1 : Int32) (x2 : Int32) : gx_Ct Y yX16_termAt (ws_ yX16_termAt cX16_termAt 3 (some .int)) 1 100 [gx_r 17 (some x0), gx_i x1, gx_i x2] gx_Oi (f_X16_termAt x0 x1 x2) := by
  refine gx_start (lv := [(0, gx_r 17 (some x0)), (1, gx_i x1), (2, gx_i x2)]) gx_Oi_r pn_X16 (Nat.le_of_ble_eq_true rfl) rfl ?_
  unfold f_X16_termAt
  refine gx_iload_n (pc := 0) (n := 2) (i := 2) rfl 2 rfl (htX16_termAt (0, .iload_n 2, 1) (gx_m 0 rfl)) ?_
  refine gx_aload_n (pc := 1) (n := 0) (i := 0) rfl 0 rfl (htX16_termAt (1, .aload_n 0, 1) (gx_m 1 rfl)) ?_
  refine gx_Jgs (pc := 2) (ci := 16) (kk := 33) (t2 := 100) (by decide) (by decide) rfl rfl rfl q1707 (htX16_termAt (2, .getfield 86, 3) (gx_m 2 rfl)) ?_
  refine gx_iload_n (pc := 5) (n := 1) (i := 1) rfl 1 rfl (htX16_termAt (5, .iload_n 1, 1) (gx_m 3 rfl)) ?_
  refine gx_Jia (pc := 6) (htX16_termAt (6, .iaload, 1) (gx_m 4 rfl)) (fun v1 => ?_)
  refine gx_Jjoin (pcJ := 32) (lvJ := fun (j6 : Int32) => []) (stJ := fun (j6 : Int32) => [gx_i j6]) (fun _ => True) (fun j6 hj6 => ?_) (fun kk1 hj1 => ?_)
  · exact gx_Jiret (pc := 32) rfl (fun _ => trivial) (fun _ _ => rfl) (htX16_termAt (32, .ireturn, 1) (gx_m 20 rfl))
  · refine gx_icmp_ne (pc := 7) (tgt := 19) (by decide) (htX16_termAt (7, .if_icmp .ne 12, 3) (gx_m 5 rfl)) (fun c2 => ?_) (fun c2 => ?_)
    · refine gx_aload_n (pc := 10) (n := 0) (i := 0) rfl 0 rfl (htX16_termAt (10, .aload_n 0, 1) (gx_m 6 rfl)) ?_
      refine gx_Jgs (pc := 11) (ci := 16) (kk := 34) (t2 := 100) (by decide) (by decide) rfl rfl rfl q1708 (htX16_termAt (11, .getfield 89, 3) (gx_m 7 rfl)) ?_
      refine gx_iload_n (pc := 14) (n := 1) (i := 1) rfl 1 rfl (htX16_termAt (14, .iload_n 1, 1) (gx_m 8 rfl)) ?_
      refine gx_Jia (pc := 15) (htX16_termAt (15, .iaload, 1) (gx_m 9 rfl)) (fun v2 => ?_)
      refine gx_goto (pc := 16) (tgt := 32) (by decide) (htX16_termAt (16, .goto 16, 3) (gx_m 10 rfl)) ?_
      refine gx_Jw (lv := []) [] rfl ?_
      exact hj1 (v2 : Int32) trivial
    · refine gx_aload_n (pc := 19) (n := 0) (i := 0) rfl 0 rfl (htX16_termAt (19, .aload_n 0, 1) (gx_m 11 rfl)) ?_
      refine gx_Jgs (pc := 20) (ci := 16) (kk := 8) (t2 := 100) (by decide) (by decide) rfl rfl rfl q1682 (htX16_termAt (20, .getfield 19, 3) (gx_m 12 rfl)) ?_
      refine gx_aload_n (pc := 23) (n := 0) (i := 0) rfl 0 rfl (htX16_termAt (23, .aload_n 0, 1) (gx_m 13 rfl)) ?_
      refine gx_Jgs (pc := 24) (ci := 16) (kk := 37) (t2 := 105) (by decide) (by decide) rfl rfl rfl q1711 (htX16_termAt (24, .getfield 100, 3) (gx_m 14 rfl)) ?_
      refine gx_iload_n (pc := 27) (n := 1) (i := 1) rfl 1 rfl (htX16_termAt (27, .iload_n 1, 1) (gx_m 15 rfl)) ?_
      refine gx_Jra (pc := 28) (t := 5) (t2 := 100) (by decide) (by decide) rfl (htX16_termAt (28, .aaload, 1) (gx_m 16 rfl)) (fun v3 => ?_)
      refine gx_iload_n (pc := 29) (n := 2) (i := 2) rfl 2 rfl (htX16_termAt (29, .iload_n 2, 1) (gx_m 17 rfl)) ?_
      refine gx_Jia (pc := 30) (htX16_termAt (30, .iaload, 1) (gx_m 18 rfl)) (fun v4 => ?_)
      refine gx_Jia (pc := 31) (htX16_termAt (31, .iaload, 1) (gx_m 19 rfl)) (fun v5 => ?_)
      refine gx_Jw (lv := []) [] rfl ?_
      exact hj1 (v5 : Int32) trivial
theorem ct_X16_append (Y : gx_Y) (x0 : gx_Nm) (x1 : Int32) (x2 : Int32) : gx_Ct Y yX16_append (ws_ yX16_append cX16_append 6 none) 3 144 [gx_r 17 (some x0), gx_i x1, gx_i x2] gx_Ov (f_X16_append x0 x1 x2) := by
  refine gx_start (lv := [(0, gx_r 17 (some x0)), (1, gx_i x1), (2, gx_i x2)]) gx_Ov_r pn_X16 (Nat.le_of_ble_eq_true rfl) rfl ?_
  unfold f_X16_append
  refine gx_aload_n (pc := 0) (n := 0) (i := 0) rfl 0 rfl (htX16_append_0 (0, .aload_n 0, 1) (gx_m 0 rfl)) ?_
  refine gx_Jgs (pc := 1) (ci := 16) (kk := 53) (t2 := 105) (by decide) (by decide) rfl rfl rfl q1727 (htX16_append_0 (1, .getfield 148, 3) (gx_m 1 rfl)) ?_
  refine gx_iload_n (pc := 4) (n := 1) (i := 1) rfl 1 rfl (htX16_append_0 (4, .iload_n 1, 1) (gx_m 2 rfl)) ?_
  refine gx_Jra (pc := 5) (t := 5) (t2 := 100) (by decide) (by decide) rfl (htX16_append_0 (5, .aaload, 1) (gx_m 3 rfl)) (fun v1 => ?_)
  refine gx_iload_n (pc := 6) (n := 2) (i := 2) rfl 2 rfl (htX16_append_0 (6, .iload_n 2, 1) (gx_m 4 rfl)) ?_
  refine gx_Jia (pc := 7) (htX16_append_0 (7, .iaload, 1) (gx_m 5 rfl)) (fun v2 => ?_)
  refine gx_istore_n (pc := 8) (n := 3) (i := 3) (lv' := [(3, gx_i v2), (0, gx_r 17 (some x0)), (1, gx_i x1), (2, gx_i x2)]) rfl (by decide) rfl (htX16_append_0 (8, .istore_n 3, 1) (gx_m 6 rfl)) ?_
  refine gx_iload_n (pc := 9) (n := 3) (i := 3) rfl 0 rfl (htX16_append_0 (9, .iload_n 3, 1) (gx_m 7 rfl)) ?_
  refine gx_aload_n (pc := 10) (n := 0) (i := 0) rfl 1 rfl (htX16_append_0 (10, .aload_n 0, 1) (gx_m 8 rfl)) ?_
  refine gx_Jgs (pc := 11) (ci := 16) (kk := 33) (t2 := 100) (by decide) (by decide) rfl rfl rfl q1707 (htX16_append_0 (11, .getfield 86, 3) (gx_m 9 rfl)) ?_
  refine gx_iload_n (pc := 14) (n := 1) (i := 1) rfl 2 rfl (htX16_append_0 (14, .iload_n 1, 1) (gx_m 10 rfl)) ?_
  refine gx_Jia (pc := 15) (htX16_append_0 (15, .iaload, 1) (gx_m 11 rfl)) (fun v3 => ?_)
  refine gx_icmp_gt (pc := 16) (tgt := 87) (by decide) (htX16_append_0 (16, .if_icmp .gt 71, 3) (gx_m 12 rfl)) (fun c1 => ?_) (fun c1 => ?_)
  · refine gx_aload_n (pc := 87) (n := 0) (i := 0) rfl 1 rfl (htX16_append_0 (87, .aload_n 0, 1) (gx_m 55 rfl)) ?_
    refine gx_iconst (pc := 88) (v := 3) (by decide) (htX16_append_0 (88, .iconst 3, 1) (gx_m 56 rfl)) ?_
    refine gx_iload_n (pc := 89) (n := 1) (i := 1) rfl 2 rfl (htX16_append_0 (89, .iload_n 1, 1) (gx_m 57 rfl)) ?_
    refine gx_iload_n (pc := 90) (n := 2) (i := 2) rfl 3 rfl (htX16_append_0 (90, .iload_n 2, 1) (gx_m 58 rfl)) ?_
    refine gx_Jci (pc := 91) (gx_hst (as := [gx_i 3, gx_i x1, gx_i x2]) (b := gx_r 17 (some x0))) (gx_runV (as := [gx_i 3, gx_i x1, gx_i x2]) (ci := 16) (ct_X16_message Y x0 3 x1 x2) (by decide) (Or.inl rfl) rfl rfl rfl rfl q2138 q2140 qs57 q117 q2141 rfl dd_X16_message (by decide) (by decide) (Nat.le_of_ble_eq_true rfl) (htX16_append_0 (91, .invokevirtual 471, 3) (gx_m 59 rfl))) (fun v4 => ?_)
    refine gx_istore (pc := 94) (i := 4) (lv' := [(4, gx_i v4), (3, gx_i v2), (0, gx_r 17 (some x0)), (1, gx_i x1), (2, gx_i x2)]) (by decide) rfl (htX16_append_0 (94, .istore 4, 2) (gx_m 60 rfl)) ?_
    refine gx_aload_n (pc := 96) (n := 0) (i := 0) rfl 2 rfl (htX16_append_0 (96, .aload_n 0, 1) (gx_m 61 rfl)) ?_
    refine gx_Jgs (pc := 97) (ci := 16) (kk := 68) (t2 := 100) (by decide) (by decide) rfl rfl rfl q1742 (htX16_append_0 (97, .getfield 193, 3) (gx_m 62 rfl)) ?_
    refine gx_iload (pc := 100) (i := 4) 0 rfl (htX16_append_0 (100, .iload 4, 2) (gx_m 63 rfl)) ?_
    refine gx_iload_n (pc := 102) (n := 3) (i := 3) rfl 1 rfl (htX16_append_0 (102, .iload_n 3, 1) (gx_m 64 rfl)) ?_
    refine gx_iconst (pc := 103) (v := 1) (by decide) (htX16_append_0 (103, .iconst 1, 1) (gx_m 65 rfl)) ?_
    refine gx_isub (pc := 104) (htX16_append_0 (104, .isub, 1) (gx_m 66 rfl)) ?_
    refine gx_Jis (pc := 105) (htX16_append_0 (105, .iastore, 1) (gx_m 67 rfl)) ?_
    refine gx_aload_n (pc := 106) (n := 0) (i := 0) rfl 2 rfl (htX16_append_0 (106, .aload_n 0, 1) (gx_m 68 rfl)) ?_
    refine gx_Jgs (pc := 107) (ci := 16) (kk := 69) (t2 := 100) (by decide) (by decide) rfl rfl rfl q1743 (htX16_append_0 (107, .getfield 196, 3) (gx_m 69 rfl)) ?_
    refine gx_iload (pc := 110) (i := 4) 0 rfl (htX16_append_0 (110, .iload 4, 2) (gx_m 70 rfl)) ?_
    refine gx_aload_n (pc := 112) (n := 0) (i := 0) rfl 2 rfl (htX16_append_0 (112, .aload_n 0, 1) (gx_m 71 rfl)) ?_
    refine gx_iload_n (pc := 113) (n := 1) (i := 1) rfl 3 rfl (htX16_append_0 (113, .iload_n 1, 1) (gx_m 72 rfl)) ?_
    refine gx_iload_n (pc := 114) (n := 3) (i := 3) rfl 1 rfl (htX16_append_0 (114, .iload_n 3, 1) (gx_m 73 rfl)) ?_
    refine gx_iconst (pc := 115) (v := 1) (by decide) (htX16_append_0 (115, .iconst 1, 1) (gx_m 74 rfl)) ?_
    refine gx_isub (pc := 116) (htX16_append_0 (116, .isub, 1) (gx_m 75 rfl)) ?_
    refine gx_Jci (pc := 117) (gx_hst (as := [gx_i x1, gx_i (v2 - 1)]) (b := gx_r 17 (some x0))) (gx_runV (as := [gx_i x1, gx_i (v2 - 1)]) (ci := 16) (ct_X16_termAt Y x0 x1 (v2 - 1)) (by decide) (Or.inl rfl) rfl rfl rfl rfl q2150 q2152 qs60 q117 q2153 rfl dd_X16_termAt (by decide) (by decide) (Nat.le_of_ble_eq_true rfl) (htX16_append_0 (117, .invokevirtual 461, 3) (gx_m 76 rfl))) (fun v5 => ?_)
    refine gx_Jis (pc := 120) (htX16_append_0 (120, .iastore, 1) (gx_m 77 rfl)) ?_
    refine gx_iload_n (pc := 121) (n := 3) (i := 3) rfl 1 rfl (htX16_append_0 (121, .iload_n 3, 1) (gx_m 78 rfl)) ?_
    refine gx_istore (pc := 122) (i := 5) (lv' := [(5, gx_i v2), (4, gx_i v4), (3, gx_i v2), (0, gx_r 17 (some x0)), (1, gx_i x1), (2, gx_i x2)]) (by decide) rfl (htX16_append_0 (122, .istore 5, 2) (gx_m 79 rfl)) ?_
    refine gx_Jjoin (pcJ := 189) (lvJ := fun (j_2 : Unit) => [(0, gx_r 17 (some x0)), (1, gx_i x1), (4, gx_i v4)]) (stJ := fun (j_2 : Unit) => []) (fun _ => True) (fun j_2 _ => ?_) (fun kk2 hj2 => ?_)
    · refine gx_aload_n (pc := 189) (n := 0) (i := 0) rfl 0 rfl (htX16_append_1 (189, .aload_n 0, 1) (gx_m 19 rfl)) ?_
      refine gx_Jgs (pc := 190) (ci := 16) (kk := 71) (t2 := 100) (by decide) (by decide) rfl rfl rfl q1745 (htX16_append_1 (190, .getfield 202, 3) (gx_m 20 rfl)) ?_
      refine gx_iload (pc := 193) (i := 4) 2 rfl (htX16_append_1 (193, .iload 4, 2) (gx_m 21 rfl)) ?_
      refine gx_aload_n (pc := 195) (n := 0) (i := 0) rfl 0 rfl (htX16_append_1 (195, .aload_n 0, 1) (gx_m 22 rfl)) ?_
      refine gx_Jgs (pc := 196) (ci := 16) (kk := 51) (t2 := 100) (by decide) (by decide) rfl rfl rfl q1725 (htX16_append_1 (196, .getfield 142, 3) (gx_m 23 rfl)) ?_
      refine gx_iload_n (pc := 199) (n := 1) (i := 1) rfl 1 rfl (htX16_append_1 (199, .iload_n 1, 1) (gx_m 24 rfl)) ?_
      refine gx_Jia (pc := 200) (htX16_append_1 (200, .iaload, 1) (gx_m 25 rfl)) (fun v13 => ?_)
      refine gx_Jis (pc := 201) (htX16_append_1 (201, .iastore, 1) (gx_m 26 rfl)) ?_
      refine gx_aload_n (pc := 202) (n := 0) (i := 0) rfl 0 rfl (htX16_append_1 (202, .aload_n 0, 1) (gx_m 27 rfl)) ?_
      refine gx_Jgs (pc := 203) (ci := 16) (kk := 72) (t2 := 100) (by decide) (by decide) rfl rfl rfl q1746 (htX16_append_1 (203, .getfield 205, 3) (gx_m 28 rfl)) ?_
      refine gx_iload (pc := 206) (i := 4) 2 rfl (htX16_append_1 (206, .iload 4, 2) (gx_m 29 rfl)) ?_
      refine gx_aload_n (pc := 208) (n := 0) (i := 0) rfl 0 rfl (htX16_append_1 (208, .aload_n 0, 1) (gx_m 30 rfl)) ?_
      refine gx_Jgs (pc := 209) (ci := 16) (kk := 47) (t2 := 100) (by decide) (by decide) rfl rfl rfl q1721 (htX16_append_1 (209, .getfield 130, 3) (gx_m 31 rfl)) ?_
      refine gx_iload_n (pc := 212) (n := 1) (i := 1) rfl 1 rfl (htX16_append_1 (212, .iload_n 1, 1) (gx_m 32 rfl)) ?_
      refine gx_Jia (pc := 213) (htX16_append_1 (213, .iaload, 1) (gx_m 33 rfl)) (fun v14 => ?_)
      refine gx_Jis (pc := 214) (htX16_append_1 (214, .iastore, 1) (gx_m 34 rfl)) ?_
      refine gx_aload_n (pc := 215) (n := 0) (i := 0) rfl 0 rfl (htX16_append_1 (215, .aload_n 0, 1) (gx_m 35 rfl)) ?_
      refine gx_iload (pc := 216) (i := 4) 2 rfl (htX16_append_1 (216, .iload 4, 2) (gx_m 36 rfl)) ?_
      refine gx_Jcv (pc := 218) (gx_hst (as := [gx_i v4]) (b := gx_r 17 (some x0))) (gx_runV (as := [gx_i v4]) (ci := 16) (ct_X16_send Y x0 v4) (by decide) (Or.inl rfl) rfl rfl rfl rfl q2142 q2144 qs58 q117 q2145 rfl dd_X16_send (by decide) (by decide) (Nat.le_of_ble_eq_true rfl) (htX16_append_1 (218, .invokevirtual 475, 3) (gx_m 37 rfl))) ?_
      exact gx_Jvret (pc := 221) rfl (fun _ => trivial) (fun _ _ => rfl) (htX16_append_1 (221, .return_, 1) (gx_m 38 rfl))
    · refine gx_Jw (lv := [(0, gx_r 17 (some x0)), (1, gx_i x1), (4, gx_i v4), (5, gx_i v2)]) [3, 4, 1, 0] rfl ?_
      refine gx_Jlp (pc := 124) (lvh := fun (s6 : Int32) => [(0, gx_r 17 (some x0)), (1, gx_i x1), (4, gx_i v4), (5, gx_i s6)]) (fun s6 kl2 ha2 hb2 => ?_) _
      unfold lb_X16_append_1
      refine gx_iload (pc := 124) (i := 5) 3 rfl (htX16_append_0 (124, .iload 5, 2) (gx_m 80 rfl)) ?_
      refine gx_aload_n (pc := 126) (n := 0) (i := 0) rfl 0 rfl (htX16_append_0 (126, .aload_n 0, 1) (gx_m 81 rfl)) ?_
      refine gx_Jgs (pc := 127) (ci := 16) (kk := 36) (t2 := 100) (by decide) (by decide) rfl rfl rfl q1710 (htX16_append_0 (127, .getfield 95, 3) (gx_m 82 rfl)) ?_
      refine gx_iload_n (pc := 130) (n := 1) (i := 1) rfl 1 rfl (htX16_append_0 (130, .iload_n 1, 1) (gx_m 83 rfl)) ?_
      refine gx_Jia (pc := 131) (htX16_append_0 (131, .iaload, 1) (gx_m 84 rfl)) (fun v7 => ?_)
      refine gx_icmp_gt (pc := 132) (tgt := 189) (by decide) (htX16_append_0 (132, .if_icmp .gt 57, 3) (gx_m 85 rfl)) (fun c3 => ?_) (fun c3 => ?_)
      · refine gx_Jw (lv := [(0, gx_r 17 (some x0)), (1, gx_i x1), (4, gx_i v4)]) [0, 1, 2] rfl ?_
        exact gx_Jout hb2 (hj2 () trivial)
      · refine gx_aload_n (pc := 135) (n := 0) (i := 0) rfl 0 rfl (htX16_append_0 (135, .aload_n 0, 1) (gx_m 86 rfl)) ?_
        refine gx_Jgs (pc := 136) (ci := 16) (kk := 70) (t2 := 100) (by decide) (by decide) rfl rfl rfl q1744 (htX16_append_0 (136, .getfield 199, 3) (gx_m 87 rfl)) ?_
        refine gx_iload (pc := 139) (i := 4) 2 rfl (htX16_append_0 (139, .iload 4, 2) (gx_m 88 rfl)) ?_
        refine gx_Jia (pc := 141) (htX16_append_0 (141, .iaload, 1) (gx_m 89 rfl)) (fun v8 => ?_)
        refine gx_iconst (pc := 142) (v := 4) (by decide) (htX16_append_0 (142, .iconst 4, 1) (gx_m 90 rfl)) ?_
        refine gx_icmp_ge (pc := 143) (tgt := 189) (by decide) (htX16_append_0 (143, .if_icmp .ge 46, 3) (gx_m 91 rfl)) (fun c4 => ?_) (fun c4 => ?_)
        · refine gx_Jw (lv := [(0, gx_r 17 (some x0)), (1, gx_i x1), (4, gx_i v4)]) [0, 1, 2] rfl ?_
          exact gx_Jout hb2 (hj2 () trivial)
        · refine gx_aload_n (pc := 146) (n := 0) (i := 0) rfl 0 rfl (htX16_append_0 (146, .aload_n 0, 1) (gx_m 92 rfl)) ?_
          refine gx_Jgs (pc := 147) (ci := 16) (kk := 74) (t2 := 100) (by decide) (by decide) rfl rfl rfl q1748 (htX16_append_0 (147, .getfield 212, 3) (gx_m 93 rfl)) ?_
          refine gx_iconst (pc := 150) (v := 4) (by decide) (htX16_append_0 (150, .iconst 4, 1) (gx_m 94 rfl)) ?_
          refine gx_iload (pc := 151) (i := 4) 2 rfl (htX16_append_0 (151, .iload 4, 2) (gx_m 95 rfl)) ?_
          refine gx_imul (pc := 153) (htX16_append_0 (153, .imul, 1) (gx_m 96 rfl)) ?_
          refine gx_aload_n (pc := 154) (n := 0) (i := 0) rfl 0 rfl (htX16_append_0 (154, .aload_n 0, 1) (gx_m 97 rfl)) ?_
          refine gx_Jgs (pc := 155) (ci := 16) (kk := 70) (t2 := 100) (by decide) (by decide) rfl rfl rfl q1744 (htX16_append_0 (155, .getfield 199, 3) (gx_m 98 rfl)) ?_
          refine gx_iload (pc := 158) (i := 4) 2 rfl (htX16_append_0 (158, .iload 4, 2) (gx_m 99 rfl)) ?_
          refine gx_Jia (pc := 160) (htX16_append_1 (160, .iaload, 1) (gx_m 0 rfl)) (fun v9 => ?_)
          refine gx_iadd (pc := 161) (htX16_append_1 (161, .iadd, 1) (gx_m 1 rfl)) ?_
          refine gx_aload_n (pc := 162) (n := 0) (i := 0) rfl 0 rfl (htX16_append_1 (162, .aload_n 0, 1) (gx_m 2 rfl)) ?_
          refine gx_Jgs (pc := 163) (ci := 16) (kk := 37) (t2 := 105) (by decide) (by decide) rfl rfl rfl q1711 (htX16_append_1 (163, .getfield 100, 3) (gx_m 3 rfl)) ?_
          refine gx_iload_n (pc := 166) (n := 1) (i := 1) rfl 1 rfl (htX16_append_1 (166, .iload_n 1, 1) (gx_m 4 rfl)) ?_
          refine gx_Jra (pc := 167) (t := 5) (t2 := 100) (by decide) (by decide) rfl (htX16_append_1 (167, .aaload, 1) (gx_m 5 rfl)) (fun v10 => ?_)
          refine gx_iload (pc := 168) (i := 5) 3 rfl (htX16_append_1 (168, .iload 5, 2) (gx_m 6 rfl)) ?_
          refine gx_Jia (pc := 170) (htX16_append_1 (170, .iaload, 1) (gx_m 7 rfl)) (fun v11 => ?_)
          refine gx_Jis (pc := 171) (htX16_append_1 (171, .iastore, 1) (gx_m 8 rfl)) ?_
          refine gx_aload_n (pc := 172) (n := 0) (i := 0) rfl 0 rfl (htX16_append_1 (172, .aload_n 0, 1) (gx_m 9 rfl)) ?_
          refine gx_Jgs (pc := 173) (ci := 16) (kk := 70) (t2 := 100) (by decide) (by decide) rfl rfl rfl q1744 (htX16_append_1 (173, .getfield 199, 3) (gx_m 10 rfl)) ?_
          refine gx_iload (pc := 176) (i := 4) 2 rfl (htX16_append_1 (176, .iload 4, 2) (gx_m 11 rfl)) ?_
          refine gx_dup2 (pc := 178) rfl rfl (htX16_append_1 (178, .dup2, 1) (gx_m 12 rfl)) ?_
          refine gx_Jia (pc := 179) (htX16_append_1 (179, .iaload, 1) (gx_m 13 rfl)) (fun v12 => ?_)
          refine gx_iconst (pc := 180) (v := 1) (by decide) (htX16_append_1 (180, .iconst 1, 1) (gx_m 14 rfl)) ?_
          refine gx_iadd (pc := 181) (htX16_append_1 (181, .iadd, 1) (gx_m 15 rfl)) ?_
          refine gx_Jis (pc := 182) (htX16_append_1 (182, .iastore, 1) (gx_m 16 rfl)) ?_
          refine gx_iinc (pc := 183) (i := 5) (j := 3) (v := (s6 + 1)) (lv' := [(5, gx_i (s6 + 1)), (0, gx_r 17 (some x0)), (1, gx_i x1), (4, gx_i v4)]) rfl (gx_iv (by decide)) (by decide) rfl (htX16_append_1 (183, .iinc 5 1, 3) (gx_m 17 rfl)) ?_
          refine gx_goto (pc := 186) (tgt := 124) (by decide) (htX16_append_1 (186, .goto (-62), 3) (gx_m 18 rfl)) ?_
          refine gx_Jw (lv := [(0, gx_r 17 (some x0)), (1, gx_i x1), (4, gx_i v4), (5, gx_i (s6 + 1))]) [1, 2, 3, 0] rfl ?_
          exact ha2 ((s6 + 1) : Int32)
  · refine gx_aload_n (pc := 19) (n := 0) (i := 0) rfl 1 rfl (htX16_append_0 (19, .aload_n 0, 1) (gx_m 13 rfl)) ?_
    refine gx_iconst (pc := 20) (v := 5) (by decide) (htX16_append_0 (20, .iconst 5, 1) (gx_m 14 rfl)) ?_
    refine gx_iload_n (pc := 21) (n := 1) (i := 1) rfl 2 rfl (htX16_append_0 (21, .iload_n 1, 1) (gx_m 15 rfl)) ?_
    refine gx_iload_n (pc := 22) (n := 2) (i := 2) rfl 3 rfl (htX16_append_0 (22, .iload_n 2, 1) (gx_m 16 rfl)) ?_
    refine gx_Jci (pc := 23) (gx_hst (as := [gx_i 5, gx_i x1, gx_i x2]) (b := gx_r 17 (some x0))) (gx_runV (as := [gx_i 5, gx_i x1, gx_i x2]) (ci := 16) (ct_X16_message Y x0 5 x1 x2) (by decide) (Or.inl rfl) rfl rfl rfl rfl q2138 q2140 qs57 q117 q2141 rfl dd_X16_message (by decide) (by decide) (Nat.le_of_ble_eq_true rfl) (htX16_append_0 (23, .invokevirtual 471, 3) (gx_m 17 rfl))) (fun v15 => ?_)
    refine gx_istore (pc := 26) (i := 4) (lv' := [(4, gx_i v15), (3, gx_i v2), (0, gx_r 17 (some x0)), (1, gx_i x1), (2, gx_i x2)]) (by decide) rfl (htX16_append_0 (26, .istore 4, 2) (gx_m 18 rfl)) ?_
    refine gx_aload_n (pc := 28) (n := 0) (i := 0) rfl 2 rfl (htX16_append_0 (28, .aload_n 0, 1) (gx_m 19 rfl)) ?_
    refine gx_Jgs (pc := 29) (ci := 16) (kk := 68) (t2 := 100) (by decide) (by decide) rfl rfl rfl q1742 (htX16_append_0 (29, .getfield 193, 3) (gx_m 20 rfl)) ?_
    refine gx_iload (pc := 32) (i := 4) 0 rfl (htX16_append_0 (32, .iload 4, 2) (gx_m 21 rfl)) ?_
    refine gx_aload_n (pc := 34) (n := 0) (i := 0) rfl 2 rfl (htX16_append_0 (34, .aload_n 0, 1) (gx_m 22 rfl)) ?_
    refine gx_Jgs (pc := 35) (ci := 16) (kk := 33) (t2 := 100) (by decide) (by decide) rfl rfl rfl q1707 (htX16_append_0 (35, .getfield 86, 3) (gx_m 23 rfl)) ?_
    refine gx_iload_n (pc := 38) (n := 1) (i := 1) rfl 3 rfl (htX16_append_0 (38, .iload_n 1, 1) (gx_m 24 rfl)) ?_
    refine gx_Jia (pc := 39) (htX16_append_0 (39, .iaload, 1) (gx_m 25 rfl)) (fun v16 => ?_)
    refine gx_Jis (pc := 40) (htX16_append_0 (40, .iastore, 1) (gx_m 26 rfl)) ?_
    refine gx_aload_n (pc := 41) (n := 0) (i := 0) rfl 2 rfl (htX16_append_0 (41, .aload_n 0, 1) (gx_m 27 rfl)) ?_
    refine gx_Jgs (pc := 42) (ci := 16) (kk := 69) (t2 := 100) (by decide) (by decide) rfl rfl rfl q1743 (htX16_append_0 (42, .getfield 196, 3) (gx_m 28 rfl)) ?_
    refine gx_iload (pc := 45) (i := 4) 0 rfl (htX16_append_0 (45, .iload 4, 2) (gx_m 29 rfl)) ?_
    refine gx_aload_n (pc := 47) (n := 0) (i := 0) rfl 2 rfl (htX16_append_0 (47, .aload_n 0, 1) (gx_m 30 rfl)) ?_
    refine gx_Jgs (pc := 48) (ci := 16) (kk := 34) (t2 := 100) (by decide) (by decide) rfl rfl rfl q1708 (htX16_append_0 (48, .getfield 89, 3) (gx_m 31 rfl)) ?_
    refine gx_iload_n (pc := 51) (n := 1) (i := 1) rfl 3 rfl (htX16_append_0 (51, .iload_n 1, 1) (gx_m 32 rfl)) ?_
    refine gx_Jia (pc := 52) (htX16_append_0 (52, .iaload, 1) (gx_m 33 rfl)) (fun v17 => ?_)
    refine gx_Jis (pc := 53) (htX16_append_0 (53, .iastore, 1) (gx_m 34 rfl)) ?_
    refine gx_aload_n (pc := 54) (n := 0) (i := 0) rfl 2 rfl (htX16_append_0 (54, .aload_n 0, 1) (gx_m 35 rfl)) ?_
    refine gx_Jgs (pc := 55) (ci := 16) (kk := 73) (t2 := 100) (by decide) (by decide) rfl rfl rfl q1747 (htX16_append_0 (55, .getfield 208, 3) (gx_m 36 rfl)) ?_
    refine gx_iload (pc := 58) (i := 4) 0 rfl (htX16_append_0 (58, .iload 4, 2) (gx_m 37 rfl)) ?_
    refine gx_aload_n (pc := 60) (n := 0) (i := 0) rfl 2 rfl (htX16_append_0 (60, .aload_n 0, 1) (gx_m 38 rfl)) ?_
    refine gx_Jgs (pc := 61) (ci := 16) (kk := 35) (t2 := 100) (by decide) (by decide) rfl rfl rfl q1709 (htX16_append_0 (61, .getfield 92, 3) (gx_m 39 rfl)) ?_
    refine gx_iload_n (pc := 64) (n := 1) (i := 1) rfl 3 rfl (htX16_append_0 (64, .iload_n 1, 1) (gx_m 40 rfl)) ?_
    refine gx_Jia (pc := 65) (htX16_append_0 (65, .iaload, 1) (gx_m 41 rfl)) (fun v18 => ?_)
    refine gx_Jis (pc := 66) (htX16_append_0 (66, .iastore, 1) (gx_m 42 rfl)) ?_
    refine gx_aload_n (pc := 67) (n := 0) (i := 0) rfl 2 rfl (htX16_append_0 (67, .aload_n 0, 1) (gx_m 43 rfl)) ?_
    refine gx_Jgs (pc := 68) (ci := 16) (kk := 71) (t2 := 100) (by decide) (by decide) rfl rfl rfl q1745 (htX16_append_0 (68, .getfield 202, 3) (gx_m 44 rfl)) ?_
    refine gx_iload (pc := 71) (i := 4) 0 rfl (htX16_append_0 (71, .iload 4, 2) (gx_m 45 rfl)) ?_
    refine gx_aload_n (pc := 73) (n := 0) (i := 0) rfl 2 rfl (htX16_append_0 (73, .aload_n 0, 1) (gx_m 46 rfl)) ?_
    refine gx_Jgs (pc := 74) (ci := 16) (kk := 51) (t2 := 100) (by decide) (by decide) rfl rfl rfl q1725 (htX16_append_0 (74, .getfield 142, 3) (gx_m 47 rfl)) ?_
    refine gx_iload_n (pc := 77) (n := 1) (i := 1) rfl 3 rfl (htX16_append_0 (77, .iload_n 1, 1) (gx_m 48 rfl)) ?_
    refine gx_Jia (pc := 78) (htX16_append_0 (78, .iaload, 1) (gx_m 49 rfl)) (fun v19 => ?_)
    refine gx_Jis (pc := 79) (htX16_append_0 (79, .iastore, 1) (gx_m 50 rfl)) ?_
    refine gx_aload_n (pc := 80) (n := 0) (i := 0) rfl 2 rfl (htX16_append_0 (80, .aload_n 0, 1) (gx_m 51 rfl)) ?_
    refine gx_iload (pc := 81) (i := 4) 0 rfl (htX16_append_0 (81, .iload 4, 2) (gx_m 52 rfl)) ?_
    refine gx_Jcv (pc := 83) (gx_hst (as := [gx_i v15]) (b := gx_r 17 (some x0))) (gx_runV (as := [gx_i v15]) (ci := 16) (ct_X16_send Y x0 v15) (by decide) (Or.inl rfl) rfl rfl rfl rfl q2142 q2144 qs58 q117 q2145 rfl dd_X16_send (by decide) (by decide) (Nat.le_of_ble_eq_true rfl) (htX16_append_0 (83, .invokevirtual 475, 3) (gx_m 53 rfl))) ?_
    exact gx_Jvret (pc := 86) rfl (fun _ => trivial) (fun _ _ => rfl) (htX16_append_0 (86, .return_, 1) (gx_m 54 rfl))
theorem ct_X16_appendAll (Y : gx_Y) (x0 : gx_Nm) (x1 : Int32) : gx_Ct Y yX16_appendAll (ws_ yX16_appendAll cX16_appendAll 3 none) 4 169 [gx_r 17 (some x0), gx_i x1] gx_Ov (f_X16_appendAll x0 x1) := by
  refine gx_start (lv := [(0, gx_r 17 (some x0)), (1, gx_i x1)]) gx_Ov_r pn_X16 (Nat.le_of_ble_eq_true rfl) rfl ?_
  unfold f_X16_appendAll
  refine gx_iconst (pc := 0) (v := 0) (by decide) (htX16_appendAll (0, .iconst 0, 1) (gx_m 0 rfl)) ?_
  refine gx_istore_n (pc := 1) (n := 2) (i := 2) (lv' := [(2, gx_i 0), (0, gx_r 17 (some x0)), (1, gx_i x1)]) rfl (by decide) rfl (htX16_appendAll (1, .istore_n 2, 1) (gx_m 1 rfl)) ?_
  refine gx_Jjoin (pcJ := 27) (lvJ := fun (j_1 : Unit) => []) (stJ := fun (j_1 : Unit) => []) (fun _ => True) (fun j_1 _ => ?_) (fun kk1 hj1 => ?_)
  · exact gx_Jvret (pc := 27) rfl (fun _ => trivial) (fun _ _ => rfl) (htX16_appendAll (27, .return_, 1) (gx_m 15 rfl))
  · refine gx_Jw (lv := [(0, gx_r 17 (some x0)), (1, gx_i x1), (2, gx_i 0)]) [1, 2, 0] rfl ?_
    refine gx_Jlp (pc := 2) (lvh := fun (s1 : Int32) => [(0, gx_r 17 (some x0)), (1, gx_i x1), (2, gx_i s1)]) (fun s1 kl1 ha1 hb1 => ?_) _
    unfold lb_X16_appendAll_1
    refine gx_iload_n (pc := 2) (n := 2) (i := 2) rfl 2 rfl (htX16_appendAll (2, .iload_n 2, 1) (gx_m 2 rfl)) ?_
    refine gx_aload_n (pc := 3) (n := 0) (i := 0) rfl 0 rfl (htX16_appendAll (3, .aload_n 0, 1) (gx_m 3 rfl)) ?_
    refine gx_Jgi (pc := 4) (ci := 16) (kk := 29) (by decide) (Or.inl rfl) (by decide) (by decide) q1703 (htX16_appendAll (4, .getfield 315, 3) (gx_m 4 rfl)) (fun v2 hv2 => ?_)
    refine gx_icmp_ge (pc := 7) (tgt := 27) (by decide) (htX16_appendAll (7, .if_icmp .ge 20, 3) (gx_m 5 rfl)) (fun c2 => ?_) (fun c2 => ?_)
    · refine gx_Jw (lv := []) [] rfl ?_
      exact gx_Jout hb1 (hj1 () trivial)
    · refine gx_iload_n (pc := 10) (n := 2) (i := 2) rfl 2 rfl (htX16_appendAll (10, .iload_n 2, 1) (gx_m 6 rfl)) ?_
      refine gx_iload_n (pc := 11) (n := 1) (i := 1) rfl 1 rfl (htX16_appendAll (11, .iload_n 1, 1) (gx_m 7 rfl)) ?_
      refine gx_Jjoin (pcJ := 21) (lvJ := fun (j_3 : Unit) => [(0, gx_r 17 (some x0)), (1, gx_i x1), (2, gx_i s1)]) (stJ := fun (j_3 : Unit) => []) (fun _ => True) (fun j_3 hj_3 => ?_) (fun kk3 hj3 => ?_)
      · refine gx_iinc (pc := 21) (i := 2) (j := 2) (v := (s1 + 1)) (lv' := [(2, gx_i (s1 + 1)), (0, gx_r 17 (some x0)), (1, gx_i x1)]) rfl (gx_iv (by decide)) (by decide) rfl (htX16_appendAll (21, .iinc 2 1, 3) (gx_m 13 rfl)) ?_
        refine gx_goto (pc := 24) (tgt := 2) (by decide) (htX16_appendAll (24, .goto (-22), 3) (gx_m 14 rfl)) ?_
        refine gx_Jw (lv := [(0, gx_r 17 (some x0)), (1, gx_i x1), (2, gx_i (s1 + 1))]) [1, 2, 0] rfl ?_
        exact ha1 ((s1 + 1) : Int32)
      · refine gx_icmp_eq (pc := 12) (tgt := 21) (by decide) (htX16_appendAll (12, .if_icmp .eq 9, 3) (gx_m 8 rfl)) (fun c4 => ?_) (fun c4 => ?_)
        · exact hj3 () trivial
        · refine gx_aload_n (pc := 15) (n := 0) (i := 0) rfl 0 rfl (htX16_appendAll (15, .aload_n 0, 1) (gx_m 9 rfl)) ?_
          refine gx_iload_n (pc := 16) (n := 1) (i := 1) rfl 1 rfl (htX16_appendAll (16, .iload_n 1, 1) (gx_m 10 rfl)) ?_
          refine gx_iload_n (pc := 17) (n := 2) (i := 2) rfl 2 rfl (htX16_appendAll (17, .iload_n 2, 1) (gx_m 11 rfl)) ?_
          refine gx_Jcv (pc := 18) (gx_hst (as := [gx_i x1, gx_i s1]) (b := gx_r 17 (some x0))) (gx_runV (as := [gx_i x1, gx_i s1]) (ci := 16) (ct_X16_append Y x0 x1 s1) (by decide) (Or.inl rfl) rfl rfl rfl rfl q2134 q2136 qs56 q117 q2137 rfl dd_X16_append (by decide) (by decide) (Nat.le_of_ble_eq_true rfl) (htX16_appendAll (18, .invokevirtual 478, 3) (gx_m 12 rfl))) ?_
          exact hj3 () trivial
theorem ct_X16_propose (Y : gx_Y) (x0 : gx_Nm) (x1 : Int32) : gx_Ct Y yX16_propose (ws_ yX16_propose cX16_propose 2 (some .int)) 5 191 [gx_r 17 (some x0), gx_i x1] gx_Oi (f_X16_propose x0 x1) := by
  refine gx_start (lv := [(0, gx_r 17 (some x0)), (1, gx_i x1)]) gx_Oi_r pn_X16 (Nat.le_of_ble_eq_true rfl) rfl ?_
  unfold f_X16_propose
  refine gx_aload_n (pc := 0) (n := 0) (i := 0) rfl 0 rfl (htX16_propose (0, .aload_n 0, 1) (gx_m 0 rfl)) ?_
  refine gx_iload_n (pc := 1) (n := 1) (i := 1) rfl 1 rfl (htX16_propose (1, .iload_n 1, 1) (gx_m 1 rfl)) ?_
  refine gx_Jcz (pc := 2) (gx_hst (as := [gx_i x1]) (b := gx_r 17 (some x0))) (gx_runV (as := [gx_i x1]) (ci := 16) (ct_X16_up Y x0 x1) (by decide) (Or.inl rfl) rfl rfl rfl rfl q2113 q2115 qs51 q117 q2116 rfl dd_X16_up (by decide) (by decide) (Nat.le_of_ble_eq_true rfl) (htX16_propose (2, .invokevirtual 532, 3) (gx_m 2 rfl))) (fun v1 hv1 => ?_)
  refine gx_if_ne (pc := 5) (y := 0) (tgt := 14) (by decide) (htX16_propose (5, .ifCond .ne 9, 3) (gx_m 3 rfl)) (fun c1 => ?_) (fun c1 => ?_)
  · refine gx_aload_n (pc := 8) (n := 0) (i := 0) rfl 0 rfl (htX16_propose (8, .aload_n 0, 1) (gx_m 4 rfl)) ?_
    refine gx_iconst (pc := 9) (v := 2) (by decide) (htX16_propose (9, .iconst 2, 1) (gx_m 5 rfl)) ?_
    refine gx_Jci (pc := 10) (gx_hst (as := [gx_i 2]) (b := gx_r 17 (some x0))) (gx_runV (as := [gx_i 2]) (ci := 16) (ct_X16_no Y x0 2) (by decide) (Or.inl rfl) rfl rfl rfl rfl q2062 q2064 qs46 q117 q2065 rfl dd_X16_no (by decide) (by decide) (Nat.le_of_ble_eq_true rfl) (htX16_propose (10, .invokevirtual 370, 3) (gx_m 6 rfl))) (fun v2 => ?_)
    exact gx_Jiret (pc := 13) rfl (fun _ => trivial) (fun _ _ => rfl) (htX16_propose (13, .ireturn, 1) (gx_m 7 rfl))
  · refine gx_aload_n (pc := 14) (n := 0) (i := 0) rfl 0 rfl (htX16_propose (14, .aload_n 0, 1) (gx_m 8 rfl)) ?_
    refine gx_Jgs (pc := 15) (ci := 16) (kk := 45) (t2 := 100) (by decide) (by decide) rfl rfl rfl q1719 (htX16_propose (15, .getfield 124, 3) (gx_m 9 rfl)) ?_
    refine gx_iload_n (pc := 18) (n := 1) (i := 1) rfl 1 rfl (htX16_propose (18, .iload_n 1, 1) (gx_m 10 rfl)) ?_
    refine gx_Jia (pc := 19) (htX16_propose (19, .iaload, 1) (gx_m 11 rfl)) (fun v3 => ?_)
    refine gx_iconst (pc := 20) (v := 2) (by decide) (htX16_propose (20, .iconst 2, 1) (gx_m 12 rfl)) ?_
    refine gx_icmp_eq (pc := 21) (tgt := 30) (by decide) (htX16_propose (21, .if_icmp .eq 9, 3) (gx_m 13 rfl)) (fun c2 => ?_) (fun c2 => ?_)
    · refine gx_aload_n (pc := 30) (n := 0) (i := 0) rfl 0 rfl (htX16_propose (30, .aload_n 0, 1) (gx_m 18 rfl)) ?_
      refine gx_Jgi (pc := 31) (ci := 16) (kk := 20) (by decide) (Or.inl rfl) (by decide) (by decide) q1694 (htX16_propose (31, .getfield 318, 3) (gx_m 19 rfl)) (fun v4 hv4 => ?_)
      refine gx_sipush (pc := 34) (v := 1500) (by decide) (htX16_propose (34, .sipush 1500, 3) (gx_m 20 rfl)) ?_
      refine gx_Jcond (pcT := 55) (pcE := 61) (lv2 := [(0, gx_r 17 (some x0)), (1, gx_i x1)]) (st2 := []) ?_ ?_ (fun kk3 hT3 hE3 => ?_)
      · refine gx_aload_n (pc := 55) (n := 0) (i := 0) rfl 0 rfl (htX16_propose (55, .aload_n 0, 1) (gx_m 29 rfl)) ?_
        refine gx_iconst (pc := 56) (v := 3) (by decide) (htX16_propose (56, .iconst 3, 1) (gx_m 30 rfl)) ?_
        refine gx_Jci (pc := 57) (gx_hst (as := [gx_i 3]) (b := gx_r 17 (some x0))) (gx_runV (as := [gx_i 3]) (ci := 16) (ct_X16_no Y x0 3) (by decide) (Or.inl rfl) rfl rfl rfl rfl q2062 q2064 qs46 q117 q2065 rfl dd_X16_no (by decide) (by decide) (Nat.le_of_ble_eq_true rfl) (htX16_propose (57, .invokevirtual 370, 3) (gx_m 31 rfl))) (fun v8 => ?_)
        exact gx_Jiret (pc := 60) rfl (fun _ => trivial) (fun _ _ => rfl) (htX16_propose (60, .ireturn, 1) (gx_m 32 rfl))
      · refine gx_aload_n (pc := 61) (n := 0) (i := 0) rfl 0 rfl (htX16_propose (61, .aload_n 0, 1) (gx_m 33 rfl)) ?_
        refine gx_iconst (pc := 62) (v := 0) (by decide) (htX16_propose (62, .iconst 0, 1) (gx_m 34 rfl)) ?_
        refine gx_Jpi (pc := 63) (ci := 16) (kk := 0) (by decide) (Or.inl rfl) (by decide) rfl rfl q1674 (Or.inl rfl) (htX16_propose (63, .putfield 312, 3) (gx_m 35 rfl)) ?_
        refine gx_aload_n (pc := 66) (n := 0) (i := 0) rfl 0 rfl (htX16_propose (66, .aload_n 0, 1) (gx_m 36 rfl)) ?_
        refine gx_iload_n (pc := 67) (n := 1) (i := 1) rfl 1 rfl (htX16_propose (67, .iload_n 1, 1) (gx_m 37 rfl)) ?_
        refine gx_aload_n (pc := 68) (n := 0) (i := 0) rfl 0 rfl (htX16_propose (68, .aload_n 0, 1) (gx_m 38 rfl)) ?_
        refine gx_Jgs (pc := 69) (ci := 16) (kk := 36) (t2 := 100) (by decide) (by decide) rfl rfl rfl q1710 (htX16_propose (69, .getfield 95, 3) (gx_m 39 rfl)) ?_
        refine gx_iload_n (pc := 72) (n := 1) (i := 1) rfl 1 rfl (htX16_propose (72, .iload_n 1, 1) (gx_m 40 rfl)) ?_
        refine gx_Jia (pc := 73) (htX16_propose (73, .iaload, 1) (gx_m 41 rfl)) (fun v9 => ?_)
        refine gx_iconst (pc := 74) (v := 1) (by decide) (htX16_propose (74, .iconst 1, 1) (gx_m 42 rfl)) ?_
        refine gx_iadd (pc := 75) (htX16_propose (75, .iadd, 1) (gx_m 43 rfl)) ?_
        refine gx_aload_n (pc := 76) (n := 0) (i := 0) rfl 0 rfl (htX16_propose (76, .aload_n 0, 1) (gx_m 44 rfl)) ?_
        refine gx_aload_n (pc := 77) (n := 0) (i := 0) rfl 0 rfl (htX16_propose (77, .aload_n 0, 1) (gx_m 45 rfl)) ?_
        refine gx_Jgs (pc := 78) (ci := 16) (kk := 31) (t2 := 100) (by decide) (by decide) rfl rfl rfl q1705 (htX16_propose (78, .getfield 80, 3) (gx_m 46 rfl)) ?_
        refine gx_iload_n (pc := 81) (n := 1) (i := 1) rfl 1 rfl (htX16_propose (81, .iload_n 1, 1) (gx_m 47 rfl)) ?_
        refine gx_Jia (pc := 82) (htX16_propose (82, .iaload, 1) (gx_m 48 rfl)) (fun v10 => ?_)
        refine gx_Jci (pc := 83) (gx_hst (as := [gx_i v10]) (b := gx_r 17 (some x0))) (gx_runV (as := [gx_i v10]) (ci := 16) (ct_X16_fromDraft Y x0 v10) (by decide) (Or.inl rfl) rfl rfl rfl rfl q2118 q2120 qs52 q117 q2121 rfl dd_X16_fromDraft (by decide) (by decide) (Nat.le_of_ble_eq_true rfl) (htX16_propose (83, .invokevirtual 536, 3) (gx_m 49 rfl))) (fun v11 => ?_)
        refine gx_Jcv (pc := 86) (gx_hst (as := [gx_i x1, gx_i (v9 + 1), gx_i v11]) (b := gx_r 17 (some x0))) (gx_runV (as := [gx_i x1, gx_i (v9 + 1), gx_i v11]) (ci := 16) (ct_X16_add Y x0 x1 (v9 + 1) v11) (by decide) (Or.inl rfl) rfl rfl rfl rfl q2122 q2124 qs53 q117 q2125 rfl dd_X16_add (by decide) (by decide) (Nat.le_of_ble_eq_true rfl) (htX16_propose (86, .invokevirtual 498, 3) (gx_m 50 rfl))) ?_
        refine gx_aload_n (pc := 89) (n := 0) (i := 0) rfl 0 rfl (htX16_propose (89, .aload_n 0, 1) (gx_m 51 rfl)) ?_
        refine gx_iload_n (pc := 90) (n := 1) (i := 1) rfl 1 rfl (htX16_propose (90, .iload_n 1, 1) (gx_m 52 rfl)) ?_
        refine gx_Jcv (pc := 91) (gx_hst (as := [gx_i x1]) (b := gx_r 17 (some x0))) (gx_runV (as := [gx_i x1]) (ci := 16) (ct_X16_appendAll Y x0 x1) (by decide) (Or.inl rfl) rfl rfl rfl rfl q2130 q2132 qs55 q117 q2133 rfl dd_X16_appendAll (by decide) (by decide) (Nat.le_of_ble_eq_true rfl) (htX16_propose (91, .invokevirtual 501, 3) (gx_m 53 rfl))) ?_
        refine gx_aload_n (pc := 94) (n := 0) (i := 0) rfl 0 rfl (htX16_propose (94, .aload_n 0, 1) (gx_m 54 rfl)) ?_
        refine gx_Jgs (pc := 95) (ci := 16) (kk := 36) (t2 := 100) (by decide) (by decide) rfl rfl rfl q1710 (htX16_propose (95, .getfield 95, 3) (gx_m 55 rfl)) ?_
        refine gx_iload_n (pc := 98) (n := 1) (i := 1) rfl 1 rfl (htX16_propose (98, .iload_n 1, 1) (gx_m 56 rfl)) ?_
        refine gx_Jia (pc := 99) (htX16_propose (99, .iaload, 1) (gx_m 57 rfl)) (fun v12 => ?_)
        exact gx_Jiret (pc := 100) rfl (fun _ => trivial) (fun _ _ => rfl) (htX16_propose (100, .ireturn, 1) (gx_m 58 rfl))
      · refine gx_icmp_eq (pc := 37) (tgt := 55) (by decide) (htX16_propose (37, .if_icmp .eq 18, 3) (gx_m 21 rfl)) (fun c4 => ?_) (fun c4 => ?_)
        · exact hT3
        · refine gx_aload_n (pc := 40) (n := 0) (i := 0) rfl 0 rfl (htX16_propose (40, .aload_n 0, 1) (gx_m 22 rfl)) ?_
          refine gx_Jgi (pc := 41) (ci := 16) (kk := 21) (by decide) (Or.inl rfl) (by decide) (by decide) q1695 (htX16_propose (41, .getfield 321, 3) (gx_m 23 rfl)) (fun v5 hv5 => ?_)
          refine gx_aload_n (pc := 44) (n := 0) (i := 0) rfl 0 rfl (htX16_propose (44, .aload_n 0, 1) (gx_m 24 rfl)) ?_
          refine gx_Jgi (pc := 45) (ci := 16) (kk := 22) (by decide) (Or.inl rfl) (by decide) (by decide) q1696 (htX16_propose (45, .getfield 355, 3) (gx_m 25 rfl)) (fun v6 hv6 => ?_)
          refine gx_iadd (pc := 48) (htX16_propose (48, .iadd, 1) (gx_m 26 rfl)) ?_
          refine gx_ldcw (pc := 49) (v := 40000) rfl q2117 (htX16_propose (49, .ldc_w 535, 3) (gx_m 27 rfl)) ?_
          refine gx_icmp_le (pc := 52) (tgt := 61) (by decide) (htX16_propose (52, .if_icmp .le 9, 3) (gx_m 28 rfl)) (fun c5 => ?_) (fun c5 => ?_)
          · exact hE3
          · exact hT3
    · refine gx_aload_n (pc := 24) (n := 0) (i := 0) rfl 0 rfl (htX16_propose (24, .aload_n 0, 1) (gx_m 14 rfl)) ?_
      refine gx_iconst (pc := 25) (v := 1) (by decide) (htX16_propose (25, .iconst 1, 1) (gx_m 15 rfl)) ?_
      refine gx_Jci (pc := 26) (gx_hst (as := [gx_i 1]) (b := gx_r 17 (some x0))) (gx_runV (as := [gx_i 1]) (ci := 16) (ct_X16_no Y x0 1) (by decide) (Or.inl rfl) rfl rfl rfl rfl q2062 q2064 qs46 q117 q2065 rfl dd_X16_no (by decide) (by decide) (Nat.le_of_ble_eq_true rfl) (htX16_propose (26, .invokevirtual 370, 3) (gx_m 16 rfl))) (fun v13 => ?_)
      exact gx_Jiret (pc := 29) rfl (fun _ => trivial) (fun _ _ => rfl) (htX16_propose (29, .ireturn, 1) (gx_m 17 rfl))
theorem ct_X16_vote (Y : gx_Y) (x0 : gx_Nm) (x1 : Int32) (x2 : Int32) (x3 : Int32) : gx_Ct Y yX16_vote (ws_ yX16_vote cX16_vote 4 none) 2 125 [gx_r 17 (some x0), gx_i x1, gx_i x2, gx_i x3] gx_Ov (f_X16_vote x0 x1 x2 x3) := by
  refine gx_start (lv := [(0, gx_r 17 (some x0)), (1, gx_i x1), (2, gx_i x2), (3, gx_i x3)]) gx_Ov_r pn_X16 (Nat.le_of_ble_eq_true rfl) rfl ?_
  unfold f_X16_vote
  refine gx_aload_n (pc := 0) (n := 0) (i := 0) rfl 0 rfl (htX16_vote (0, .aload_n 0, 1) (gx_m 0 rfl)) ?_
  refine gx_Jgs (pc := 1) (ci := 16) (kk := 31) (t2 := 100) (by decide) (by decide) rfl rfl rfl q1705 (htX16_vote (1, .getfield 80, 3) (gx_m 1 rfl)) ?_
  refine gx_iload_n (pc := 4) (n := 1) (i := 1) rfl 1 rfl (htX16_vote (4, .iload_n 1, 1) (gx_m 2 rfl)) ?_
  refine gx_iload_n (pc := 5) (n := 2) (i := 2) rfl 2 rfl (htX16_vote (5, .iload_n 2, 1) (gx_m 3 rfl)) ?_
  refine gx_Jis (pc := 6) (htX16_vote (6, .iastore, 1) (gx_m 4 rfl)) ?_
  refine gx_aload_n (pc := 7) (n := 0) (i := 0) rfl 0 rfl (htX16_vote (7, .aload_n 0, 1) (gx_m 5 rfl)) ?_
  refine gx_Jgs (pc := 8) (ci := 16) (kk := 32) (t2 := 100) (by decide) (by decide) rfl rfl rfl q1706 (htX16_vote (8, .getfield 83, 3) (gx_m 6 rfl)) ?_
  refine gx_iload_n (pc := 11) (n := 1) (i := 1) rfl 1 rfl (htX16_vote (11, .iload_n 1, 1) (gx_m 7 rfl)) ?_
  refine gx_iload_n (pc := 12) (n := 3) (i := 3) rfl 3 rfl (htX16_vote (12, .iload_n 3, 1) (gx_m 8 rfl)) ?_
  refine gx_Jis (pc := 13) (htX16_vote (13, .iastore, 1) (gx_m 9 rfl)) ?_
  refine gx_aload_n (pc := 14) (n := 0) (i := 0) rfl 0 rfl (htX16_vote (14, .aload_n 0, 1) (gx_m 10 rfl)) ?_
  refine gx_iload_n (pc := 15) (n := 1) (i := 1) rfl 1 rfl (htX16_vote (15, .iload_n 1, 1) (gx_m 11 rfl)) ?_
  refine gx_iconst (pc := 16) (v := 0) (by decide) (htX16_vote (16, .iconst 0, 1) (gx_m 12 rfl)) ?_
  refine gx_iload_n (pc := 17) (n := 2) (i := 2) rfl 2 rfl (htX16_vote (17, .iload_n 2, 1) (gx_m 13 rfl)) ?_
  refine gx_iload_n (pc := 18) (n := 3) (i := 3) rfl 3 rfl (htX16_vote (18, .iload_n 3, 1) (gx_m 14 rfl)) ?_
  refine gx_iconst (pc := 19) (v := 0) (by decide) (htX16_vote (19, .iconst 0, 1) (gx_m 15 rfl)) ?_
  refine gx_Jcv (pc := 20) (gx_hst (as := [gx_i x1, gx_i 0, gx_i x2, gx_i x3, gx_i 0]) (b := gx_r 17 (some x0))) (gx_runV (as := [gx_i x1, gx_i 0, gx_i x2, gx_i x3, gx_i 0]) (ci := 16) (ct_X16_record Y x0 x1 0 x2 x3 0) (by decide) (Or.inl rfl) rfl rfl rfl rfl q2126 q2128 qs54 q117 q2129 rfl dd_X16_record (by decide) (by decide) (Nat.le_of_ble_eq_true rfl) (htX16_vote (20, .invokevirtual 458, 3) (gx_m 16 rfl))) ?_
  exact gx_Jvret (pc := 23) rfl (fun _ => trivial) (fun _ _ => rfl) (htX16_vote (23, .return_, 1) (gx_m 17 rfl))
theorem ct_X16_empty (Y : gx_Y) (x0 : gx_Nm) (x1 : Int32) : gx_Ct Y yX16_empty (ws_ yX16_empty cX16_empty 3 (some .int)) 1 100 [gx_r 17 (some x0), gx_i x1] gx_Oi (f_X16_empty x0 x1) := by
  refine gx_start (lv := [(0, gx_r 17 (some x0)), (1, gx_i x1)]) gx_Oi_r pn_X16 (Nat.le_of_ble_eq_true rfl) rfl ?_
  unfold f_X16_empty
  refine gx_aload_n (pc := 0) (n := 0) (i := 0) rfl 0 rfl (htX16_empty (0, .aload_n 0, 1) (gx_m 0 rfl)) ?_
  refine gx_Jgi (pc := 1) (ci := 16) (kk := 20) (by decide) (Or.inl rfl) (by decide) (by decide) q1694 (htX16_empty (1, .getfield 318, 3) (gx_m 1 rfl)) (fun v1 hv1 => ?_)
  refine gx_istore_n (pc := 4) (n := 2) (i := 2) (lv' := [(2, gx_i v1), (0, gx_r 17 (some x0)), (1, gx_i x1)]) rfl (by decide) rfl (htX16_empty (4, .istore_n 2, 1) (gx_m 2 rfl)) ?_
  refine gx_aload_n (pc := 5) (n := 0) (i := 0) rfl 1 rfl (htX16_empty (5, .aload_n 0, 1) (gx_m 3 rfl)) ?_
  refine gx_dup (pc := 6) rfl (htX16_empty (6, .dup, 1) (gx_m 4 rfl)) ?_
  refine gx_Jgi (pc := 7) (ci := 16) (kk := 20) (by decide) (Or.inl rfl) (by decide) (by decide) q1694 (htX16_empty (7, .getfield 318, 3) (gx_m 5 rfl)) (fun v2 hv2 => ?_)
  refine gx_iconst (pc := 10) (v := 1) (by decide) (htX16_empty (10, .iconst 1, 1) (gx_m 6 rfl)) ?_
  refine gx_iadd (pc := 11) (htX16_empty (11, .iadd, 1) (gx_m 7 rfl)) ?_
  refine gx_Jpi (pc := 12) (ci := 16) (kk := 20) (by decide) (Or.inl rfl) (by decide) rfl rfl q1694 (Or.inl rfl) (htX16_empty (12, .putfield 318, 3) (gx_m 8 rfl)) ?_
  refine gx_aload_n (pc := 15) (n := 0) (i := 0) rfl 1 rfl (htX16_empty (15, .aload_n 0, 1) (gx_m 9 rfl)) ?_
  refine gx_Jgs (pc := 16) (ci := 16) (kk := 8) (t2 := 100) (by decide) (by decide) rfl rfl rfl q1682 (htX16_empty (16, .getfield 19, 3) (gx_m 10 rfl)) ?_
  refine gx_iload_n (pc := 19) (n := 2) (i := 2) rfl 0 rfl (htX16_empty (19, .iload_n 2, 1) (gx_m 11 rfl)) ?_
  refine gx_iload_n (pc := 20) (n := 1) (i := 1) rfl 2 rfl (htX16_empty (20, .iload_n 1, 1) (gx_m 12 rfl)) ?_
  refine gx_Jis (pc := 21) (htX16_empty (21, .iastore, 1) (gx_m 13 rfl)) ?_
  refine gx_aload_n (pc := 22) (n := 0) (i := 0) rfl 1 rfl (htX16_empty (22, .aload_n 0, 1) (gx_m 14 rfl)) ?_
  refine gx_Jgs (pc := 23) (ci := 16) (kk := 9) (t2 := 100) (by decide) (by decide) rfl rfl rfl q1683 (htX16_empty (23, .getfield 23, 3) (gx_m 15 rfl)) ?_
  refine gx_iload_n (pc := 26) (n := 2) (i := 2) rfl 0 rfl (htX16_empty (26, .iload_n 2, 1) (gx_m 16 rfl)) ?_
  refine gx_iconst (pc := 27) (v := 0) (by decide) (htX16_empty (27, .iconst 0, 1) (gx_m 17 rfl)) ?_
  refine gx_Jis (pc := 28) (htX16_empty (28, .iastore, 1) (gx_m 18 rfl)) ?_
  refine gx_aload_n (pc := 29) (n := 0) (i := 0) rfl 1 rfl (htX16_empty (29, .aload_n 0, 1) (gx_m 19 rfl)) ?_
  refine gx_Jgs (pc := 30) (ci := 16) (kk := 10) (t2 := 100) (by decide) (by decide) rfl rfl rfl q1684 (htX16_empty (30, .getfield 26, 3) (gx_m 20 rfl)) ?_
  refine gx_iload_n (pc := 33) (n := 2) (i := 2) rfl 0 rfl (htX16_empty (33, .iload_n 2, 1) (gx_m 21 rfl)) ?_
  refine gx_iconst (pc := 34) (v := 0) (by decide) (htX16_empty (34, .iconst 0, 1) (gx_m 22 rfl)) ?_
  refine gx_Jis (pc := 35) (htX16_empty (35, .iastore, 1) (gx_m 23 rfl)) ?_
  refine gx_aload_n (pc := 36) (n := 0) (i := 0) rfl 1 rfl (htX16_empty (36, .aload_n 0, 1) (gx_m 24 rfl)) ?_
  refine gx_Jgs (pc := 37) (ci := 16) (kk := 11) (t2 := 100) (by decide) (by decide) rfl rfl rfl q1685 (htX16_empty (37, .getfield 29, 3) (gx_m 25 rfl)) ?_
  refine gx_iload_n (pc := 40) (n := 2) (i := 2) rfl 0 rfl (htX16_empty (40, .iload_n 2, 1) (gx_m 26 rfl)) ?_
  refine gx_iconst (pc := 41) (v := 0) (by decide) (htX16_empty (41, .iconst 0, 1) (gx_m 27 rfl)) ?_
  refine gx_Jis (pc := 42) (htX16_empty (42, .iastore, 1) (gx_m 28 rfl)) ?_
  refine gx_iload_n (pc := 43) (n := 2) (i := 2) rfl 0 rfl (htX16_empty (43, .iload_n 2, 1) (gx_m 29 rfl)) ?_
  exact gx_Jiret (pc := 44) rfl (fun _ => trivial) (fun _ _ => rfl) (htX16_empty (44, .ireturn, 1) (gx_m 30 rfl))
theorem ct_X16_lead (Y : gx_Y) (x0 : gx_Nm) (x1 : Int32) : gx_Ct Y yX16_lead (ws_ yX16_lead cX16_lead 3 none) 5 191 [gx_r 17 (some x0), gx_i x1] gx_Ov (f_X16_lead x0 x1) := by
  refine gx_start (lv := [(0, gx_r 17 (some x0)), (1, gx_i x1)]) gx_Ov_r pn_X16 (Nat.le_of_ble_eq_true rfl) rfl ?_
  unfold f_X16_lead
  refine gx_aload_n (pc := 0) (n := 0) (i := 0) rfl 0 rfl (htX16_lead_0 (0, .aload_n 0, 1) (gx_m 0 rfl)) ?_
  refine gx_Jgs (pc := 1) (ci := 16) (kk := 45) (t2 := 100) (by decide) (by decide) rfl rfl rfl q1719 (htX16_lead_0 (1, .getfield 124, 3) (gx_m 1 rfl)) ?_
  refine gx_iload_n (pc := 4) (n := 1) (i := 1) rfl 1 rfl (htX16_lead_0 (4, .iload_n 1, 1) (gx_m 2 rfl)) ?_
  refine gx_iconst (pc := 5) (v := 2) (by decide) (htX16_lead_0 (5, .iconst 2, 1) (gx_m 3 rfl)) ?_
  refine gx_Jis (pc := 6) (htX16_lead_0 (6, .iastore, 1) (gx_m 4 rfl)) ?_
  refine gx_aload_n (pc := 7) (n := 0) (i := 0) rfl 0 rfl (htX16_lead_0 (7, .aload_n 0, 1) (gx_m 5 rfl)) ?_
  refine gx_Jgs (pc := 8) (ci := 16) (kk := 46) (t2 := 100) (by decide) (by decide) rfl rfl rfl q1720 (htX16_lead_0 (8, .getfield 127, 3) (gx_m 6 rfl)) ?_
  refine gx_iload_n (pc := 11) (n := 1) (i := 1) rfl 1 rfl (htX16_lead_0 (11, .iload_n 1, 1) (gx_m 7 rfl)) ?_
  refine gx_iload_n (pc := 12) (n := 1) (i := 1) rfl 1 rfl (htX16_lead_0 (12, .iload_n 1, 1) (gx_m 8 rfl)) ?_
  refine gx_Jis (pc := 13) (htX16_lead_0 (13, .iastore, 1) (gx_m 9 rfl)) ?_
  refine gx_aload_n (pc := 14) (n := 0) (i := 0) rfl 0 rfl (htX16_lead_0 (14, .aload_n 0, 1) (gx_m 10 rfl)) ?_
  refine gx_Jgs (pc := 15) (ci := 16) (kk := 95) (t2 := 100) (by decide) (by decide) rfl rfl rfl q1769 (htX16_lead_0 (15, .getfield 261, 3) (gx_m 11 rfl)) ?_
  refine gx_aload_n (pc := 18) (n := 0) (i := 0) rfl 0 rfl (htX16_lead_0 (18, .aload_n 0, 1) (gx_m 12 rfl)) ?_
  refine gx_Jgs (pc := 19) (ci := 16) (kk := 31) (t2 := 100) (by decide) (by decide) rfl rfl rfl q1705 (htX16_lead_0 (19, .getfield 80, 3) (gx_m 13 rfl)) ?_
  refine gx_iload_n (pc := 22) (n := 1) (i := 1) rfl 1 rfl (htX16_lead_0 (22, .iload_n 1, 1) (gx_m 14 rfl)) ?_
  refine gx_Jia (pc := 23) (htX16_lead_0 (23, .iaload, 1) (gx_m 15 rfl)) (fun v1 => ?_)
  refine gx_Jia (pc := 24) (htX16_lead_0 (24, .iaload, 1) (gx_m 16 rfl)) (fun v2 => ?_)
  refine gx_Jjoin (pcJ := 68) (lvJ := fun (j_1 : Unit) => [(0, gx_r 17 (some x0)), (1, gx_i x1)]) (stJ := fun (j_1 : Unit) => []) (fun _ => True) (fun j_1 hj_1 => ?_) (fun kk1 hj1 => ?_)
  · refine gx_iconst (pc := 68) (v := 0) (by decide) (htX16_lead_0 (68, .iconst 0, 1) (gx_m 42 rfl)) ?_
    refine gx_istore_n (pc := 69) (n := 2) (i := 2) (lv' := [(2, gx_i 0), (0, gx_r 17 (some x0)), (1, gx_i x1)]) rfl (by decide) rfl (htX16_lead_0 (69, .istore_n 2, 1) (gx_m 43 rfl)) ?_
    refine gx_Jjoin (pcJ := 118) (lvJ := fun (j_2 : Unit) => [(0, gx_r 17 (some x0)), (1, gx_i x1)]) (stJ := fun (j_2 : Unit) => []) (fun _ => True) (fun j_2 _ => ?_) (fun kk2 hj2 => ?_)
    · refine gx_aload_n (pc := 118) (n := 0) (i := 0) rfl 0 rfl (htX16_lead_0 (118, .aload_n 0, 1) (gx_m 76 rfl)) ?_
      refine gx_Jgs (pc := 119) (ci := 16) (kk := 51) (t2 := 100) (by decide) (by decide) rfl rfl rfl q1725 (htX16_lead_0 (119, .getfield 142, 3) (gx_m 77 rfl)) ?_
      refine gx_iload_n (pc := 122) (n := 1) (i := 1) rfl 1 rfl (htX16_lead_0 (122, .iload_n 1, 1) (gx_m 78 rfl)) ?_
      refine gx_iconst (pc := 123) (v := 0) (by decide) (htX16_lead_0 (123, .iconst 0, 1) (gx_m 79 rfl)) ?_
      refine gx_Jis (pc := 124) (htX16_lead_0 (124, .iastore, 1) (gx_m 80 rfl)) ?_
      refine gx_aload_n (pc := 125) (n := 0) (i := 0) rfl 0 rfl (htX16_lead_0 (125, .aload_n 0, 1) (gx_m 81 rfl)) ?_
      refine gx_Jgs (pc := 126) (ci := 16) (kk := 52) (t2 := 100) (by decide) (by decide) rfl rfl rfl q1726 (htX16_lead_0 (126, .getfield 145, 3) (gx_m 82 rfl)) ?_
      refine gx_iload_n (pc := 129) (n := 1) (i := 1) rfl 1 rfl (htX16_lead_0 (129, .iload_n 1, 1) (gx_m 83 rfl)) ?_
      refine gx_iconst (pc := 130) (v := 0) (by decide) (htX16_lead_0 (130, .iconst 0, 1) (gx_m 84 rfl)) ?_
      refine gx_Jis (pc := 131) (htX16_lead_0 (131, .iastore, 1) (gx_m 85 rfl)) ?_
      refine gx_aload_n (pc := 132) (n := 0) (i := 0) rfl 0 rfl (htX16_lead_0 (132, .aload_n 0, 1) (gx_m 86 rfl)) ?_
      refine gx_Jgs (pc := 133) (ci := 16) (kk := 94) (t2 := 100) (by decide) (by decide) rfl rfl rfl q1768 (htX16_lead_0 (133, .getfield 258, 3) (gx_m 87 rfl)) ?_
      refine gx_iload_n (pc := 136) (n := 1) (i := 1) rfl 1 rfl (htX16_lead_0 (136, .iload_n 1, 1) (gx_m 88 rfl)) ?_
      refine gx_iconst (pc := 137) (v := 0) (by decide) (htX16_lead_0 (137, .iconst 0, 1) (gx_m 89 rfl)) ?_
      refine gx_Jis (pc := 138) (htX16_lead_0 (138, .iastore, 1) (gx_m 90 rfl)) ?_
      refine gx_aload_n (pc := 139) (n := 0) (i := 0) rfl 0 rfl (htX16_lead_0 (139, .aload_n 0, 1) (gx_m 91 rfl)) ?_
      refine gx_iload_n (pc := 140) (n := 1) (i := 1) rfl 1 rfl (htX16_lead_0 (140, .iload_n 1, 1) (gx_m 92 rfl)) ?_
      refine gx_aload_n (pc := 141) (n := 0) (i := 0) rfl 0 rfl (htX16_lead_0 (141, .aload_n 0, 1) (gx_m 93 rfl)) ?_
      refine gx_Jgs (pc := 142) (ci := 16) (kk := 36) (t2 := 100) (by decide) (by decide) rfl rfl rfl q1710 (htX16_lead_0 (142, .getfield 95, 3) (gx_m 94 rfl)) ?_
      refine gx_iload_n (pc := 145) (n := 1) (i := 1) rfl 1 rfl (htX16_lead_0 (145, .iload_n 1, 1) (gx_m 95 rfl)) ?_
      refine gx_Jia (pc := 146) (htX16_lead_0 (146, .iaload, 1) (gx_m 96 rfl)) (fun v13 => ?_)
      refine gx_iconst (pc := 147) (v := 1) (by decide) (htX16_lead_0 (147, .iconst 1, 1) (gx_m 97 rfl)) ?_
      refine gx_iadd (pc := 148) (htX16_lead_0 (148, .iadd, 1) (gx_m 98 rfl)) ?_
      refine gx_aload_n (pc := 149) (n := 0) (i := 0) rfl 0 rfl (htX16_lead_0 (149, .aload_n 0, 1) (gx_m 99 rfl)) ?_
      refine gx_aload_n (pc := 150) (n := 0) (i := 0) rfl 0 rfl (htX16_lead_1 (150, .aload_n 0, 1) (gx_m 0 rfl)) ?_
      refine gx_Jgs (pc := 151) (ci := 16) (kk := 31) (t2 := 100) (by decide) (by decide) rfl rfl rfl q1705 (htX16_lead_1 (151, .getfield 80, 3) (gx_m 1 rfl)) ?_
      refine gx_iload_n (pc := 154) (n := 1) (i := 1) rfl 1 rfl (htX16_lead_1 (154, .iload_n 1, 1) (gx_m 2 rfl)) ?_
      refine gx_Jia (pc := 155) (htX16_lead_1 (155, .iaload, 1) (gx_m 3 rfl)) (fun v14 => ?_)
      refine gx_Jci (pc := 156) (gx_hst (as := [gx_i v14]) (b := gx_r 17 (some x0))) (gx_runV (as := [gx_i v14]) (ci := 16) (ct_X16_empty Y x0 v14) (by decide) (Or.inl rfl) rfl rfl rfl rfl q2166 q2168 qs63 q117 q2169 rfl dd_X16_empty (by decide) (by decide) (Nat.le_of_ble_eq_true rfl) (htX16_lead_1 (156, .invokevirtual 495, 3) (gx_m 4 rfl))) (fun v15 => ?_)
      refine gx_Jcv (pc := 159) (gx_hst (as := [gx_i x1, gx_i (v13 + 1), gx_i v15]) (b := gx_r 17 (some x0))) (gx_runV (as := [gx_i x1, gx_i (v13 + 1), gx_i v15]) (ci := 16) (ct_X16_add Y x0 x1 (v13 + 1) v15) (by decide) (Or.inl rfl) rfl rfl rfl rfl q2122 q2124 qs53 q117 q2125 rfl dd_X16_add (by decide) (by decide) (Nat.le_of_ble_eq_true rfl) (htX16_lead_1 (159, .invokevirtual 498, 3) (gx_m 5 rfl))) ?_
      refine gx_aload_n (pc := 162) (n := 0) (i := 0) rfl 0 rfl (htX16_lead_1 (162, .aload_n 0, 1) (gx_m 6 rfl)) ?_
      refine gx_iload_n (pc := 163) (n := 1) (i := 1) rfl 1 rfl (htX16_lead_1 (163, .iload_n 1, 1) (gx_m 7 rfl)) ?_
      refine gx_Jcv (pc := 164) (gx_hst (as := [gx_i x1]) (b := gx_r 17 (some x0))) (gx_runV (as := [gx_i x1]) (ci := 16) (ct_X16_appendAll Y x0 x1) (by decide) (Or.inl rfl) rfl rfl rfl rfl q2130 q2132 qs55 q117 q2133 rfl dd_X16_appendAll (by decide) (by decide) (Nat.le_of_ble_eq_true rfl) (htX16_lead_1 (164, .invokevirtual 501, 3) (gx_m 8 rfl))) ?_
      exact gx_Jvret (pc := 167) rfl (fun _ => trivial) (fun _ _ => rfl) (htX16_lead_1 (167, .return_, 1) (gx_m 9 rfl))
    · refine gx_Jw (lv := [(0, gx_r 17 (some x0)), (1, gx_i x1), (2, gx_i 0)]) [1, 2, 0] rfl ?_
      refine gx_Jlp (pc := 70) (lvh := fun (s7 : Int32) => [(0, gx_r 17 (some x0)), (1, gx_i x1), (2, gx_i s7)]) (fun s7 kl2 ha2 hb2 => ?_) _
      unfold lb_X16_lead_1
      refine gx_iload_n (pc := 70) (n := 2) (i := 2) rfl 2 rfl (htX16_lead_0 (70, .iload_n 2, 1) (gx_m 44 rfl)) ?_
      refine gx_aload_n (pc := 71) (n := 0) (i := 0) rfl 0 rfl (htX16_lead_0 (71, .aload_n 0, 1) (gx_m 45 rfl)) ?_
      refine gx_Jgi (pc := 72) (ci := 16) (kk := 29) (by decide) (Or.inl rfl) (by decide) (by decide) q1703 (htX16_lead_0 (72, .getfield 315, 3) (gx_m 46 rfl)) (fun v8 hv8 => ?_)
      refine gx_icmp_ge (pc := 75) (tgt := 118) (by decide) (htX16_lead_0 (75, .if_icmp .ge 43, 3) (gx_m 47 rfl)) (fun c3 => ?_) (fun c3 => ?_)
      · refine gx_Jw (lv := [(0, gx_r 17 (some x0)), (1, gx_i x1)]) [0, 1] rfl ?_
        exact gx_Jout hb2 (hj2 () trivial)
      · refine gx_aload_n (pc := 78) (n := 0) (i := 0) rfl 0 rfl (htX16_lead_0 (78, .aload_n 0, 1) (gx_m 48 rfl)) ?_
        refine gx_Jgs (pc := 79) (ci := 16) (kk := 53) (t2 := 105) (by decide) (by decide) rfl rfl rfl q1727 (htX16_lead_0 (79, .getfield 148, 3) (gx_m 49 rfl)) ?_
        refine gx_iload_n (pc := 82) (n := 1) (i := 1) rfl 1 rfl (htX16_lead_0 (82, .iload_n 1, 1) (gx_m 50 rfl)) ?_
        refine gx_Jra (pc := 83) (t := 5) (t2 := 100) (by decide) (by decide) rfl (htX16_lead_0 (83, .aaload, 1) (gx_m 51 rfl)) (fun v9 => ?_)
        refine gx_iload_n (pc := 84) (n := 2) (i := 2) rfl 2 rfl (htX16_lead_0 (84, .iload_n 2, 1) (gx_m 52 rfl)) ?_
        refine gx_aload_n (pc := 85) (n := 0) (i := 0) rfl 0 rfl (htX16_lead_0 (85, .aload_n 0, 1) (gx_m 53 rfl)) ?_
        refine gx_Jgs (pc := 86) (ci := 16) (kk := 36) (t2 := 100) (by decide) (by decide) rfl rfl rfl q1710 (htX16_lead_0 (86, .getfield 95, 3) (gx_m 54 rfl)) ?_
        refine gx_iload_n (pc := 89) (n := 1) (i := 1) rfl 1 rfl (htX16_lead_0 (89, .iload_n 1, 1) (gx_m 55 rfl)) ?_
        refine gx_Jia (pc := 90) (htX16_lead_0 (90, .iaload, 1) (gx_m 56 rfl)) (fun v10 => ?_)
        refine gx_iconst (pc := 91) (v := 1) (by decide) (htX16_lead_0 (91, .iconst 1, 1) (gx_m 57 rfl)) ?_
        refine gx_iadd (pc := 92) (htX16_lead_0 (92, .iadd, 1) (gx_m 58 rfl)) ?_
        refine gx_Jis (pc := 93) (htX16_lead_0 (93, .iastore, 1) (gx_m 59 rfl)) ?_
        refine gx_aload_n (pc := 94) (n := 0) (i := 0) rfl 0 rfl (htX16_lead_0 (94, .aload_n 0, 1) (gx_m 60 rfl)) ?_
        refine gx_Jgs (pc := 95) (ci := 16) (kk := 54) (t2 := 105) (by decide) (by decide) rfl rfl rfl q1728 (htX16_lead_0 (95, .getfield 151, 3) (gx_m 61 rfl)) ?_
        refine gx_iload_n (pc := 98) (n := 1) (i := 1) rfl 1 rfl (htX16_lead_0 (98, .iload_n 1, 1) (gx_m 62 rfl)) ?_
        refine gx_Jra (pc := 99) (t := 5) (t2 := 100) (by decide) (by decide) rfl (htX16_lead_0 (99, .aaload, 1) (gx_m 63 rfl)) (fun v11 => ?_)
        refine gx_iload_n (pc := 100) (n := 2) (i := 2) rfl 2 rfl (htX16_lead_0 (100, .iload_n 2, 1) (gx_m 64 rfl)) ?_
        refine gx_iconst (pc := 101) (v := 0) (by decide) (htX16_lead_0 (101, .iconst 0, 1) (gx_m 65 rfl)) ?_
        refine gx_Jis (pc := 102) (htX16_lead_0 (102, .iastore, 1) (gx_m 66 rfl)) ?_
        refine gx_aload_n (pc := 103) (n := 0) (i := 0) rfl 0 rfl (htX16_lead_0 (103, .aload_n 0, 1) (gx_m 67 rfl)) ?_
        refine gx_Jgs (pc := 104) (ci := 16) (kk := 55) (t2 := 105) (by decide) (by decide) rfl rfl rfl q1729 (htX16_lead_0 (104, .getfield 154, 3) (gx_m 68 rfl)) ?_
        refine gx_iload_n (pc := 107) (n := 1) (i := 1) rfl 1 rfl (htX16_lead_0 (107, .iload_n 1, 1) (gx_m 69 rfl)) ?_
        refine gx_Jra (pc := 108) (t := 5) (t2 := 100) (by decide) (by decide) rfl (htX16_lead_0 (108, .aaload, 1) (gx_m 70 rfl)) (fun v12 => ?_)
        refine gx_iload_n (pc := 109) (n := 2) (i := 2) rfl 2 rfl (htX16_lead_0 (109, .iload_n 2, 1) (gx_m 71 rfl)) ?_
        refine gx_iconst (pc := 110) (v := 0) (by decide) (htX16_lead_0 (110, .iconst 0, 1) (gx_m 72 rfl)) ?_
        refine gx_Jis (pc := 111) (htX16_lead_0 (111, .iastore, 1) (gx_m 73 rfl)) ?_
        refine gx_iinc (pc := 112) (i := 2) (j := 2) (v := (s7 + 1)) (lv' := [(2, gx_i (s7 + 1)), (0, gx_r 17 (some x0)), (1, gx_i x1)]) rfl (gx_iv (by decide)) (by decide) rfl (htX16_lead_0 (112, .iinc 2 1, 3) (gx_m 74 rfl)) ?_
        refine gx_goto (pc := 115) (tgt := 70) (by decide) (htX16_lead_0 (115, .goto (-45), 3) (gx_m 75 rfl)) ?_
        refine gx_Jw (lv := [(0, gx_r 17 (some x0)), (1, gx_i x1), (2, gx_i (s7 + 1))]) [1, 2, 0] rfl ?_
        exact ha2 ((s7 + 1) : Int32)
  · refine gx_if_ge (pc := 25) (y := 0) (tgt := 43) (by decide) (htX16_lead_0 (25, .ifCond .ge 18, 3) (gx_m 17 rfl)) (fun c4 => ?_) (fun c4 => ?_)
    · refine gx_aload_n (pc := 43) (n := 0) (i := 0) rfl 0 rfl (htX16_lead_0 (43, .aload_n 0, 1) (gx_m 27 rfl)) ?_
      refine gx_Jgs (pc := 44) (ci := 16) (kk := 95) (t2 := 100) (by decide) (by decide) rfl rfl rfl q1769 (htX16_lead_0 (44, .getfield 261, 3) (gx_m 28 rfl)) ?_
      refine gx_aload_n (pc := 47) (n := 0) (i := 0) rfl 0 rfl (htX16_lead_0 (47, .aload_n 0, 1) (gx_m 29 rfl)) ?_
      refine gx_Jgs (pc := 48) (ci := 16) (kk := 31) (t2 := 100) (by decide) (by decide) rfl rfl rfl q1705 (htX16_lead_0 (48, .getfield 80, 3) (gx_m 30 rfl)) ?_
      refine gx_iload_n (pc := 51) (n := 1) (i := 1) rfl 1 rfl (htX16_lead_0 (51, .iload_n 1, 1) (gx_m 31 rfl)) ?_
      refine gx_Jia (pc := 52) (htX16_lead_0 (52, .iaload, 1) (gx_m 32 rfl)) (fun v3 => ?_)
      refine gx_Jia (pc := 53) (htX16_lead_0 (53, .iaload, 1) (gx_m 33 rfl)) (fun v4 => ?_)
      refine gx_iload_n (pc := 54) (n := 1) (i := 1) rfl 1 rfl (htX16_lead_0 (54, .iload_n 1, 1) (gx_m 34 rfl)) ?_
      refine gx_icmp_eq (pc := 55) (tgt := 68) (by decide) (htX16_lead_0 (55, .if_icmp .eq 13, 3) (gx_m 35 rfl)) (fun c5 => ?_) (fun c5 => ?_)
      · exact hj1 () trivial
      · refine gx_aload_n (pc := 58) (n := 0) (i := 0) rfl 0 rfl (htX16_lead_0 (58, .aload_n 0, 1) (gx_m 36 rfl)) ?_
        refine gx_dup (pc := 59) rfl (htX16_lead_0 (59, .dup, 1) (gx_m 37 rfl)) ?_
        refine gx_Jgi (pc := 60) (ci := 16) (kk := 96) (by decide) (Or.inl rfl) (by decide) (by decide) q1770 (htX16_lead_0 (60, .getfield 342, 3) (gx_m 38 rfl)) (fun v5 hv5 => ?_)
        refine gx_iconst (pc := 63) (v := 1) (by decide) (htX16_lead_0 (63, .iconst 1, 1) (gx_m 39 rfl)) ?_
        refine gx_iadd (pc := 64) (htX16_lead_0 (64, .iadd, 1) (gx_m 40 rfl)) ?_
        refine gx_Jpi (pc := 65) (ci := 16) (kk := 96) (by decide) (Or.inl rfl) (by decide) rfl rfl q1770 (Or.inl rfl) (htX16_lead_0 (65, .putfield 342, 3) (gx_m 41 rfl)) ?_
        exact hj1 () trivial
    · refine gx_aload_n (pc := 28) (n := 0) (i := 0) rfl 0 rfl (htX16_lead_0 (28, .aload_n 0, 1) (gx_m 18 rfl)) ?_
      refine gx_Jgs (pc := 29) (ci := 16) (kk := 95) (t2 := 100) (by decide) (by decide) rfl rfl rfl q1769 (htX16_lead_0 (29, .getfield 261, 3) (gx_m 19 rfl)) ?_
      refine gx_aload_n (pc := 32) (n := 0) (i := 0) rfl 0 rfl (htX16_lead_0 (32, .aload_n 0, 1) (gx_m 20 rfl)) ?_
      refine gx_Jgs (pc := 33) (ci := 16) (kk := 31) (t2 := 100) (by decide) (by decide) rfl rfl rfl q1705 (htX16_lead_0 (33, .getfield 80, 3) (gx_m 21 rfl)) ?_
      refine gx_iload_n (pc := 36) (n := 1) (i := 1) rfl 1 rfl (htX16_lead_0 (36, .iload_n 1, 1) (gx_m 22 rfl)) ?_
      refine gx_Jia (pc := 37) (htX16_lead_0 (37, .iaload, 1) (gx_m 23 rfl)) (fun v6 => ?_)
      refine gx_iload_n (pc := 38) (n := 1) (i := 1) rfl 1 rfl (htX16_lead_0 (38, .iload_n 1, 1) (gx_m 24 rfl)) ?_
      refine gx_Jis (pc := 39) (htX16_lead_0 (39, .iastore, 1) (gx_m 25 rfl)) ?_
      refine gx_goto (pc := 40) (tgt := 68) (by decide) (htX16_lead_0 (40, .goto 28, 3) (gx_m 26 rfl)) ?_
      exact hj1 () trivial
theorem ct_X16_rise (Y : gx_Y) (x0 : gx_Nm) (x1 : Int32) : gx_Ct Y yX16_rise (ws_ yX16_rise cX16_rise 4 none) 6 213 [gx_r 17 (some x0), gx_i x1] gx_Ov (f_X16_rise x0 x1) := by
  refine gx_start (lv := [(0, gx_r 17 (some x0)), (1, gx_i x1)]) gx_Ov_r pn_X16 (Nat.le_of_ble_eq_true rfl) rfl ?_
  unfold f_X16_rise
  refine gx_aload_n (pc := 0) (n := 0) (i := 0) rfl 0 rfl (htX16_rise_0 (0, .aload_n 0, 1) (gx_m 0 rfl)) ?_
  refine gx_aload_n (pc := 1) (n := 0) (i := 0) rfl 0 rfl (htX16_rise_0 (1, .aload_n 0, 1) (gx_m 1 rfl)) ?_
  refine gx_iload_n (pc := 2) (n := 1) (i := 1) rfl 1 rfl (htX16_rise_0 (2, .iload_n 1, 1) (gx_m 2 rfl)) ?_
  refine gx_Jcz (pc := 3) (gx_hst (as := [gx_i x1]) (b := gx_r 17 (some x0))) (gx_runV (as := [gx_i x1]) (ci := 16) (ct_X16_up Y x0 x1) (by decide) (Or.inl rfl) rfl rfl rfl rfl q2113 q2115 qs51 q117 q2116 rfl dd_X16_up (by decide) (by decide) (Nat.le_of_ble_eq_true rfl) (htX16_rise_0 (3, .invokevirtual 532, 3) (gx_m 3 rfl))) (fun v1 hv1 => ?_)
  refine gx_Jjoin (pcJ := 50) (lvJ := fun (j5 : Int32) => [(0, gx_r 17 (some x0)), (1, gx_i x1)]) (stJ := fun (j5 : Int32) => [gx_i j5, gx_r 17 (some x0)]) (fun _ => True) (fun j5 hj5 => ?_) (fun kk1 hj1 => ?_)
  · refine gx_Jpi (pc := 50) (ci := 16) (kk := 0) (by decide) (Or.inl rfl) (by decide) rfl rfl q1674 (Or.inl rfl) (htX16_rise_0 (50, .putfield 312, 3) (gx_m 26 rfl)) ?_
    refine gx_aload_n (pc := 53) (n := 0) (i := 0) rfl 0 rfl (htX16_rise_0 (53, .aload_n 0, 1) (gx_m 27 rfl)) ?_
    refine gx_Jgi (pc := 54) (ci := 16) (kk := 0) (by decide) (Or.inl rfl) (by decide) (by decide) q1674 (htX16_rise_0 (54, .getfield 312, 3) (gx_m 28 rfl)) (fun v6 hv6 => ?_)
    refine gx_if_eq (pc := 57) (y := 0) (tgt := 61) (by decide) (htX16_rise_0 (57, .ifCond .eq 4, 3) (gx_m 29 rfl)) (fun c2 => ?_) (fun c2 => ?_)
    · refine gx_aload_n (pc := 61) (n := 0) (i := 0) rfl 0 rfl (htX16_rise_0 (61, .aload_n 0, 1) (gx_m 31 rfl)) ?_
      refine gx_iload_n (pc := 62) (n := 1) (i := 1) rfl 1 rfl (htX16_rise_0 (62, .iload_n 1, 1) (gx_m 32 rfl)) ?_
      refine gx_aload_n (pc := 63) (n := 0) (i := 0) rfl 0 rfl (htX16_rise_0 (63, .aload_n 0, 1) (gx_m 33 rfl)) ?_
      refine gx_Jgs (pc := 64) (ci := 16) (kk := 31) (t2 := 100) (by decide) (by decide) rfl rfl rfl q1705 (htX16_rise_0 (64, .getfield 80, 3) (gx_m 34 rfl)) ?_
      refine gx_iload_n (pc := 67) (n := 1) (i := 1) rfl 1 rfl (htX16_rise_0 (67, .iload_n 1, 1) (gx_m 35 rfl)) ?_
      refine gx_Jia (pc := 68) (htX16_rise_0 (68, .iaload, 1) (gx_m 36 rfl)) (fun v7 => ?_)
      refine gx_iconst (pc := 69) (v := 1) (by decide) (htX16_rise_0 (69, .iconst 1, 1) (gx_m 37 rfl)) ?_
      refine gx_iadd (pc := 70) (htX16_rise_0 (70, .iadd, 1) (gx_m 38 rfl)) ?_
      refine gx_iload_n (pc := 71) (n := 1) (i := 1) rfl 1 rfl (htX16_rise_0 (71, .iload_n 1, 1) (gx_m 39 rfl)) ?_
      refine gx_Jcv (pc := 72) (gx_hst (as := [gx_i x1, gx_i (v7 + 1), gx_i x1]) (b := gx_r 17 (some x0))) (gx_runV (as := [gx_i x1, gx_i (v7 + 1), gx_i x1]) (ci := 16) (ct_X16_vote Y x0 x1 (v7 + 1) x1) (by decide) (Or.inl rfl) rfl rfl rfl rfl q2158 q2160 qs61 q117 q2161 rfl dd_X16_vote (by decide) (by decide) (Nat.le_of_ble_eq_true rfl) (htX16_rise_0 (72, .invokevirtual 482, 3) (gx_m 40 rfl))) ?_
      refine gx_aload_n (pc := 75) (n := 0) (i := 0) rfl 0 rfl (htX16_rise_0 (75, .aload_n 0, 1) (gx_m 41 rfl)) ?_
      refine gx_Jgs (pc := 76) (ci := 16) (kk := 46) (t2 := 100) (by decide) (by decide) rfl rfl rfl q1720 (htX16_rise_0 (76, .getfield 127, 3) (gx_m 42 rfl)) ?_
      refine gx_iload_n (pc := 79) (n := 1) (i := 1) rfl 1 rfl (htX16_rise_0 (79, .iload_n 1, 1) (gx_m 43 rfl)) ?_
      refine gx_iconst (pc := 80) (v := (-1)) (by decide) (htX16_rise_0 (80, .iconst (-1), 1) (gx_m 44 rfl)) ?_
      refine gx_Jis (pc := 81) (htX16_rise_0 (81, .iastore, 1) (gx_m 45 rfl)) ?_
      refine gx_aload_n (pc := 82) (n := 0) (i := 0) rfl 0 rfl (htX16_rise_0 (82, .aload_n 0, 1) (gx_m 46 rfl)) ?_
      refine gx_Jgs (pc := 83) (ci := 16) (kk := 45) (t2 := 100) (by decide) (by decide) rfl rfl rfl q1719 (htX16_rise_0 (83, .getfield 124, 3) (gx_m 47 rfl)) ?_
      refine gx_iload_n (pc := 86) (n := 1) (i := 1) rfl 1 rfl (htX16_rise_0 (86, .iload_n 1, 1) (gx_m 48 rfl)) ?_
      refine gx_iconst (pc := 87) (v := 1) (by decide) (htX16_rise_0 (87, .iconst 1, 1) (gx_m 49 rfl)) ?_
      refine gx_Jis (pc := 88) (htX16_rise_0 (88, .iastore, 1) (gx_m 50 rfl)) ?_
      refine gx_iconst (pc := 89) (v := 0) (by decide) (htX16_rise_0 (89, .iconst 0, 1) (gx_m 51 rfl)) ?_
      refine gx_istore_n (pc := 90) (n := 2) (i := 2) (lv' := [(2, gx_i 0), (0, gx_r 17 (some x0)), (1, gx_i x1)]) rfl (by decide) rfl (htX16_rise_0 (90, .istore_n 2, 1) (gx_m 52 rfl)) ?_
      refine gx_Jjoin (pcJ := 123) (lvJ := fun (j_3 : Unit) => [(0, gx_r 17 (some x0)), (1, gx_i x1)]) (stJ := fun (j_3 : Unit) => []) (fun _ => True) (fun j_3 _ => ?_) (fun kk3 hj3 => ?_)
      · refine gx_iconst (pc := 123) (v := 0) (by decide) (htX16_rise_0 (123, .iconst 0, 1) (gx_m 71 rfl)) ?_
        refine gx_istore_n (pc := 124) (n := 2) (i := 2) (lv' := [(2, gx_i 0), (0, gx_r 17 (some x0)), (1, gx_i x1)]) rfl (by decide) rfl (htX16_rise_0 (124, .istore_n 2, 1) (gx_m 72 rfl)) ?_
        refine gx_Jjoin (pcJ := 189) (lvJ := fun (j_4 : Unit) => [(0, gx_r 17 (some x0)), (1, gx_i x1)]) (stJ := fun (j_4 : Unit) => []) (fun _ => True) (fun j_4 _ => ?_) (fun kk4 hj4 => ?_)
        · refine gx_aload_n (pc := 189) (n := 0) (i := 0) rfl 0 rfl (htX16_rise_1 (189, .aload_n 0, 1) (gx_m 11 rfl)) ?_
          refine gx_Jgi (pc := 190) (ci := 16) (kk := 29) (by decide) (Or.inl rfl) (by decide) (by decide) q1703 (htX16_rise_1 (190, .getfield 315, 3) (gx_m 12 rfl)) (fun v18 hv18 => ?_)
          refine gx_iconst (pc := 193) (v := 1) (by decide) (htX16_rise_1 (193, .iconst 1, 1) (gx_m 13 rfl)) ?_
          refine gx_Jjoin (pcJ := 202) (lvJ := fun (j_5 : Unit) => []) (stJ := fun (j_5 : Unit) => []) (fun _ => True) (fun j_5 hj_5 => ?_) (fun kk5 hj5 => ?_)
          · exact gx_Jvret (pc := 202) rfl (fun _ => trivial) (fun _ _ => rfl) (htX16_rise_1 (202, .return_, 1) (gx_m 18 rfl))
          · refine gx_icmp_ne (pc := 194) (tgt := 202) (by decide) (htX16_rise_1 (194, .if_icmp .ne 8, 3) (gx_m 14 rfl)) (fun c6 => ?_) (fun c6 => ?_)
            · refine gx_aload_n (pc := 197) (n := 0) (i := 0) rfl 0 rfl (htX16_rise_1 (197, .aload_n 0, 1) (gx_m 15 rfl)) ?_
              refine gx_iload_n (pc := 198) (n := 1) (i := 1) rfl 1 rfl (htX16_rise_1 (198, .iload_n 1, 1) (gx_m 16 rfl)) ?_
              refine gx_Jcv (pc := 199) (gx_hst (as := [gx_i x1]) (b := gx_r 17 (some x0))) (gx_runV (as := [gx_i x1]) (ci := 16) (ct_X16_lead Y x0 x1) (by decide) (Or.inl rfl) rfl rfl rfl rfl q2162 q2164 qs62 q117 q2165 rfl dd_X16_lead (by decide) (by decide) (Nat.le_of_ble_eq_true rfl) (htX16_rise_1 (199, .invokevirtual 519, 3) (gx_m 17 rfl))) ?_
              refine gx_Jw (lv := []) [] rfl ?_
              exact hj5 () trivial
            · refine gx_Jw (lv := []) [] rfl ?_
              exact hj5 () trivial
        · refine gx_Jw (lv := [(0, gx_r 17 (some x0)), (1, gx_i x1), (2, gx_i 0)]) [1, 2, 0] rfl ?_
          refine gx_Jlp (pc := 125) (lvh := fun (s12 : Int32) => [(0, gx_r 17 (some x0)), (1, gx_i x1), (2, gx_i s12)]) (fun s12 kl4 ha4 hb4 => ?_) _
          unfold lb_X16_rise_2
          refine gx_iload_n (pc := 125) (n := 2) (i := 2) rfl 2 rfl (htX16_rise_0 (125, .iload_n 2, 1) (gx_m 73 rfl)) ?_
          refine gx_aload_n (pc := 126) (n := 0) (i := 0) rfl 0 rfl (htX16_rise_0 (126, .aload_n 0, 1) (gx_m 74 rfl)) ?_
          refine gx_Jgi (pc := 127) (ci := 16) (kk := 29) (by decide) (Or.inl rfl) (by decide) (by decide) q1703 (htX16_rise_0 (127, .getfield 315, 3) (gx_m 75 rfl)) (fun v13 hv13 => ?_)
          refine gx_icmp_ge (pc := 130) (tgt := 189) (by decide) (htX16_rise_0 (130, .if_icmp .ge 59, 3) (gx_m 76 rfl)) (fun c7 => ?_) (fun c7 => ?_)
          · refine gx_Jw (lv := [(0, gx_r 17 (some x0)), (1, gx_i x1)]) [0, 1] rfl ?_
            exact gx_Jout hb4 (hj4 () trivial)
          · refine gx_iload_n (pc := 133) (n := 2) (i := 2) rfl 2 rfl (htX16_rise_0 (133, .iload_n 2, 1) (gx_m 77 rfl)) ?_
            refine gx_iload_n (pc := 134) (n := 1) (i := 1) rfl 1 rfl (htX16_rise_0 (134, .iload_n 1, 1) (gx_m 78 rfl)) ?_
            refine gx_Jjoin (pcJ := 183) (lvJ := fun (j_8 : Unit) => [(0, gx_r 17 (some x0)), (1, gx_i x1), (2, gx_i s12)]) (stJ := fun (j_8 : Unit) => []) (fun _ => True) (fun j_8 hj_8 => ?_) (fun kk8 hj8 => ?_)
            · refine gx_iinc (pc := 183) (i := 2) (j := 2) (v := (s12 + 1)) (lv' := [(2, gx_i (s12 + 1)), (0, gx_r 17 (some x0)), (1, gx_i x1)]) rfl (gx_iv (by decide)) (by decide) rfl (htX16_rise_1 (183, .iinc 2 1, 3) (gx_m 9 rfl)) ?_
              refine gx_goto (pc := 186) (tgt := 125) (by decide) (htX16_rise_1 (186, .goto (-61), 3) (gx_m 10 rfl)) ?_
              refine gx_Jw (lv := [(0, gx_r 17 (some x0)), (1, gx_i x1), (2, gx_i (s12 + 1))]) [1, 2, 0] rfl ?_
              exact ha4 ((s12 + 1) : Int32)
            · refine gx_icmp_ne (pc := 135) (tgt := 141) (by decide) (htX16_rise_0 (135, .if_icmp .ne 6, 3) (gx_m 79 rfl)) (fun c9 => ?_) (fun c9 => ?_)
              · refine gx_goto (pc := 138) (tgt := 183) (by decide) (htX16_rise_0 (138, .goto 45, 3) (gx_m 80 rfl)) ?_
                exact hj8 () trivial
              · refine gx_aload_n (pc := 141) (n := 0) (i := 0) rfl 0 rfl (htX16_rise_0 (141, .aload_n 0, 1) (gx_m 81 rfl)) ?_
                refine gx_iconst (pc := 142) (v := 1) (by decide) (htX16_rise_0 (142, .iconst 1, 1) (gx_m 82 rfl)) ?_
                refine gx_iload_n (pc := 143) (n := 1) (i := 1) rfl 1 rfl (htX16_rise_0 (143, .iload_n 1, 1) (gx_m 83 rfl)) ?_
                refine gx_iload_n (pc := 144) (n := 2) (i := 2) rfl 2 rfl (htX16_rise_0 (144, .iload_n 2, 1) (gx_m 84 rfl)) ?_
                refine gx_Jci (pc := 145) (gx_hst (as := [gx_i 1, gx_i x1, gx_i s12]) (b := gx_r 17 (some x0))) (gx_runV (as := [gx_i 1, gx_i x1, gx_i s12]) (ci := 16) (ct_X16_message Y x0 1 x1 s12) (by decide) (Or.inl rfl) rfl rfl rfl rfl q2138 q2140 qs57 q117 q2141 rfl dd_X16_message (by decide) (by decide) (Nat.le_of_ble_eq_true rfl) (htX16_rise_0 (145, .invokevirtual 471, 3) (gx_m 85 rfl))) (fun v14 => ?_)
                refine gx_istore_n (pc := 148) (n := 3) (i := 3) (lv' := [(3, gx_i v14), (0, gx_r 17 (some x0)), (1, gx_i x1), (2, gx_i s12)]) rfl (by decide) rfl (htX16_rise_0 (148, .istore_n 3, 1) (gx_m 86 rfl)) ?_
                refine gx_aload_n (pc := 149) (n := 0) (i := 0) rfl 1 rfl (htX16_rise_0 (149, .aload_n 0, 1) (gx_m 87 rfl)) ?_
                refine gx_Jgs (pc := 150) (ci := 16) (kk := 68) (t2 := 100) (by decide) (by decide) rfl rfl rfl q1742 (htX16_rise_0 (150, .getfield 193, 3) (gx_m 88 rfl)) ?_
                refine gx_iload_n (pc := 153) (n := 3) (i := 3) rfl 0 rfl (htX16_rise_0 (153, .iload_n 3, 1) (gx_m 89 rfl)) ?_
                refine gx_aload_n (pc := 154) (n := 0) (i := 0) rfl 1 rfl (htX16_rise_0 (154, .aload_n 0, 1) (gx_m 90 rfl)) ?_
                refine gx_Jgs (pc := 155) (ci := 16) (kk := 36) (t2 := 100) (by decide) (by decide) rfl rfl rfl q1710 (htX16_rise_0 (155, .getfield 95, 3) (gx_m 91 rfl)) ?_
                refine gx_iload_n (pc := 158) (n := 1) (i := 1) rfl 2 rfl (htX16_rise_0 (158, .iload_n 1, 1) (gx_m 92 rfl)) ?_
                refine gx_Jia (pc := 159) (htX16_rise_0 (159, .iaload, 1) (gx_m 93 rfl)) (fun v15 => ?_)
                refine gx_Jis (pc := 160) (htX16_rise_0 (160, .iastore, 1) (gx_m 94 rfl)) ?_
                refine gx_aload_n (pc := 161) (n := 0) (i := 0) rfl 1 rfl (htX16_rise_0 (161, .aload_n 0, 1) (gx_m 95 rfl)) ?_
                refine gx_Jgs (pc := 162) (ci := 16) (kk := 69) (t2 := 100) (by decide) (by decide) rfl rfl rfl q1743 (htX16_rise_0 (162, .getfield 196, 3) (gx_m 96 rfl)) ?_
                refine gx_iload_n (pc := 165) (n := 3) (i := 3) rfl 0 rfl (htX16_rise_0 (165, .iload_n 3, 1) (gx_m 97 rfl)) ?_
                refine gx_aload_n (pc := 166) (n := 0) (i := 0) rfl 1 rfl (htX16_rise_0 (166, .aload_n 0, 1) (gx_m 98 rfl)) ?_
                refine gx_iload_n (pc := 167) (n := 1) (i := 1) rfl 2 rfl (htX16_rise_0 (167, .iload_n 1, 1) (gx_m 99 rfl)) ?_
                refine gx_aload_n (pc := 168) (n := 0) (i := 0) rfl 1 rfl (htX16_rise_1 (168, .aload_n 0, 1) (gx_m 0 rfl)) ?_
                refine gx_Jgs (pc := 169) (ci := 16) (kk := 36) (t2 := 100) (by decide) (by decide) rfl rfl rfl q1710 (htX16_rise_1 (169, .getfield 95, 3) (gx_m 1 rfl)) ?_
                refine gx_iload_n (pc := 172) (n := 1) (i := 1) rfl 2 rfl (htX16_rise_1 (172, .iload_n 1, 1) (gx_m 2 rfl)) ?_
                refine gx_Jia (pc := 173) (htX16_rise_1 (173, .iaload, 1) (gx_m 3 rfl)) (fun v16 => ?_)
                refine gx_Jci (pc := 174) (gx_hst (as := [gx_i x1, gx_i v16]) (b := gx_r 17 (some x0))) (gx_runV (as := [gx_i x1, gx_i v16]) (ci := 16) (ct_X16_termAt Y x0 x1 v16) (by decide) (Or.inl rfl) rfl rfl rfl rfl q2150 q2152 qs60 q117 q2153 rfl dd_X16_termAt (by decide) (by decide) (Nat.le_of_ble_eq_true rfl) (htX16_rise_1 (174, .invokevirtual 461, 3) (gx_m 4 rfl))) (fun v17 => ?_)
                refine gx_Jis (pc := 177) (htX16_rise_1 (177, .iastore, 1) (gx_m 5 rfl)) ?_
                refine gx_aload_n (pc := 178) (n := 0) (i := 0) rfl 1 rfl (htX16_rise_1 (178, .aload_n 0, 1) (gx_m 6 rfl)) ?_
                refine gx_iload_n (pc := 179) (n := 3) (i := 3) rfl 0 rfl (htX16_rise_1 (179, .iload_n 3, 1) (gx_m 7 rfl)) ?_
                refine gx_Jcv (pc := 180) (gx_hst (as := [gx_i v14]) (b := gx_r 17 (some x0))) (gx_runV (as := [gx_i v14]) (ci := 16) (ct_X16_send Y x0 v14) (by decide) (Or.inl rfl) rfl rfl rfl rfl q2142 q2144 qs58 q117 q2145 rfl dd_X16_send (by decide) (by decide) (Nat.le_of_ble_eq_true rfl) (htX16_rise_1 (180, .invokevirtual 475, 3) (gx_m 8 rfl))) ?_
                refine gx_Jw (lv := [(0, gx_r 17 (some x0)), (1, gx_i x1), (2, gx_i s12)]) [1, 2, 3] rfl ?_
                exact hj8 () trivial
      · refine gx_Jw (lv := [(0, gx_r 17 (some x0)), (1, gx_i x1), (2, gx_i 0)]) [1, 2, 0] rfl ?_
        refine gx_Jlp (pc := 91) (lvh := fun (s8 : Int32) => [(0, gx_r 17 (some x0)), (1, gx_i x1), (2, gx_i s8)]) (fun s8 kl3 ha3 hb3 => ?_) _
        unfold lb_X16_rise_1
        refine gx_iload_n (pc := 91) (n := 2) (i := 2) rfl 2 rfl (htX16_rise_0 (91, .iload_n 2, 1) (gx_m 53 rfl)) ?_
        refine gx_aload_n (pc := 92) (n := 0) (i := 0) rfl 0 rfl (htX16_rise_0 (92, .aload_n 0, 1) (gx_m 54 rfl)) ?_
        refine gx_Jgi (pc := 93) (ci := 16) (kk := 29) (by decide) (Or.inl rfl) (by decide) (by decide) q1703 (htX16_rise_0 (93, .getfield 315, 3) (gx_m 55 rfl)) (fun v9 hv9 => ?_)
        refine gx_icmp_ge (pc := 96) (tgt := 123) (by decide) (htX16_rise_0 (96, .if_icmp .ge 27, 3) (gx_m 56 rfl)) (fun c10 => ?_) (fun c10 => ?_)
        · refine gx_Jw (lv := [(0, gx_r 17 (some x0)), (1, gx_i x1)]) [0, 1] rfl ?_
          exact gx_Jout hb3 (hj3 () trivial)
        · refine gx_aload_n (pc := 99) (n := 0) (i := 0) rfl 0 rfl (htX16_rise_0 (99, .aload_n 0, 1) (gx_m 57 rfl)) ?_
          refine gx_Jgs (pc := 100) (ci := 16) (kk := 56) (t2 := 106) (by decide) (by decide) rfl rfl rfl q1730 (htX16_rise_0 (100, .getfield 159, 3) (gx_m 58 rfl)) ?_
          refine gx_iload_n (pc := 103) (n := 1) (i := 1) rfl 1 rfl (htX16_rise_0 (103, .iload_n 1, 1) (gx_m 59 rfl)) ?_
          refine gx_Jra (pc := 104) (t := 6) (t2 := 102) (by decide) (by decide) rfl (htX16_rise_0 (104, .aaload, 1) (gx_m 60 rfl)) (fun v10 => ?_)
          refine gx_iload_n (pc := 105) (n := 2) (i := 2) rfl 2 rfl (htX16_rise_0 (105, .iload_n 2, 1) (gx_m 61 rfl)) ?_
          refine gx_iload_n (pc := 106) (n := 2) (i := 2) rfl 2 rfl (htX16_rise_0 (106, .iload_n 2, 1) (gx_m 62 rfl)) ?_
          refine gx_iload_n (pc := 107) (n := 1) (i := 1) rfl 1 rfl (htX16_rise_0 (107, .iload_n 1, 1) (gx_m 63 rfl)) ?_
          refine gx_Jjoin (pcJ := 116) (lvJ := fun (j11 : Int32) => [(0, gx_r 17 (some x0)), (1, gx_i x1), (2, gx_i s8)]) (stJ := fun (j11 : Int32) => [gx_i j11, gx_i s8, gx_r 102 (some v10)]) (fun (j11 : Int32) => j11 &&& 1 = j11) (fun j11 hj11 => ?_) (fun kk11 hj11 => ?_)
          · refine gx_Jzs (pc := 116) (htX16_rise_0 (116, .bastore, 1) (gx_m 68 rfl)) ?_
            refine gx_iinc (pc := 117) (i := 2) (j := 2) (v := (s8 + 1)) (lv' := [(2, gx_i (s8 + 1)), (0, gx_r 17 (some x0)), (1, gx_i x1)]) rfl (gx_iv (by decide)) (by decide) rfl (htX16_rise_0 (117, .iinc 2 1, 3) (gx_m 69 rfl)) ?_
            refine gx_goto (pc := 120) (tgt := 91) (by decide) (htX16_rise_0 (120, .goto (-29), 3) (gx_m 70 rfl)) ?_
            refine gx_Jw (lv := [(0, gx_r 17 (some x0)), (1, gx_i x1), (2, gx_i (s8 + 1))]) [1, 2, 0] rfl ?_
            exact ha3 ((s8 + 1) : Int32)
          · refine gx_icmp_ne (pc := 108) (tgt := 115) (by decide) (htX16_rise_0 (108, .if_icmp .ne 7, 3) (gx_m 64 rfl)) (fun c12 => ?_) (fun c12 => ?_)
            · refine gx_iconst (pc := 111) (v := 1) (by decide) (htX16_rise_0 (111, .iconst 1, 1) (gx_m 65 rfl)) ?_
              refine gx_goto (pc := 112) (tgt := 116) (by decide) (htX16_rise_0 (112, .goto 4, 3) (gx_m 66 rfl)) ?_
              exact hj11 (1 : Int32) gx_b1
            · refine gx_iconst (pc := 115) (v := 0) (by decide) (htX16_rise_0 (115, .iconst 0, 1) (gx_m 67 rfl)) ?_
              exact hj11 (0 : Int32) gx_b0
    · exact gx_Jvret (pc := 60) rfl (fun _ => trivial) (fun _ _ => rfl) (htX16_rise_0 (60, .return_, 1) (gx_m 30 rfl))
  · refine gx_if_ne (pc := 6) (y := 0) (tgt := 13) (by decide) (htX16_rise_0 (6, .ifCond .ne 7, 3) (gx_m 4 rfl)) (fun c13 => ?_) (fun c13 => ?_)
    · refine gx_iconst (pc := 9) (v := 2) (by decide) (htX16_rise_0 (9, .iconst 2, 1) (gx_m 5 rfl)) ?_
      refine gx_goto (pc := 10) (tgt := 50) (by decide) (htX16_rise_0 (10, .goto 40, 3) (gx_m 6 rfl)) ?_
      exact hj1 (2 : Int32) trivial
    · refine gx_aload_n (pc := 13) (n := 0) (i := 0) rfl 0 rfl (htX16_rise_0 (13, .aload_n 0, 1) (gx_m 7 rfl)) ?_
      refine gx_Jgs (pc := 14) (ci := 16) (kk := 45) (t2 := 100) (by decide) (by decide) rfl rfl rfl q1719 (htX16_rise_0 (14, .getfield 124, 3) (gx_m 8 rfl)) ?_
      refine gx_iload_n (pc := 17) (n := 1) (i := 1) rfl 1 rfl (htX16_rise_0 (17, .iload_n 1, 1) (gx_m 9 rfl)) ?_
      refine gx_Jia (pc := 18) (htX16_rise_0 (18, .iaload, 1) (gx_m 10 rfl)) (fun v2 => ?_)
      refine gx_iconst (pc := 19) (v := 2) (by decide) (htX16_rise_0 (19, .iconst 2, 1) (gx_m 11 rfl)) ?_
      refine gx_icmp_ne (pc := 20) (tgt := 27) (by decide) (htX16_rise_0 (20, .if_icmp .ne 7, 3) (gx_m 12 rfl)) (fun c14 => ?_) (fun c14 => ?_)
      · refine gx_iconst (pc := 23) (v := 1) (by decide) (htX16_rise_0 (23, .iconst 1, 1) (gx_m 13 rfl)) ?_
        refine gx_goto (pc := 24) (tgt := 50) (by decide) (htX16_rise_0 (24, .goto 26, 3) (gx_m 14 rfl)) ?_
        exact hj1 (1 : Int32) trivial
      · refine gx_aload_n (pc := 27) (n := 0) (i := 0) rfl 0 rfl (htX16_rise_0 (27, .aload_n 0, 1) (gx_m 15 rfl)) ?_
        refine gx_Jgi (pc := 28) (ci := 16) (kk := 29) (by decide) (Or.inl rfl) (by decide) (by decide) q1703 (htX16_rise_0 (28, .getfield 315, 3) (gx_m 16 rfl)) (fun v3 hv3 => ?_)
        refine gx_iconst (pc := 31) (v := 1) (by decide) (htX16_rise_0 (31, .iconst 1, 1) (gx_m 17 rfl)) ?_
        refine gx_icmp_ne (pc := 32) (tgt := 49) (by decide) (htX16_rise_0 (32, .if_icmp .ne 17, 3) (gx_m 18 rfl)) (fun c15 => ?_) (fun c15 => ?_)
        · refine gx_aload_n (pc := 35) (n := 0) (i := 0) rfl 0 rfl (htX16_rise_0 (35, .aload_n 0, 1) (gx_m 19 rfl)) ?_
          refine gx_Jgi (pc := 36) (ci := 16) (kk := 20) (by decide) (Or.inl rfl) (by decide) (by decide) q1694 (htX16_rise_0 (36, .getfield 318, 3) (gx_m 20 rfl)) (fun v4 hv4 => ?_)
          refine gx_sipush (pc := 39) (v := 1500) (by decide) (htX16_rise_0 (39, .sipush 1500, 3) (gx_m 21 rfl)) ?_
          refine gx_icmp_ne (pc := 42) (tgt := 49) (by decide) (htX16_rise_0 (42, .if_icmp .ne 7, 3) (gx_m 22 rfl)) (fun c16 => ?_) (fun c16 => ?_)
          · refine gx_iconst (pc := 45) (v := 3) (by decide) (htX16_rise_0 (45, .iconst 3, 1) (gx_m 23 rfl)) ?_
            refine gx_goto (pc := 46) (tgt := 50) (by decide) (htX16_rise_0 (46, .goto 4, 3) (gx_m 24 rfl)) ?_
            exact hj1 (3 : Int32) trivial
          · refine gx_iconst (pc := 49) (v := 0) (by decide) (htX16_rise_0 (49, .iconst 0, 1) (gx_m 25 rfl)) ?_
            exact hj1 (0 : Int32) trivial
        · refine gx_iconst (pc := 49) (v := 0) (by decide) (htX16_rise_0 (49, .iconst 0, 1) (gx_m 25 rfl)) ?_
          exact hj1 (0 : Int32) trivial
theorem ct_X16_beat (Y : gx_Y) (x0 : gx_Nm) (x1 : Int32) : gx_Ct Y yX16_beat (ws_ yX16_beat cX16_beat 2 none) 5 191 [gx_r 17 (some x0), gx_i x1] gx_Ov (f_X16_beat x0 x1) := by
  refine gx_start (lv := [(0, gx_r 17 (some x0)), (1, gx_i x1)]) gx_Ov_r pn_X16 (Nat.le_of_ble_eq_true rfl) rfl ?_
  unfold f_X16_beat
  refine gx_aload_n (pc := 0) (n := 0) (i := 0) rfl 0 rfl (htX16_beat (0, .aload_n 0, 1) (gx_m 0 rfl)) ?_
  refine gx_aload_n (pc := 1) (n := 0) (i := 0) rfl 0 rfl (htX16_beat (1, .aload_n 0, 1) (gx_m 1 rfl)) ?_
  refine gx_iload_n (pc := 2) (n := 1) (i := 1) rfl 1 rfl (htX16_beat (2, .iload_n 1, 1) (gx_m 2 rfl)) ?_
  refine gx_Jcz (pc := 3) (gx_hst (as := [gx_i x1]) (b := gx_r 17 (some x0))) (gx_runV (as := [gx_i x1]) (ci := 16) (ct_X16_up Y x0 x1) (by decide) (Or.inl rfl) rfl rfl rfl rfl q2113 q2115 qs51 q117 q2116 rfl dd_X16_up (by decide) (by decide) (Nat.le_of_ble_eq_true rfl) (htX16_beat (3, .invokevirtual 532, 3) (gx_m 3 rfl))) (fun v1 hv1 => ?_)
  refine gx_Jjoin (pcJ := 28) (lvJ := fun (j3 : Int32) => [(0, gx_r 17 (some x0)), (1, gx_i x1)]) (stJ := fun (j3 : Int32) => [gx_i j3, gx_r 17 (some x0)]) (fun _ => True) (fun j3 hj3 => ?_) (fun kk1 hj1 => ?_)
  · refine gx_Jpi (pc := 28) (ci := 16) (kk := 0) (by decide) (Or.inl rfl) (by decide) rfl rfl q1674 (Or.inl rfl) (htX16_beat (28, .putfield 312, 3) (gx_m 16 rfl)) ?_
    refine gx_aload_n (pc := 31) (n := 0) (i := 0) rfl 0 rfl (htX16_beat (31, .aload_n 0, 1) (gx_m 17 rfl)) ?_
    refine gx_Jgi (pc := 32) (ci := 16) (kk := 0) (by decide) (Or.inl rfl) (by decide) (by decide) q1674 (htX16_beat (32, .getfield 312, 3) (gx_m 18 rfl)) (fun v4 hv4 => ?_)
    refine gx_Jjoin (pcJ := 43) (lvJ := fun (j_2 : Unit) => []) (stJ := fun (j_2 : Unit) => []) (fun _ => True) (fun j_2 hj_2 => ?_) (fun kk2 hj2 => ?_)
    · exact gx_Jvret (pc := 43) rfl (fun _ => trivial) (fun _ _ => rfl) (htX16_beat (43, .return_, 1) (gx_m 23 rfl))
    · refine gx_if_ne (pc := 35) (y := 0) (tgt := 43) (by decide) (htX16_beat (35, .ifCond .ne 8, 3) (gx_m 19 rfl)) (fun c3 => ?_) (fun c3 => ?_)
      · refine gx_aload_n (pc := 38) (n := 0) (i := 0) rfl 0 rfl (htX16_beat (38, .aload_n 0, 1) (gx_m 20 rfl)) ?_
        refine gx_iload_n (pc := 39) (n := 1) (i := 1) rfl 1 rfl (htX16_beat (39, .iload_n 1, 1) (gx_m 21 rfl)) ?_
        refine gx_Jcv (pc := 40) (gx_hst (as := [gx_i x1]) (b := gx_r 17 (some x0))) (gx_runV (as := [gx_i x1]) (ci := 16) (ct_X16_appendAll Y x0 x1) (by decide) (Or.inl rfl) rfl rfl rfl rfl q2130 q2132 qs55 q117 q2133 rfl dd_X16_appendAll (by decide) (by decide) (Nat.le_of_ble_eq_true rfl) (htX16_beat (40, .invokevirtual 501, 3) (gx_m 22 rfl))) ?_
        refine gx_Jw (lv := []) [] rfl ?_
        exact hj2 () trivial
      · refine gx_Jw (lv := []) [] rfl ?_
        exact hj2 () trivial
  · refine gx_if_ne (pc := 6) (y := 0) (tgt := 13) (by decide) (htX16_beat (6, .ifCond .ne 7, 3) (gx_m 4 rfl)) (fun c4 => ?_) (fun c4 => ?_)
    · refine gx_iconst (pc := 9) (v := 2) (by decide) (htX16_beat (9, .iconst 2, 1) (gx_m 5 rfl)) ?_
      refine gx_goto (pc := 10) (tgt := 28) (by decide) (htX16_beat (10, .goto 18, 3) (gx_m 6 rfl)) ?_
      exact hj1 (2 : Int32) trivial
    · refine gx_aload_n (pc := 13) (n := 0) (i := 0) rfl 0 rfl (htX16_beat (13, .aload_n 0, 1) (gx_m 7 rfl)) ?_
      refine gx_Jgs (pc := 14) (ci := 16) (kk := 45) (t2 := 100) (by decide) (by decide) rfl rfl rfl q1719 (htX16_beat (14, .getfield 124, 3) (gx_m 8 rfl)) ?_
      refine gx_iload_n (pc := 17) (n := 1) (i := 1) rfl 1 rfl (htX16_beat (17, .iload_n 1, 1) (gx_m 9 rfl)) ?_
      refine gx_Jia (pc := 18) (htX16_beat (18, .iaload, 1) (gx_m 10 rfl)) (fun v2 => ?_)
      refine gx_iconst (pc := 19) (v := 2) (by decide) (htX16_beat (19, .iconst 2, 1) (gx_m 11 rfl)) ?_
      refine gx_icmp_eq (pc := 20) (tgt := 27) (by decide) (htX16_beat (20, .if_icmp .eq 7, 3) (gx_m 12 rfl)) (fun c5 => ?_) (fun c5 => ?_)
      · refine gx_iconst (pc := 27) (v := 0) (by decide) (htX16_beat (27, .iconst 0, 1) (gx_m 15 rfl)) ?_
        exact hj1 (0 : Int32) trivial
      · refine gx_iconst (pc := 23) (v := 1) (by decide) (htX16_beat (23, .iconst 1, 1) (gx_m 13 rfl)) ?_
        refine gx_goto (pc := 24) (tgt := 28) (by decide) (htX16_beat (24, .goto 4, 3) (gx_m 14 rfl)) ?_
        exact hj1 (1 : Int32) trivial
theorem ct_X16_onDisk (Y : gx_Y) (x0 : gx_Nm) (x1 : Int32) : gx_Ct Y yX16_onDisk (ws_ yX16_onDisk cX16_onDisk 5 none) 1 100 [gx_r 17 (some x0), gx_i x1] gx_Ov (f_X16_onDisk x0 x1) := by
  refine gx_start (lv := [(0, gx_r 17 (some x0)), (1, gx_i x1)]) gx_Ov_r pn_X16 (Nat.le_of_ble_eq_true rfl) rfl ?_
  unfold f_X16_onDisk
  refine gx_aload_n (pc := 0) (n := 0) (i := 0) rfl 0 rfl (htX16_onDisk_0 (0, .aload_n 0, 1) (gx_m 0 rfl)) ?_
  refine gx_Jgs (pc := 1) (ci := 16) (kk := 57) (t2 := 100) (by decide) (by decide) rfl rfl rfl q1731 (htX16_onDisk_0 (1, .getfield 163, 3) (gx_m 1 rfl)) ?_
  refine gx_iload_n (pc := 4) (n := 1) (i := 1) rfl 1 rfl (htX16_onDisk_0 (4, .iload_n 1, 1) (gx_m 2 rfl)) ?_
  refine gx_Jia (pc := 5) (htX16_onDisk_0 (5, .iaload, 1) (gx_m 3 rfl)) (fun v1 => ?_)
  refine gx_istore_n (pc := 6) (n := 2) (i := 2) (lv' := [(2, gx_i v1), (0, gx_r 17 (some x0)), (1, gx_i x1)]) rfl (by decide) rfl (htX16_onDisk_0 (6, .istore_n 2, 1) (gx_m 4 rfl)) ?_
  refine gx_aload_n (pc := 7) (n := 0) (i := 0) rfl 1 rfl (htX16_onDisk_0 (7, .aload_n 0, 1) (gx_m 5 rfl)) ?_
  refine gx_Jgs (pc := 8) (ci := 16) (kk := 58) (t2 := 100) (by decide) (by decide) rfl rfl rfl q1732 (htX16_onDisk_0 (8, .getfield 166, 3) (gx_m 6 rfl)) ?_
  refine gx_iload_n (pc := 11) (n := 1) (i := 1) rfl 2 rfl (htX16_onDisk_0 (11, .iload_n 1, 1) (gx_m 7 rfl)) ?_
  refine gx_Jia (pc := 12) (htX16_onDisk_0 (12, .iaload, 1) (gx_m 8 rfl)) (fun v2 => ?_)
  refine gx_Jjoin (pcJ := 201) (lvJ := fun (j_1 : Unit) => []) (stJ := fun (j_1 : Unit) => []) (fun _ => True) (fun j_1 hj_1 => ?_) (fun kk1 hj1 => ?_)
  · exact gx_Jvret (pc := 201) rfl (fun _ => trivial) (fun _ _ => rfl) (htX16_onDisk_1 (201, .return_, 1) (gx_m 27 rfl))
  · refine gx_if_ne (pc := 13) (y := 0) (tgt := 43) (by decide) (htX16_onDisk_0 (13, .ifCond .ne 30, 3) (gx_m 9 rfl)) (fun c2 => ?_) (fun c2 => ?_)
    · refine gx_aload_n (pc := 16) (n := 0) (i := 0) rfl 1 rfl (htX16_onDisk_0 (16, .aload_n 0, 1) (gx_m 10 rfl)) ?_
      refine gx_Jgs (pc := 17) (ci := 16) (kk := 38) (t2 := 100) (by decide) (by decide) rfl rfl rfl q1712 (htX16_onDisk_0 (17, .getfield 103, 3) (gx_m 11 rfl)) ?_
      refine gx_iload_n (pc := 20) (n := 2) (i := 2) rfl 0 rfl (htX16_onDisk_0 (20, .iload_n 2, 1) (gx_m 12 rfl)) ?_
      refine gx_aload_n (pc := 21) (n := 0) (i := 0) rfl 1 rfl (htX16_onDisk_0 (21, .aload_n 0, 1) (gx_m 13 rfl)) ?_
      refine gx_Jgs (pc := 22) (ci := 16) (kk := 59) (t2 := 100) (by decide) (by decide) rfl rfl rfl q1733 (htX16_onDisk_0 (22, .getfield 169, 3) (gx_m 14 rfl)) ?_
      refine gx_iload_n (pc := 25) (n := 1) (i := 1) rfl 2 rfl (htX16_onDisk_0 (25, .iload_n 1, 1) (gx_m 15 rfl)) ?_
      refine gx_Jia (pc := 26) (htX16_onDisk_0 (26, .iaload, 1) (gx_m 16 rfl)) (fun v3 => ?_)
      refine gx_Jis (pc := 27) (htX16_onDisk_0 (27, .iastore, 1) (gx_m 17 rfl)) ?_
      refine gx_aload_n (pc := 28) (n := 0) (i := 0) rfl 1 rfl (htX16_onDisk_0 (28, .aload_n 0, 1) (gx_m 18 rfl)) ?_
      refine gx_Jgs (pc := 29) (ci := 16) (kk := 39) (t2 := 100) (by decide) (by decide) rfl rfl rfl q1713 (htX16_onDisk_0 (29, .getfield 106, 3) (gx_m 19 rfl)) ?_
      refine gx_iload_n (pc := 32) (n := 2) (i := 2) rfl 0 rfl (htX16_onDisk_0 (32, .iload_n 2, 1) (gx_m 20 rfl)) ?_
      refine gx_aload_n (pc := 33) (n := 0) (i := 0) rfl 1 rfl (htX16_onDisk_0 (33, .aload_n 0, 1) (gx_m 21 rfl)) ?_
      refine gx_Jgs (pc := 34) (ci := 16) (kk := 60) (t2 := 100) (by decide) (by decide) rfl rfl rfl q1734 (htX16_onDisk_0 (34, .getfield 172, 3) (gx_m 22 rfl)) ?_
      refine gx_iload_n (pc := 37) (n := 1) (i := 1) rfl 2 rfl (htX16_onDisk_0 (37, .iload_n 1, 1) (gx_m 23 rfl)) ?_
      refine gx_Jia (pc := 38) (htX16_onDisk_0 (38, .iaload, 1) (gx_m 24 rfl)) (fun v4 => ?_)
      refine gx_Jis (pc := 39) (htX16_onDisk_0 (39, .iastore, 1) (gx_m 25 rfl)) ?_
      refine gx_goto (pc := 40) (tgt := 201) (by decide) (htX16_onDisk_0 (40, .goto 161, 3) (gx_m 26 rfl)) ?_
      refine gx_Jw (lv := []) [] rfl ?_
      exact hj1 () trivial
    · refine gx_aload_n (pc := 43) (n := 0) (i := 0) rfl 1 rfl (htX16_onDisk_0 (43, .aload_n 0, 1) (gx_m 27 rfl)) ?_
      refine gx_Jgs (pc := 44) (ci := 16) (kk := 58) (t2 := 100) (by decide) (by decide) rfl rfl rfl q1732 (htX16_onDisk_0 (44, .getfield 166, 3) (gx_m 28 rfl)) ?_
      refine gx_iload_n (pc := 47) (n := 1) (i := 1) rfl 2 rfl (htX16_onDisk_0 (47, .iload_n 1, 1) (gx_m 29 rfl)) ?_
      refine gx_Jia (pc := 48) (htX16_onDisk_0 (48, .iaload, 1) (gx_m 30 rfl)) (fun v5 => ?_)
      refine gx_iconst (pc := 49) (v := 1) (by decide) (htX16_onDisk_0 (49, .iconst 1, 1) (gx_m 31 rfl)) ?_
      refine gx_icmp_ne (pc := 50) (tgt := 87) (by decide) (htX16_onDisk_0 (50, .if_icmp .ne 37, 3) (gx_m 32 rfl)) (fun c3 => ?_) (fun c3 => ?_)
      · refine gx_aload_n (pc := 53) (n := 0) (i := 0) rfl 1 rfl (htX16_onDisk_0 (53, .aload_n 0, 1) (gx_m 33 rfl)) ?_
        refine gx_Jgs (pc := 54) (ci := 16) (kk := 44) (t2 := 105) (by decide) (by decide) rfl rfl rfl q1718 (htX16_onDisk_0 (54, .getfield 121, 3) (gx_m 34 rfl)) ?_
        refine gx_iload_n (pc := 57) (n := 2) (i := 2) rfl 0 rfl (htX16_onDisk_0 (57, .iload_n 2, 1) (gx_m 35 rfl)) ?_
        refine gx_Jra (pc := 58) (t := 5) (t2 := 100) (by decide) (by decide) rfl (htX16_onDisk_0 (58, .aaload, 1) (gx_m 36 rfl)) (fun v6 => ?_)
        refine gx_aload_n (pc := 59) (n := 0) (i := 0) rfl 1 rfl (htX16_onDisk_0 (59, .aload_n 0, 1) (gx_m 37 rfl)) ?_
        refine gx_Jgs (pc := 60) (ci := 16) (kk := 59) (t2 := 100) (by decide) (by decide) rfl rfl rfl q1733 (htX16_onDisk_0 (60, .getfield 169, 3) (gx_m 38 rfl)) ?_
        refine gx_iload_n (pc := 63) (n := 1) (i := 1) rfl 2 rfl (htX16_onDisk_0 (63, .iload_n 1, 1) (gx_m 39 rfl)) ?_
        refine gx_Jia (pc := 64) (htX16_onDisk_0 (64, .iaload, 1) (gx_m 40 rfl)) (fun v7 => ?_)
        refine gx_aload_n (pc := 65) (n := 0) (i := 0) rfl 1 rfl (htX16_onDisk_0 (65, .aload_n 0, 1) (gx_m 41 rfl)) ?_
        refine gx_Jgs (pc := 66) (ci := 16) (kk := 60) (t2 := 100) (by decide) (by decide) rfl rfl rfl q1734 (htX16_onDisk_0 (66, .getfield 172, 3) (gx_m 42 rfl)) ?_
        refine gx_iload_n (pc := 69) (n := 1) (i := 1) rfl 2 rfl (htX16_onDisk_0 (69, .iload_n 1, 1) (gx_m 43 rfl)) ?_
        refine gx_Jia (pc := 70) (htX16_onDisk_0 (70, .iaload, 1) (gx_m 44 rfl)) (fun v8 => ?_)
        refine gx_Jis (pc := 71) (htX16_onDisk_0 (71, .iastore, 1) (gx_m 45 rfl)) ?_
        refine gx_aload_n (pc := 72) (n := 0) (i := 0) rfl 1 rfl (htX16_onDisk_0 (72, .aload_n 0, 1) (gx_m 46 rfl)) ?_
        refine gx_Jgs (pc := 73) (ci := 16) (kk := 43) (t2 := 100) (by decide) (by decide) rfl rfl rfl q1717 (htX16_onDisk_0 (73, .getfield 118, 3) (gx_m 47 rfl)) ?_
        refine gx_iload_n (pc := 76) (n := 2) (i := 2) rfl 0 rfl (htX16_onDisk_0 (76, .iload_n 2, 1) (gx_m 48 rfl)) ?_
        refine gx_aload_n (pc := 77) (n := 0) (i := 0) rfl 1 rfl (htX16_onDisk_0 (77, .aload_n 0, 1) (gx_m 49 rfl)) ?_
        refine gx_Jgs (pc := 78) (ci := 16) (kk := 59) (t2 := 100) (by decide) (by decide) rfl rfl rfl q1733 (htX16_onDisk_0 (78, .getfield 169, 3) (gx_m 50 rfl)) ?_
        refine gx_iload_n (pc := 81) (n := 1) (i := 1) rfl 2 rfl (htX16_onDisk_0 (81, .iload_n 1, 1) (gx_m 51 rfl)) ?_
        refine gx_Jia (pc := 82) (htX16_onDisk_0 (82, .iaload, 1) (gx_m 52 rfl)) (fun v9 => ?_)
        refine gx_Jis (pc := 83) (htX16_onDisk_0 (83, .iastore, 1) (gx_m 53 rfl)) ?_
        refine gx_goto (pc := 84) (tgt := 201) (by decide) (htX16_onDisk_0 (84, .goto 117, 3) (gx_m 54 rfl)) ?_
        refine gx_Jw (lv := []) [] rfl ?_
        exact hj1 () trivial
      · refine gx_aload_n (pc := 87) (n := 0) (i := 0) rfl 1 rfl (htX16_onDisk_0 (87, .aload_n 0, 1) (gx_m 55 rfl)) ?_
        refine gx_Jgs (pc := 88) (ci := 16) (kk := 59) (t2 := 100) (by decide) (by decide) rfl rfl rfl q1733 (htX16_onDisk_0 (88, .getfield 169, 3) (gx_m 56 rfl)) ?_
        refine gx_iload_n (pc := 91) (n := 1) (i := 1) rfl 2 rfl (htX16_onDisk_0 (91, .iload_n 1, 1) (gx_m 57 rfl)) ?_
        refine gx_Jia (pc := 92) (htX16_onDisk_0 (92, .iaload, 1) (gx_m 58 rfl)) (fun v10 => ?_)
        refine gx_istore_n (pc := 93) (n := 3) (i := 3) (lv' := [(3, gx_i v10), (2, gx_i v1), (0, gx_r 17 (some x0)), (1, gx_i x1)]) rfl (by decide) rfl (htX16_onDisk_0 (93, .istore_n 3, 1) (gx_m 59 rfl)) ?_
        refine gx_iload_n (pc := 94) (n := 3) (i := 3) rfl 0 rfl (htX16_onDisk_0 (94, .iload_n 3, 1) (gx_m 60 rfl)) ?_
        refine gx_aload_n (pc := 95) (n := 0) (i := 0) rfl 2 rfl (htX16_onDisk_0 (95, .aload_n 0, 1) (gx_m 61 rfl)) ?_
        refine gx_Jgs (pc := 96) (ci := 16) (kk := 40) (t2 := 100) (by decide) (by decide) rfl rfl rfl q1714 (htX16_onDisk_0 (96, .getfield 109, 3) (gx_m 62 rfl)) ?_
        refine gx_iload_n (pc := 99) (n := 2) (i := 2) rfl 1 rfl (htX16_onDisk_0 (99, .iload_n 2, 1) (gx_m 63 rfl)) ?_
        refine gx_Jia (pc := 100) (htX16_onDisk_0 (100, .iaload, 1) (gx_m 64 rfl)) (fun v11 => ?_)
        refine gx_Jjoin (pcJ := 150) (lvJ := fun (j18 : Int32) => [(0, gx_r 17 (some x0)), (1, gx_i x1), (2, gx_i v1), (3, gx_i v10)]) (stJ := fun (j18 : Int32) => [gx_i j18]) (fun _ => True) (fun j18 hj18 => ?_) (fun kk4 hj4 => ?_)
        · refine gx_istore (pc := 150) (i := 4) (lv' := [(4, gx_i j18), (0, gx_r 17 (some x0)), (1, gx_i x1), (2, gx_i v1), (3, gx_i v10)]) (by decide) rfl (htX16_onDisk_0 (150, .istore 4, 2) (gx_m 94 rfl)) ?_
          refine gx_iload (pc := 152) (i := 4) 0 rfl (htX16_onDisk_0 (152, .iload 4, 2) (gx_m 95 rfl)) ?_
          refine gx_aload_n (pc := 154) (n := 0) (i := 0) rfl 1 rfl (htX16_onDisk_0 (154, .aload_n 0, 1) (gx_m 96 rfl)) ?_
          refine gx_Jgs (pc := 155) (ci := 16) (kk := 60) (t2 := 100) (by decide) (by decide) rfl rfl rfl q1734 (htX16_onDisk_0 (155, .getfield 172, 3) (gx_m 97 rfl)) ?_
          refine gx_iload_n (pc := 158) (n := 1) (i := 1) rfl 2 rfl (htX16_onDisk_0 (158, .iload_n 1, 1) (gx_m 98 rfl)) ?_
          refine gx_Jia (pc := 159) (htX16_onDisk_0 (159, .iaload, 1) (gx_m 99 rfl)) (fun v19 => ?_)
          refine gx_Jjoin (pcJ := 170) (lvJ := fun (j_5 : Unit) => [(0, gx_r 17 (some x0)), (1, gx_i x1), (2, gx_i v1), (3, gx_i v10)]) (stJ := fun (j_5 : Unit) => []) (fun _ => True) (fun j_5 hj_5 => ?_) (fun kk5 hj5 => ?_)
          · refine gx_aload_n (pc := 170) (n := 0) (i := 0) rfl 0 rfl (htX16_onDisk_1 (170, .aload_n 0, 1) (gx_m 6 rfl)) ?_
            refine gx_Jgs (pc := 171) (ci := 16) (kk := 40) (t2 := 100) (by decide) (by decide) rfl rfl rfl q1714 (htX16_onDisk_1 (171, .getfield 109, 3) (gx_m 7 rfl)) ?_
            refine gx_iload_n (pc := 174) (n := 2) (i := 2) rfl 2 rfl (htX16_onDisk_1 (174, .iload_n 2, 1) (gx_m 8 rfl)) ?_
            refine gx_iload_n (pc := 175) (n := 3) (i := 3) rfl 3 rfl (htX16_onDisk_1 (175, .iload_n 3, 1) (gx_m 9 rfl)) ?_
            refine gx_Jis (pc := 176) (htX16_onDisk_1 (176, .iastore, 1) (gx_m 10 rfl)) ?_
            refine gx_aload_n (pc := 177) (n := 0) (i := 0) rfl 0 rfl (htX16_onDisk_1 (177, .aload_n 0, 1) (gx_m 11 rfl)) ?_
            refine gx_Jgs (pc := 178) (ci := 16) (kk := 41) (t2 := 100) (by decide) (by decide) rfl rfl rfl q1715 (htX16_onDisk_1 (178, .getfield 112, 3) (gx_m 12 rfl)) ?_
            refine gx_iload_n (pc := 181) (n := 2) (i := 2) rfl 2 rfl (htX16_onDisk_1 (181, .iload_n 2, 1) (gx_m 13 rfl)) ?_
            refine gx_aload_n (pc := 182) (n := 0) (i := 0) rfl 0 rfl (htX16_onDisk_1 (182, .aload_n 0, 1) (gx_m 14 rfl)) ?_
            refine gx_Jgs (pc := 183) (ci := 16) (kk := 60) (t2 := 100) (by decide) (by decide) rfl rfl rfl q1734 (htX16_onDisk_1 (183, .getfield 172, 3) (gx_m 15 rfl)) ?_
            refine gx_iload_n (pc := 186) (n := 1) (i := 1) rfl 1 rfl (htX16_onDisk_1 (186, .iload_n 1, 1) (gx_m 16 rfl)) ?_
            refine gx_Jia (pc := 187) (htX16_onDisk_1 (187, .iaload, 1) (gx_m 17 rfl)) (fun v20 => ?_)
            refine gx_Jis (pc := 188) (htX16_onDisk_1 (188, .iastore, 1) (gx_m 18 rfl)) ?_
            refine gx_aload_n (pc := 189) (n := 0) (i := 0) rfl 0 rfl (htX16_onDisk_1 (189, .aload_n 0, 1) (gx_m 19 rfl)) ?_
            refine gx_Jgs (pc := 190) (ci := 16) (kk := 42) (t2 := 100) (by decide) (by decide) rfl rfl rfl q1716 (htX16_onDisk_1 (190, .getfield 115, 3) (gx_m 20 rfl)) ?_
            refine gx_iload_n (pc := 193) (n := 2) (i := 2) rfl 2 rfl (htX16_onDisk_1 (193, .iload_n 2, 1) (gx_m 21 rfl)) ?_
            refine gx_aload_n (pc := 194) (n := 0) (i := 0) rfl 0 rfl (htX16_onDisk_1 (194, .aload_n 0, 1) (gx_m 22 rfl)) ?_
            refine gx_Jgs (pc := 195) (ci := 16) (kk := 61) (t2 := 100) (by decide) (by decide) rfl rfl rfl q1735 (htX16_onDisk_1 (195, .getfield 175, 3) (gx_m 23 rfl)) ?_
            refine gx_iload_n (pc := 198) (n := 1) (i := 1) rfl 1 rfl (htX16_onDisk_1 (198, .iload_n 1, 1) (gx_m 24 rfl)) ?_
            refine gx_Jia (pc := 199) (htX16_onDisk_1 (199, .iaload, 1) (gx_m 25 rfl)) (fun v21 => ?_)
            refine gx_Jis (pc := 200) (htX16_onDisk_1 (200, .iastore, 1) (gx_m 26 rfl)) ?_
            refine gx_Jw (lv := []) [] rfl ?_
            exact hj1 () trivial
          · refine gx_icmp_eq (pc := 160) (tgt := 170) (by decide) (htX16_onDisk_1 (160, .if_icmp .eq 10, 3) (gx_m 0 rfl)) (fun c6 => ?_) (fun c6 => ?_)
            · refine gx_Jw (lv := [(0, gx_r 17 (some x0)), (1, gx_i x1), (2, gx_i v1), (3, gx_i v10)]) [1, 2, 3, 4] rfl ?_
              exact hj5 () trivial
            · refine gx_aload_n (pc := 163) (n := 0) (i := 0) rfl 1 rfl (htX16_onDisk_1 (163, .aload_n 0, 1) (gx_m 1 rfl)) ?_
              refine gx_Jgs (pc := 164) (ci := 16) (kk := 43) (t2 := 100) (by decide) (by decide) rfl rfl rfl q1717 (htX16_onDisk_1 (164, .getfield 118, 3) (gx_m 2 rfl)) ?_
              refine gx_iload_n (pc := 167) (n := 2) (i := 2) rfl 3 rfl (htX16_onDisk_1 (167, .iload_n 2, 1) (gx_m 3 rfl)) ?_
              refine gx_iload_n (pc := 168) (n := 3) (i := 3) rfl 4 rfl (htX16_onDisk_1 (168, .iload_n 3, 1) (gx_m 4 rfl)) ?_
              refine gx_Jis (pc := 169) (htX16_onDisk_1 (169, .iastore, 1) (gx_m 5 rfl)) ?_
              refine gx_Jw (lv := [(0, gx_r 17 (some x0)), (1, gx_i x1), (2, gx_i v1), (3, gx_i v10)]) [1, 2, 3, 4] rfl ?_
              exact hj5 () trivial
        · refine gx_icmp_ne (pc := 101) (tgt := 113) (by decide) (htX16_onDisk_0 (101, .if_icmp .ne 12, 3) (gx_m 65 rfl)) (fun c7 => ?_) (fun c7 => ?_)
          · refine gx_aload_n (pc := 104) (n := 0) (i := 0) rfl 2 rfl (htX16_onDisk_0 (104, .aload_n 0, 1) (gx_m 66 rfl)) ?_
            refine gx_Jgs (pc := 105) (ci := 16) (kk := 41) (t2 := 100) (by decide) (by decide) rfl rfl rfl q1715 (htX16_onDisk_0 (105, .getfield 112, 3) (gx_m 67 rfl)) ?_
            refine gx_iload_n (pc := 108) (n := 2) (i := 2) rfl 1 rfl (htX16_onDisk_0 (108, .iload_n 2, 1) (gx_m 68 rfl)) ?_
            refine gx_Jia (pc := 109) (htX16_onDisk_0 (109, .iaload, 1) (gx_m 69 rfl)) (fun v12 => ?_)
            refine gx_goto (pc := 110) (tgt := 150) (by decide) (htX16_onDisk_0 (110, .goto 40, 3) (gx_m 70 rfl)) ?_
            refine gx_Jw (lv := [(0, gx_r 17 (some x0)), (1, gx_i x1), (2, gx_i v1), (3, gx_i v10)]) [2, 3, 1, 0] rfl ?_
            exact hj4 (v12 : Int32) trivial
          · refine gx_iload_n (pc := 113) (n := 3) (i := 3) rfl 0 rfl (htX16_onDisk_0 (113, .iload_n 3, 1) (gx_m 71 rfl)) ?_
            refine gx_aload_n (pc := 114) (n := 0) (i := 0) rfl 2 rfl (htX16_onDisk_0 (114, .aload_n 0, 1) (gx_m 72 rfl)) ?_
            refine gx_Jgs (pc := 115) (ci := 16) (kk := 40) (t2 := 100) (by decide) (by decide) rfl rfl rfl q1714 (htX16_onDisk_0 (115, .getfield 109, 3) (gx_m 73 rfl)) ?_
            refine gx_iload_n (pc := 118) (n := 2) (i := 2) rfl 1 rfl (htX16_onDisk_0 (118, .iload_n 2, 1) (gx_m 74 rfl)) ?_
            refine gx_Jia (pc := 119) (htX16_onDisk_0 (119, .iaload, 1) (gx_m 75 rfl)) (fun v13 => ?_)
            refine gx_icmp_le (pc := 120) (tgt := 149) (by decide) (htX16_onDisk_0 (120, .if_icmp .le 29, 3) (gx_m 76 rfl)) (fun c8 => ?_) (fun c8 => ?_)
            · refine gx_iconst (pc := 149) (v := (-1)) (by decide) (htX16_onDisk_0 (149, .iconst (-1), 1) (gx_m 93 rfl)) ?_
              refine gx_Jw (lv := [(0, gx_r 17 (some x0)), (1, gx_i x1), (2, gx_i v1), (3, gx_i v10)]) [2, 3, 1, 0] rfl ?_
              exact hj4 ((-1) : Int32) trivial
            · refine gx_iload_n (pc := 123) (n := 3) (i := 3) rfl 0 rfl (htX16_onDisk_0 (123, .iload_n 3, 1) (gx_m 77 rfl)) ?_
              refine gx_aload_n (pc := 124) (n := 0) (i := 0) rfl 2 rfl (htX16_onDisk_0 (124, .aload_n 0, 1) (gx_m 78 rfl)) ?_
              refine gx_Jgs (pc := 125) (ci := 16) (kk := 43) (t2 := 100) (by decide) (by decide) rfl rfl rfl q1717 (htX16_onDisk_0 (125, .getfield 118, 3) (gx_m 79 rfl)) ?_
              refine gx_iload_n (pc := 128) (n := 2) (i := 2) rfl 1 rfl (htX16_onDisk_0 (128, .iload_n 2, 1) (gx_m 80 rfl)) ?_
              refine gx_Jia (pc := 129) (htX16_onDisk_0 (129, .iaload, 1) (gx_m 81 rfl)) (fun v14 => ?_)
              refine gx_icmp_gt (pc := 130) (tgt := 149) (by decide) (htX16_onDisk_0 (130, .if_icmp .gt 19, 3) (gx_m 82 rfl)) (fun c9 => ?_) (fun c9 => ?_)
              · refine gx_iconst (pc := 149) (v := (-1)) (by decide) (htX16_onDisk_0 (149, .iconst (-1), 1) (gx_m 93 rfl)) ?_
                refine gx_Jw (lv := [(0, gx_r 17 (some x0)), (1, gx_i x1), (2, gx_i v1), (3, gx_i v10)]) [2, 3, 1, 0] rfl ?_
                exact hj4 ((-1) : Int32) trivial
              · refine gx_aload_n (pc := 133) (n := 0) (i := 0) rfl 2 rfl (htX16_onDisk_0 (133, .aload_n 0, 1) (gx_m 83 rfl)) ?_
                refine gx_Jgs (pc := 134) (ci := 16) (kk := 8) (t2 := 100) (by decide) (by decide) rfl rfl rfl q1682 (htX16_onDisk_0 (134, .getfield 19, 3) (gx_m 84 rfl)) ?_
                refine gx_aload_n (pc := 137) (n := 0) (i := 0) rfl 2 rfl (htX16_onDisk_0 (137, .aload_n 0, 1) (gx_m 85 rfl)) ?_
                refine gx_Jgs (pc := 138) (ci := 16) (kk := 44) (t2 := 105) (by decide) (by decide) rfl rfl rfl q1718 (htX16_onDisk_0 (138, .getfield 121, 3) (gx_m 86 rfl)) ?_
                refine gx_iload_n (pc := 141) (n := 2) (i := 2) rfl 1 rfl (htX16_onDisk_0 (141, .iload_n 2, 1) (gx_m 87 rfl)) ?_
                refine gx_Jra (pc := 142) (t := 5) (t2 := 100) (by decide) (by decide) rfl (htX16_onDisk_0 (142, .aaload, 1) (gx_m 88 rfl)) (fun v15 => ?_)
                refine gx_iload_n (pc := 143) (n := 3) (i := 3) rfl 0 rfl (htX16_onDisk_0 (143, .iload_n 3, 1) (gx_m 89 rfl)) ?_
                refine gx_Jia (pc := 144) (htX16_onDisk_0 (144, .iaload, 1) (gx_m 90 rfl)) (fun v16 => ?_)
                refine gx_Jia (pc := 145) (htX16_onDisk_0 (145, .iaload, 1) (gx_m 91 rfl)) (fun v17 => ?_)
                refine gx_goto (pc := 146) (tgt := 150) (by decide) (htX16_onDisk_0 (146, .goto 4, 3) (gx_m 92 rfl)) ?_
                refine gx_Jw (lv := [(0, gx_r 17 (some x0)), (1, gx_i x1), (2, gx_i v1), (3, gx_i v10)]) [2, 3, 1, 0] rfl ?_
                exact hj4 (v17 : Int32) trivial
theorem ct_X16_toDisk (Y : gx_Y) (x0 : gx_Nm) (x1 : Int32) (x2 : Int32) : gx_Ct Y yX16_toDisk (ws_ yX16_toDisk cX16_toDisk 6 none) 2 124 [gx_r 17 (some x0), gx_i x1, gx_i x2] gx_Ov (f_X16_toDisk x0 x1 x2) := by
  refine gx_start (lv := [(0, gx_r 17 (some x0)), (1, gx_i x1), (2, gx_i x2)]) gx_Ov_r pn_X16 (Nat.le_of_ble_eq_true rfl) rfl ?_
  unfold f_X16_toDisk
  refine gx_iconst (pc := 0) (v := 0) (by decide) (htX16_toDisk (0, .iconst 0, 1) (gx_m 0 rfl)) ?_
  refine gx_istore_n (pc := 1) (n := 3) (i := 3) (lv' := [(3, gx_i 0), (0, gx_r 17 (some x0)), (1, gx_i x1), (2, gx_i x2)]) rfl (by decide) rfl (htX16_toDisk (1, .istore_n 3, 1) (gx_m 1 rfl)) ?_
  refine gx_iconst (pc := 2) (v := 0) (by decide) (htX16_toDisk (2, .iconst 0, 1) (gx_m 2 rfl)) ?_
  refine gx_istore (pc := 3) (i := 4) (lv' := [(4, gx_i 0), (3, gx_i 0), (0, gx_r 17 (some x0)), (1, gx_i x1), (2, gx_i x2)]) (by decide) rfl (htX16_toDisk (3, .istore 4, 2) (gx_m 3 rfl)) ?_
  refine gx_iconst (pc := 5) (v := 0) (by decide) (htX16_toDisk (5, .iconst 0, 1) (gx_m 4 rfl)) ?_
  refine gx_istore (pc := 6) (i := 5) (lv' := [(5, gx_i 0), (4, gx_i 0), (3, gx_i 0), (0, gx_r 17 (some x0)), (1, gx_i x1), (2, gx_i x2)]) (by decide) rfl (htX16_toDisk (6, .istore 5, 2) (gx_m 5 rfl)) ?_
  refine gx_Jjoin (pcJ := 124) (lvJ := fun (j10 : Int32) => [(0, gx_r 17 (some x0)), (1, gx_i x1), (4, gx_i j10)]) (stJ := fun (j10 : Int32) => []) (fun _ => True) (fun j10 _ => ?_) (fun kk1 hj1 => ?_)
  · refine gx_aload_n (pc := 124) (n := 0) (i := 0) rfl 0 rfl (htX16_toDisk (124, .aload_n 0, 1) (gx_m 67 rfl)) ?_
    refine gx_iload (pc := 125) (i := 4) 2 rfl (htX16_toDisk (125, .iload 4, 2) (gx_m 68 rfl)) ?_
    refine gx_Jpi (pc := 127) (ci := 16) (kk := 62) (by decide) (Or.inl rfl) (by decide) rfl rfl q1736 (Or.inl rfl) (htX16_toDisk (127, .putfield 324, 3) (gx_m 69 rfl)) ?_
    refine gx_aload_n (pc := 130) (n := 0) (i := 0) rfl 0 rfl (htX16_toDisk (130, .aload_n 0, 1) (gx_m 70 rfl)) ?_
    refine gx_Jgs (pc := 131) (ci := 16) (kk := 63) (t2 := 100) (by decide) (by decide) rfl rfl rfl q1737 (htX16_toDisk (131, .getfield 178, 3) (gx_m 71 rfl)) ?_
    refine gx_iload_n (pc := 134) (n := 1) (i := 1) rfl 1 rfl (htX16_toDisk (134, .iload_n 1, 1) (gx_m 72 rfl)) ?_
    refine gx_iconst (pc := 135) (v := 0) (by decide) (htX16_toDisk (135, .iconst 0, 1) (gx_m 73 rfl)) ?_
    refine gx_Jis (pc := 136) (htX16_toDisk (136, .iastore, 1) (gx_m 74 rfl)) ?_
    exact gx_Jvret (pc := 137) rfl (fun _ => trivial) (fun _ _ => rfl) (htX16_toDisk (137, .return_, 1) (gx_m 75 rfl))
  · refine gx_Jw (lv := [(0, gx_r 17 (some x0)), (1, gx_i x1), (2, gx_i x2), (3, gx_i 0), (4, gx_i 0), (5, gx_i 0)]) [3, 4, 5, 2, 1, 0] rfl ?_
    refine gx_Jlp (pc := 8) (lvh := fun (s1 : Int32 × Int32 × Int32) => [(0, gx_r 17 (some x0)), (1, gx_i x1), (2, gx_i x2), (3, gx_i s1.1), (4, gx_i s1.2.1), (5, gx_i s1.2.2)]) (fun s1 kl1 ha1 hb1 => ?_) _
    unfold lb_X16_toDisk_1
    refine gx_iload (pc := 8) (i := 5) 5 rfl (htX16_toDisk (8, .iload 5, 2) (gx_m 6 rfl)) ?_
    refine gx_aload_n (pc := 10) (n := 0) (i := 0) rfl 0 rfl (htX16_toDisk (10, .aload_n 0, 1) (gx_m 7 rfl)) ?_
    refine gx_Jgi (pc := 11) (ci := 16) (kk := 62) (by decide) (Or.inl rfl) (by decide) (by decide) q1736 (htX16_toDisk (11, .getfield 324, 3) (gx_m 8 rfl)) (fun v2 hv2 => ?_)
    refine gx_icmp_ge (pc := 14) (tgt := 124) (by decide) (htX16_toDisk (14, .if_icmp .ge 110, 3) (gx_m 9 rfl)) (fun c2 => ?_) (fun c2 => ?_)
    · refine gx_Jw (lv := [(0, gx_r 17 (some x0)), (1, gx_i x1), (4, gx_i s1.2.1)]) [0, 1, 4] rfl ?_
      exact gx_Jout hb1 (hj1 (s1.2.1 : Int32) trivial)
    · refine gx_aload_n (pc := 17) (n := 0) (i := 0) rfl 0 rfl (htX16_toDisk (17, .aload_n 0, 1) (gx_m 10 rfl)) ?_
      refine gx_Jgs (pc := 18) (ci := 16) (kk := 57) (t2 := 100) (by decide) (by decide) rfl rfl rfl q1731 (htX16_toDisk (18, .getfield 163, 3) (gx_m 11 rfl)) ?_
      refine gx_iload (pc := 21) (i := 5) 5 rfl (htX16_toDisk (21, .iload 5, 2) (gx_m 12 rfl)) ?_
      refine gx_Jia (pc := 23) (htX16_toDisk (23, .iaload, 1) (gx_m 13 rfl)) (fun v3 => ?_)
      refine gx_iload_n (pc := 24) (n := 1) (i := 1) rfl 1 rfl (htX16_toDisk (24, .iload_n 1, 1) (gx_m 14 rfl)) ?_
      refine gx_Jjoin (pcJ := 118) (lvJ := fun (j9 : Int32 × Int32) => [(0, gx_r 17 (some x0)), (1, gx_i x1), (2, gx_i x2), (3, gx_i j9.1), (4, gx_i j9.2), (5, gx_i s1.2.2)]) (stJ := fun (j9 : Int32 × Int32) => []) (fun _ => True) (fun j9 hj9 => ?_) (fun kk3 hj3 => ?_)
      · refine gx_iinc (pc := 118) (i := 5) (j := 5) (v := (s1.2.2 + 1)) (lv' := [(5, gx_i (s1.2.2 + 1)), (0, gx_r 17 (some x0)), (1, gx_i x1), (2, gx_i x2), (3, gx_i j9.1), (4, gx_i j9.2)]) rfl (gx_iv (by decide)) (by decide) rfl (htX16_toDisk (118, .iinc 5 1, 3) (gx_m 65 rfl)) ?_
        refine gx_goto (pc := 121) (tgt := 8) (by decide) (htX16_toDisk (121, .goto (-113), 3) (gx_m 66 rfl)) ?_
        refine gx_Jw (lv := [(0, gx_r 17 (some x0)), (1, gx_i x1), (2, gx_i x2), (3, gx_i j9.1), (4, gx_i j9.2), (5, gx_i (s1.2.2 + 1))]) [1, 2, 3, 4, 5, 0] rfl ?_
        exact ha1 ((j9.1 : Int32), (j9.2 : Int32), ((s1.2.2 + 1) : Int32))
      · refine gx_icmp_ne (pc := 25) (tgt := 45) (by decide) (htX16_toDisk (25, .if_icmp .ne 20, 3) (gx_m 15 rfl)) (fun c4 => ?_) (fun c4 => ?_)
        · refine gx_iload_n (pc := 28) (n := 3) (i := 3) rfl 3 rfl (htX16_toDisk (28, .iload_n 3, 1) (gx_m 16 rfl)) ?_
          refine gx_iload_n (pc := 29) (n := 2) (i := 2) rfl 2 rfl (htX16_toDisk (29, .iload_n 2, 1) (gx_m 17 rfl)) ?_
          refine gx_Jjoin (pcJ := 39) (lvJ := fun (j_5 : Unit) => [(0, gx_r 17 (some x0)), (1, gx_i x1), (2, gx_i x2), (3, gx_i s1.1), (4, gx_i s1.2.1), (5, gx_i s1.2.2)]) (stJ := fun (j_5 : Unit) => []) (fun _ => True) (fun j_5 hj_5 => ?_) (fun kk5 hj5 => ?_)
          · refine gx_iinc (pc := 39) (i := 3) (j := 3) (v := (s1.1 + 1)) (lv' := [(3, gx_i (s1.1 + 1)), (0, gx_r 17 (some x0)), (1, gx_i x1), (2, gx_i x2), (4, gx_i s1.2.1), (5, gx_i s1.2.2)]) rfl (gx_iv (by decide)) (by decide) rfl (htX16_toDisk (39, .iinc 3 1, 3) (gx_m 22 rfl)) ?_
            refine gx_goto (pc := 42) (tgt := 118) (by decide) (htX16_toDisk (42, .goto 76, 3) (gx_m 23 rfl)) ?_
            refine gx_Jw (lv := [(0, gx_r 17 (some x0)), (1, gx_i x1), (2, gx_i x2), (3, gx_i (s1.1 + 1)), (4, gx_i s1.2.1), (5, gx_i s1.2.2)]) [1, 2, 3, 0, 4, 5] rfl ?_
            exact hj3 (((s1.1 + 1) : Int32), (s1.2.1 : Int32)) trivial
          · refine gx_icmp_ge (pc := 30) (tgt := 39) (by decide) (htX16_toDisk (30, .if_icmp .ge 9, 3) (gx_m 18 rfl)) (fun c6 => ?_) (fun c6 => ?_)
            · exact hj5 () trivial
            · refine gx_aload_n (pc := 33) (n := 0) (i := 0) rfl 0 rfl (htX16_toDisk (33, .aload_n 0, 1) (gx_m 19 rfl)) ?_
              refine gx_iload (pc := 34) (i := 5) 5 rfl (htX16_toDisk (34, .iload 5, 2) (gx_m 20 rfl)) ?_
              refine gx_Jcv (pc := 36) (gx_hst (as := [gx_i s1.2.2]) (b := gx_r 17 (some x0))) (gx_runV (as := [gx_i s1.2.2]) (ci := 16) (ct_X16_onDisk Y x0 s1.2.2) (by decide) (Or.inl rfl) rfl rfl rfl rfl q2182 q2184 qs65 q117 q2185 rfl dd_X16_onDisk (by decide) (by decide) (Nat.le_of_ble_eq_true rfl) (htX16_toDisk (36, .invokevirtual 465, 3) (gx_m 21 rfl))) ?_
              exact hj5 () trivial
        · refine gx_aload_n (pc := 45) (n := 0) (i := 0) rfl 0 rfl (htX16_toDisk (45, .aload_n 0, 1) (gx_m 24 rfl)) ?_
          refine gx_Jgs (pc := 46) (ci := 16) (kk := 57) (t2 := 100) (by decide) (by decide) rfl rfl rfl q1731 (htX16_toDisk (46, .getfield 163, 3) (gx_m 25 rfl)) ?_
          refine gx_iload (pc := 49) (i := 4) 4 rfl (htX16_toDisk (49, .iload 4, 2) (gx_m 26 rfl)) ?_
          refine gx_aload_n (pc := 51) (n := 0) (i := 0) rfl 0 rfl (htX16_toDisk (51, .aload_n 0, 1) (gx_m 27 rfl)) ?_
          refine gx_Jgs (pc := 52) (ci := 16) (kk := 57) (t2 := 100) (by decide) (by decide) rfl rfl rfl q1731 (htX16_toDisk (52, .getfield 163, 3) (gx_m 28 rfl)) ?_
          refine gx_iload (pc := 55) (i := 5) 5 rfl (htX16_toDisk (55, .iload 5, 2) (gx_m 29 rfl)) ?_
          refine gx_Jia (pc := 57) (htX16_toDisk (57, .iaload, 1) (gx_m 30 rfl)) (fun v4 => ?_)
          refine gx_Jis (pc := 58) (htX16_toDisk (58, .iastore, 1) (gx_m 31 rfl)) ?_
          refine gx_aload_n (pc := 59) (n := 0) (i := 0) rfl 0 rfl (htX16_toDisk (59, .aload_n 0, 1) (gx_m 32 rfl)) ?_
          refine gx_Jgs (pc := 60) (ci := 16) (kk := 58) (t2 := 100) (by decide) (by decide) rfl rfl rfl q1732 (htX16_toDisk (60, .getfield 166, 3) (gx_m 33 rfl)) ?_
          refine gx_iload (pc := 63) (i := 4) 4 rfl (htX16_toDisk (63, .iload 4, 2) (gx_m 34 rfl)) ?_
          refine gx_aload_n (pc := 65) (n := 0) (i := 0) rfl 0 rfl (htX16_toDisk (65, .aload_n 0, 1) (gx_m 35 rfl)) ?_
          refine gx_Jgs (pc := 66) (ci := 16) (kk := 58) (t2 := 100) (by decide) (by decide) rfl rfl rfl q1732 (htX16_toDisk (66, .getfield 166, 3) (gx_m 36 rfl)) ?_
          refine gx_iload (pc := 69) (i := 5) 5 rfl (htX16_toDisk (69, .iload 5, 2) (gx_m 37 rfl)) ?_
          refine gx_Jia (pc := 71) (htX16_toDisk (71, .iaload, 1) (gx_m 38 rfl)) (fun v5 => ?_)
          refine gx_Jis (pc := 72) (htX16_toDisk (72, .iastore, 1) (gx_m 39 rfl)) ?_
          refine gx_aload_n (pc := 73) (n := 0) (i := 0) rfl 0 rfl (htX16_toDisk (73, .aload_n 0, 1) (gx_m 40 rfl)) ?_
          refine gx_Jgs (pc := 74) (ci := 16) (kk := 59) (t2 := 100) (by decide) (by decide) rfl rfl rfl q1733 (htX16_toDisk (74, .getfield 169, 3) (gx_m 41 rfl)) ?_
          refine gx_iload (pc := 77) (i := 4) 4 rfl (htX16_toDisk (77, .iload 4, 2) (gx_m 42 rfl)) ?_
          refine gx_aload_n (pc := 79) (n := 0) (i := 0) rfl 0 rfl (htX16_toDisk (79, .aload_n 0, 1) (gx_m 43 rfl)) ?_
          refine gx_Jgs (pc := 80) (ci := 16) (kk := 59) (t2 := 100) (by decide) (by decide) rfl rfl rfl q1733 (htX16_toDisk (80, .getfield 169, 3) (gx_m 44 rfl)) ?_
          refine gx_iload (pc := 83) (i := 5) 5 rfl (htX16_toDisk (83, .iload 5, 2) (gx_m 45 rfl)) ?_
          refine gx_Jia (pc := 85) (htX16_toDisk (85, .iaload, 1) (gx_m 46 rfl)) (fun v6 => ?_)
          refine gx_Jis (pc := 86) (htX16_toDisk (86, .iastore, 1) (gx_m 47 rfl)) ?_
          refine gx_aload_n (pc := 87) (n := 0) (i := 0) rfl 0 rfl (htX16_toDisk (87, .aload_n 0, 1) (gx_m 48 rfl)) ?_
          refine gx_Jgs (pc := 88) (ci := 16) (kk := 60) (t2 := 100) (by decide) (by decide) rfl rfl rfl q1734 (htX16_toDisk (88, .getfield 172, 3) (gx_m 49 rfl)) ?_
          refine gx_iload (pc := 91) (i := 4) 4 rfl (htX16_toDisk (91, .iload 4, 2) (gx_m 50 rfl)) ?_
          refine gx_aload_n (pc := 93) (n := 0) (i := 0) rfl 0 rfl (htX16_toDisk (93, .aload_n 0, 1) (gx_m 51 rfl)) ?_
          refine gx_Jgs (pc := 94) (ci := 16) (kk := 60) (t2 := 100) (by decide) (by decide) rfl rfl rfl q1734 (htX16_toDisk (94, .getfield 172, 3) (gx_m 52 rfl)) ?_
          refine gx_iload (pc := 97) (i := 5) 5 rfl (htX16_toDisk (97, .iload 5, 2) (gx_m 53 rfl)) ?_
          refine gx_Jia (pc := 99) (htX16_toDisk (99, .iaload, 1) (gx_m 54 rfl)) (fun v7 => ?_)
          refine gx_Jis (pc := 100) (htX16_toDisk (100, .iastore, 1) (gx_m 55 rfl)) ?_
          refine gx_aload_n (pc := 101) (n := 0) (i := 0) rfl 0 rfl (htX16_toDisk (101, .aload_n 0, 1) (gx_m 56 rfl)) ?_
          refine gx_Jgs (pc := 102) (ci := 16) (kk := 61) (t2 := 100) (by decide) (by decide) rfl rfl rfl q1735 (htX16_toDisk (102, .getfield 175, 3) (gx_m 57 rfl)) ?_
          refine gx_iload (pc := 105) (i := 4) 4 rfl (htX16_toDisk (105, .iload 4, 2) (gx_m 58 rfl)) ?_
          refine gx_aload_n (pc := 107) (n := 0) (i := 0) rfl 0 rfl (htX16_toDisk (107, .aload_n 0, 1) (gx_m 59 rfl)) ?_
          refine gx_Jgs (pc := 108) (ci := 16) (kk := 61) (t2 := 100) (by decide) (by decide) rfl rfl rfl q1735 (htX16_toDisk (108, .getfield 175, 3) (gx_m 60 rfl)) ?_
          refine gx_iload (pc := 111) (i := 5) 5 rfl (htX16_toDisk (111, .iload 5, 2) (gx_m 61 rfl)) ?_
          refine gx_Jia (pc := 113) (htX16_toDisk (113, .iaload, 1) (gx_m 62 rfl)) (fun v8 => ?_)
          refine gx_Jis (pc := 114) (htX16_toDisk (114, .iastore, 1) (gx_m 63 rfl)) ?_
          refine gx_iinc (pc := 115) (i := 4) (j := 4) (v := (s1.2.1 + 1)) (lv' := [(4, gx_i (s1.2.1 + 1)), (0, gx_r 17 (some x0)), (1, gx_i x1), (2, gx_i x2), (3, gx_i s1.1), (5, gx_i s1.2.2)]) rfl (gx_iv (by decide)) (by decide) rfl (htX16_toDisk (115, .iinc 4 1, 3) (gx_m 64 rfl)) ?_
          refine gx_Jw (lv := [(0, gx_r 17 (some x0)), (1, gx_i x1), (2, gx_i x2), (3, gx_i s1.1), (4, gx_i (s1.2.1 + 1)), (5, gx_i s1.2.2)]) [1, 2, 3, 4, 0, 5] rfl ?_
          exact hj3 ((s1.1 : Int32), ((s1.2.1 + 1) : Int32)) trivial
theorem ct_X16_extend (Y : gx_Y) (x0 : gx_Nm) (x1 : Int32) (x2 : Int32) : gx_Ct Y yX16_extend (ws_ yX16_extend cX16_extend 4 (some .int)) 1 100 [gx_r 17 (some x0), gx_i x1, gx_i x2] gx_Oi (f_X16_extend x0 x1 x2) := by
  refine gx_start (lv := [(0, gx_r 17 (some x0)), (1, gx_i x1), (2, gx_i x2)]) gx_Oi_r pn_X16 (Nat.le_of_ble_eq_true rfl) rfl ?_
  unfold f_X16_extend
  refine gx_iconst (pc := 0) (v := 1) (by decide) (htX16_extend (0, .iconst 1, 1) (gx_m 0 rfl)) ?_
  refine gx_istore_n (pc := 1) (n := 3) (i := 3) (lv' := [(3, gx_i 1), (0, gx_r 17 (some x0)), (1, gx_i x1), (2, gx_i x2)]) rfl (by decide) rfl (htX16_extend (1, .istore_n 3, 1) (gx_m 1 rfl)) ?_
  refine gx_JjoinE (pcJ := 38) (lvJ := fun (j_1 : Unit) => [(0, gx_r 17 (some x0)), (1, gx_i x1), (2, gx_i x2)]) (stJ := fun (j_1 : Unit) => []) (gr := fun r => gx_rt r) (fun _ => rfl) (fun _ => rfl) (fun j_1 => ?_) (fun kk1 hj1 he1 => ?_)
  · refine gx_aload_n (pc := 38) (n := 0) (i := 0) rfl 0 rfl (htX16_extend (38, .aload_n 0, 1) (gx_m 22 rfl)) ?_
    refine gx_Jgs (pc := 39) (ci := 16) (kk := 24) (t2 := 100) (by decide) (by decide) rfl rfl rfl q1698 (htX16_extend (39, .getfield 60, 3) (gx_m 23 rfl)) ?_
    refine gx_aload_n (pc := 42) (n := 0) (i := 0) rfl 0 rfl (htX16_extend (42, .aload_n 0, 1) (gx_m 24 rfl)) ?_
    refine gx_Jgi (pc := 43) (ci := 16) (kk := 27) (by decide) (Or.inl rfl) (by decide) (by decide) q1701 (htX16_extend (43, .getfield 69, 3) (gx_m 25 rfl)) (fun v7 hv7 => ?_)
    refine gx_iload_n (pc := 46) (n := 1) (i := 1) rfl 1 rfl (htX16_extend (46, .iload_n 1, 1) (gx_m 26 rfl)) ?_
    refine gx_Jis (pc := 47) (htX16_extend (47, .iastore, 1) (gx_m 27 rfl)) ?_
    refine gx_aload_n (pc := 48) (n := 0) (i := 0) rfl 0 rfl (htX16_extend (48, .aload_n 0, 1) (gx_m 28 rfl)) ?_
    refine gx_Jgs (pc := 49) (ci := 16) (kk := 25) (t2 := 100) (by decide) (by decide) rfl rfl rfl q1699 (htX16_extend (49, .getfield 63, 3) (gx_m 29 rfl)) ?_
    refine gx_aload_n (pc := 52) (n := 0) (i := 0) rfl 0 rfl (htX16_extend (52, .aload_n 0, 1) (gx_m 30 rfl)) ?_
    refine gx_Jgi (pc := 53) (ci := 16) (kk := 27) (by decide) (Or.inl rfl) (by decide) (by decide) q1701 (htX16_extend (53, .getfield 69, 3) (gx_m 31 rfl)) (fun v8 hv8 => ?_)
    refine gx_iload_n (pc := 56) (n := 2) (i := 2) rfl 2 rfl (htX16_extend (56, .iload_n 2, 1) (gx_m 32 rfl)) ?_
    refine gx_Jis (pc := 57) (htX16_extend (57, .iastore, 1) (gx_m 33 rfl)) ?_
    refine gx_aload_n (pc := 58) (n := 0) (i := 0) rfl 0 rfl (htX16_extend (58, .aload_n 0, 1) (gx_m 34 rfl)) ?_
    refine gx_Jgs (pc := 59) (ci := 16) (kk := 26) (t2 := 100) (by decide) (by decide) rfl rfl rfl q1700 (htX16_extend (59, .getfield 66, 3) (gx_m 35 rfl)) ?_
    refine gx_aload_n (pc := 62) (n := 0) (i := 0) rfl 0 rfl (htX16_extend (62, .aload_n 0, 1) (gx_m 36 rfl)) ?_
    refine gx_Jgi (pc := 63) (ci := 16) (kk := 27) (by decide) (Or.inl rfl) (by decide) (by decide) q1701 (htX16_extend (63, .getfield 69, 3) (gx_m 37 rfl)) (fun v9 hv9 => ?_)
    refine gx_aload_n (pc := 66) (n := 0) (i := 0) rfl 0 rfl (htX16_extend (66, .aload_n 0, 1) (gx_m 38 rfl)) ?_
    refine gx_Jgs (pc := 67) (ci := 16) (kk := 26) (t2 := 100) (by decide) (by decide) rfl rfl rfl q1700 (htX16_extend (67, .getfield 66, 3) (gx_m 39 rfl)) ?_
    refine gx_iload_n (pc := 70) (n := 1) (i := 1) rfl 1 rfl (htX16_extend (70, .iload_n 1, 1) (gx_m 40 rfl)) ?_
    refine gx_Jia (pc := 71) (htX16_extend (71, .iaload, 1) (gx_m 41 rfl)) (fun v10 => ?_)
    refine gx_iconst (pc := 72) (v := 1) (by decide) (htX16_extend (72, .iconst 1, 1) (gx_m 42 rfl)) ?_
    refine gx_iadd (pc := 73) (htX16_extend (73, .iadd, 1) (gx_m 43 rfl)) ?_
    refine gx_Jis (pc := 74) (htX16_extend (74, .iastore, 1) (gx_m 44 rfl)) ?_
    refine gx_aload_n (pc := 75) (n := 0) (i := 0) rfl 0 rfl (htX16_extend (75, .aload_n 0, 1) (gx_m 45 rfl)) ?_
    refine gx_dup (pc := 76) rfl (htX16_extend (76, .dup, 1) (gx_m 46 rfl)) ?_
    refine gx_Jgi (pc := 77) (ci := 16) (kk := 27) (by decide) (Or.inl rfl) (by decide) (by decide) q1701 (htX16_extend (77, .getfield 69, 3) (gx_m 47 rfl)) (fun v11 hv11 => ?_)
    refine gx_iconst (pc := 80) (v := 1) (by decide) (htX16_extend (80, .iconst 1, 1) (gx_m 48 rfl)) ?_
    refine gx_iadd (pc := 81) (htX16_extend (81, .iadd, 1) (gx_m 49 rfl)) ?_
    refine gx_Jpi (pc := 82) (ci := 16) (kk := 27) (by decide) (Or.inl rfl) (by decide) rfl rfl q1701 (Or.inl rfl) (htX16_extend (82, .putfield 69, 3) (gx_m 50 rfl)) ?_
    refine gx_aload_n (pc := 85) (n := 0) (i := 0) rfl 0 rfl (htX16_extend (85, .aload_n 0, 1) (gx_m 51 rfl)) ?_
    refine gx_Jgi (pc := 86) (ci := 16) (kk := 27) (by decide) (Or.inl rfl) (by decide) (by decide) q1701 (htX16_extend (86, .getfield 69, 3) (gx_m 52 rfl)) (fun v12 hv12 => ?_)
    refine gx_iconst (pc := 89) (v := 1) (by decide) (htX16_extend (89, .iconst 1, 1) (gx_m 53 rfl)) ?_
    refine gx_isub (pc := 90) (htX16_extend (90, .isub, 1) (gx_m 54 rfl)) ?_
    exact gx_Jiret (pc := 91) rfl (fun _ => trivial) (fun _ _ => rfl) (htX16_extend (91, .ireturn, 1) (gx_m 55 rfl))
  · refine gx_Jw (lv := [(0, gx_r 17 (some x0)), (1, gx_i x1), (2, gx_i x2), (3, gx_i 1)]) [1, 2, 3, 0] rfl ?_
    refine gx_Jlp (pc := 2) (lvh := fun (s1 : Int32) => [(0, gx_r 17 (some x0)), (1, gx_i x1), (2, gx_i x2), (3, gx_i s1)]) (fun s1 kl1 ha1 hb1 => ?_) _
    unfold lb_X16_extend_1
    refine gx_iload_n (pc := 2) (n := 3) (i := 3) rfl 3 rfl (htX16_extend (2, .iload_n 3, 1) (gx_m 2 rfl)) ?_
    refine gx_aload_n (pc := 3) (n := 0) (i := 0) rfl 0 rfl (htX16_extend (3, .aload_n 0, 1) (gx_m 3 rfl)) ?_
    refine gx_Jgi (pc := 4) (ci := 16) (kk := 27) (by decide) (Or.inl rfl) (by decide) (by decide) q1701 (htX16_extend (4, .getfield 69, 3) (gx_m 4 rfl)) (fun v2 hv2 => ?_)
    refine gx_icmp_ge (pc := 7) (tgt := 38) (by decide) (htX16_extend (7, .if_icmp .ge 31, 3) (gx_m 5 rfl)) (fun c2 => ?_) (fun c2 => ?_)
    · refine gx_Jw (lv := [(0, gx_r 17 (some x0)), (1, gx_i x1), (2, gx_i x2)]) [0, 1, 2] rfl ?_
      exact gx_Jout hb1 (hj1 ())
    · refine gx_aload_n (pc := 10) (n := 0) (i := 0) rfl 0 rfl (htX16_extend (10, .aload_n 0, 1) (gx_m 6 rfl)) ?_
      refine gx_Jgs (pc := 11) (ci := 16) (kk := 24) (t2 := 100) (by decide) (by decide) rfl rfl rfl q1698 (htX16_extend (11, .getfield 60, 3) (gx_m 7 rfl)) ?_
      refine gx_iload_n (pc := 14) (n := 3) (i := 3) rfl 3 rfl (htX16_extend (14, .iload_n 3, 1) (gx_m 8 rfl)) ?_
      refine gx_Jia (pc := 15) (htX16_extend (15, .iaload, 1) (gx_m 9 rfl)) (fun v3 => ?_)
      refine gx_iload_n (pc := 16) (n := 1) (i := 1) rfl 1 rfl (htX16_extend (16, .iload_n 1, 1) (gx_m 10 rfl)) ?_
      refine gx_icmp_ne (pc := 17) (tgt := 32) (by decide) (htX16_extend (17, .if_icmp .ne 15, 3) (gx_m 11 rfl)) (fun c3 => ?_) (fun c3 => ?_)
      · refine gx_aload_n (pc := 20) (n := 0) (i := 0) rfl 0 rfl (htX16_extend (20, .aload_n 0, 1) (gx_m 12 rfl)) ?_
        refine gx_Jgs (pc := 21) (ci := 16) (kk := 25) (t2 := 100) (by decide) (by decide) rfl rfl rfl q1699 (htX16_extend (21, .getfield 63, 3) (gx_m 13 rfl)) ?_
        refine gx_iload_n (pc := 24) (n := 3) (i := 3) rfl 3 rfl (htX16_extend (24, .iload_n 3, 1) (gx_m 14 rfl)) ?_
        refine gx_Jia (pc := 25) (htX16_extend (25, .iaload, 1) (gx_m 15 rfl)) (fun v4 => ?_)
        refine gx_iload_n (pc := 26) (n := 2) (i := 2) rfl 2 rfl (htX16_extend (26, .iload_n 2, 1) (gx_m 16 rfl)) ?_
        refine gx_icmp_ne (pc := 27) (tgt := 32) (by decide) (htX16_extend (27, .if_icmp .ne 5, 3) (gx_m 17 rfl)) (fun c4 => ?_) (fun c4 => ?_)
        · refine gx_iload_n (pc := 30) (n := 3) (i := 3) rfl 3 rfl (htX16_extend (30, .iload_n 3, 1) (gx_m 18 rfl)) ?_
          refine gx_Jret ((hb1 _).trans (he1 _)) ?_
          exact gx_Jiret (pc := 31) rfl (fun _ => trivial) (fun _ _ => rfl) (htX16_extend (31, .ireturn, 1) (gx_m 19 rfl))
        · refine gx_iinc (pc := 32) (i := 3) (j := 3) (v := (s1 + 1)) (lv' := [(3, gx_i (s1 + 1)), (0, gx_r 17 (some x0)), (1, gx_i x1), (2, gx_i x2)]) rfl (gx_iv (by decide)) (by decide) rfl (htX16_extend (32, .iinc 3 1, 3) (gx_m 20 rfl)) ?_
          refine gx_goto (pc := 35) (tgt := 2) (by decide) (htX16_extend (35, .goto (-33), 3) (gx_m 21 rfl)) ?_
          refine gx_Jw (lv := [(0, gx_r 17 (some x0)), (1, gx_i x1), (2, gx_i x2), (3, gx_i (s1 + 1))]) [1, 2, 3, 0] rfl ?_
          exact ha1 ((s1 + 1) : Int32)
      · refine gx_iinc (pc := 32) (i := 3) (j := 3) (v := (s1 + 1)) (lv' := [(3, gx_i (s1 + 1)), (0, gx_r 17 (some x0)), (1, gx_i x1), (2, gx_i x2)]) rfl (gx_iv (by decide)) (by decide) rfl (htX16_extend (32, .iinc 3 1, 3) (gx_m 20 rfl)) ?_
        refine gx_goto (pc := 35) (tgt := 2) (by decide) (htX16_extend (35, .goto (-33), 3) (gx_m 21 rfl)) ?_
        refine gx_Jw (lv := [(0, gx_r 17 (some x0)), (1, gx_i x1), (2, gx_i x2), (3, gx_i (s1 + 1))]) [1, 2, 3, 0] rfl ?_
        exact ha1 ((s1 + 1) : Int32)
theorem ct_X16_applyTo (Y : gx_Y) (x0 : gx_Nm) (x1 : Int32) (x2 : Int32) : gx_Ct Y yX16_applyTo (ws_ yX16_applyTo cX16_applyTo 5 none) 2 123 [gx_r 17 (some x0), gx_i x1, gx_i x2] gx_Ov (f_X16_applyTo x0 x1 x2) := by
  refine gx_start (lv := [(0, gx_r 17 (some x0)), (1, gx_i x1), (2, gx_i x2)]) gx_Ov_r pn_X16 (Nat.le_of_ble_eq_true rfl) rfl ?_
  unfold f_X16_applyTo
  refine gx_iload_n (pc := 0) (n := 2) (i := 2) rfl 2 rfl (htX16_applyTo (0, .iload_n 2, 1) (gx_m 0 rfl)) ?_
  refine gx_aload_n (pc := 1) (n := 0) (i := 0) rfl 0 rfl (htX16_applyTo (1, .aload_n 0, 1) (gx_m 1 rfl)) ?_
  refine gx_Jgs (pc := 2) (ci := 16) (kk := 47) (t2 := 100) (by decide) (by decide) rfl rfl rfl q1721 (htX16_applyTo (2, .getfield 130, 3) (gx_m 2 rfl)) ?_
  refine gx_iload_n (pc := 5) (n := 1) (i := 1) rfl 1 rfl (htX16_applyTo (5, .iload_n 1, 1) (gx_m 3 rfl)) ?_
  refine gx_Jia (pc := 6) (htX16_applyTo (6, .iaload, 1) (gx_m 4 rfl)) (fun v1 => ?_)
  refine gx_icmp_gt (pc := 7) (tgt := 11) (by decide) (htX16_applyTo (7, .if_icmp .gt 4, 3) (gx_m 5 rfl)) (fun c1 => ?_) (fun c1 => ?_)
  · refine gx_aload_n (pc := 11) (n := 0) (i := 0) rfl 0 rfl (htX16_applyTo (11, .aload_n 0, 1) (gx_m 7 rfl)) ?_
    refine gx_Jgs (pc := 12) (ci := 16) (kk := 47) (t2 := 100) (by decide) (by decide) rfl rfl rfl q1721 (htX16_applyTo (12, .getfield 130, 3) (gx_m 8 rfl)) ?_
    refine gx_iload_n (pc := 15) (n := 1) (i := 1) rfl 1 rfl (htX16_applyTo (15, .iload_n 1, 1) (gx_m 9 rfl)) ?_
    refine gx_Jia (pc := 16) (htX16_applyTo (16, .iaload, 1) (gx_m 10 rfl)) (fun v2 => ?_)
    refine gx_iconst (pc := 17) (v := 1) (by decide) (htX16_applyTo (17, .iconst 1, 1) (gx_m 11 rfl)) ?_
    refine gx_iadd (pc := 18) (htX16_applyTo (18, .iadd, 1) (gx_m 12 rfl)) ?_
    refine gx_istore_n (pc := 19) (n := 3) (i := 3) (lv' := [(3, gx_i (v2 + 1)), (0, gx_r 17 (some x0)), (1, gx_i x1), (2, gx_i x2)]) rfl (by decide) rfl (htX16_applyTo (19, .istore_n 3, 1) (gx_m 13 rfl)) ?_
    refine gx_Jjoin (pcJ := 100) (lvJ := fun (j_2 : Unit) => [(0, gx_r 17 (some x0)), (1, gx_i x1), (2, gx_i x2)]) (stJ := fun (j_2 : Unit) => []) (fun _ => True) (fun j_2 _ => ?_) (fun kk2 hj2 => ?_)
    · refine gx_aload_n (pc := 100) (n := 0) (i := 0) rfl 0 rfl (htX16_applyTo (100, .aload_n 0, 1) (gx_m 60 rfl)) ?_
      refine gx_Jgs (pc := 101) (ci := 16) (kk := 47) (t2 := 100) (by decide) (by decide) rfl rfl rfl q1721 (htX16_applyTo (101, .getfield 130, 3) (gx_m 61 rfl)) ?_
      refine gx_iload_n (pc := 104) (n := 1) (i := 1) rfl 1 rfl (htX16_applyTo (104, .iload_n 1, 1) (gx_m 62 rfl)) ?_
      refine gx_iload_n (pc := 105) (n := 2) (i := 2) rfl 2 rfl (htX16_applyTo (105, .iload_n 2, 1) (gx_m 63 rfl)) ?_
      refine gx_Jis (pc := 106) (htX16_applyTo (106, .iastore, 1) (gx_m 64 rfl)) ?_
      refine gx_aload_n (pc := 107) (n := 0) (i := 0) rfl 0 rfl (htX16_applyTo (107, .aload_n 0, 1) (gx_m 65 rfl)) ?_
      refine gx_aload_n (pc := 108) (n := 0) (i := 0) rfl 0 rfl (htX16_applyTo (108, .aload_n 0, 1) (gx_m 66 rfl)) ?_
      refine gx_Jgi (pc := 109) (ci := 16) (kk := 115) (by decide) (Or.inl rfl) (by decide) (by decide) q1789 (htX16_applyTo (109, .getfield 345, 3) (gx_m 67 rfl)) (fun v11 hv11 => ?_)
      refine gx_iload_n (pc := 112) (n := 2) (i := 2) rfl 2 rfl (htX16_applyTo (112, .iload_n 2, 1) (gx_m 68 rfl)) ?_
      refine gx_Jmax (pc := 113) rfl q2198 q2199 q128 q2200 (by decide) (Nat.le_of_ble_eq_true rfl) (htX16_applyTo (113, .invokestatic 490, 3) (gx_m 69 rfl)) ?_
      refine gx_Jpi (pc := 116) (ci := 16) (kk := 115) (by decide) (Or.inl rfl) (by decide) rfl rfl q1789 (Or.inl rfl) (htX16_applyTo (116, .putfield 345, 3) (gx_m 70 rfl)) ?_
      exact gx_Jvret (pc := 119) rfl (fun _ => trivial) (fun _ _ => rfl) (htX16_applyTo (119, .return_, 1) (gx_m 71 rfl))
    · refine gx_Jw (lv := [(0, gx_r 17 (some x0)), (1, gx_i x1), (2, gx_i x2), (3, gx_i (v2 + 1))]) [1, 2, 3, 0] rfl ?_
      refine gx_Jlp (pc := 20) (lvh := fun (s3 : Int32) => [(0, gx_r 17 (some x0)), (1, gx_i x1), (2, gx_i x2), (3, gx_i s3)]) (fun s3 kl2 ha2 hb2 => ?_) _
      unfold lb_X16_applyTo_1
      refine gx_iload_n (pc := 20) (n := 3) (i := 3) rfl 3 rfl (htX16_applyTo (20, .iload_n 3, 1) (gx_m 14 rfl)) ?_
      refine gx_iload_n (pc := 21) (n := 2) (i := 2) rfl 2 rfl (htX16_applyTo (21, .iload_n 2, 1) (gx_m 15 rfl)) ?_
      refine gx_icmp_gt (pc := 22) (tgt := 100) (by decide) (htX16_applyTo (22, .if_icmp .gt 78, 3) (gx_m 16 rfl)) (fun c3 => ?_) (fun c3 => ?_)
      · refine gx_Jw (lv := [(0, gx_r 17 (some x0)), (1, gx_i x1), (2, gx_i x2)]) [0, 1, 2] rfl ?_
        exact gx_Jout hb2 (hj2 () trivial)
      · refine gx_aload_n (pc := 25) (n := 0) (i := 0) rfl 0 rfl (htX16_applyTo (25, .aload_n 0, 1) (gx_m 17 rfl)) ?_
        refine gx_Jgs (pc := 26) (ci := 16) (kk := 37) (t2 := 105) (by decide) (by decide) rfl rfl rfl q1711 (htX16_applyTo (26, .getfield 100, 3) (gx_m 18 rfl)) ?_
        refine gx_iload_n (pc := 29) (n := 1) (i := 1) rfl 1 rfl (htX16_applyTo (29, .iload_n 1, 1) (gx_m 19 rfl)) ?_
        refine gx_Jra (pc := 30) (t := 5) (t2 := 100) (by decide) (by decide) rfl (htX16_applyTo (30, .aaload, 1) (gx_m 20 rfl)) (fun v4 => ?_)
        refine gx_iload_n (pc := 31) (n := 3) (i := 3) rfl 3 rfl (htX16_applyTo (31, .iload_n 3, 1) (gx_m 21 rfl)) ?_
        refine gx_Jia (pc := 32) (htX16_applyTo (32, .iaload, 1) (gx_m 22 rfl)) (fun v5 => ?_)
        refine gx_istore (pc := 33) (i := 4) (lv' := [(4, gx_i v5), (0, gx_r 17 (some x0)), (1, gx_i x1), (2, gx_i x2), (3, gx_i s3)]) (by decide) rfl (htX16_applyTo (33, .istore 4, 2) (gx_m 23 rfl)) ?_
        refine gx_aload_n (pc := 35) (n := 0) (i := 0) rfl 1 rfl (htX16_applyTo (35, .aload_n 0, 1) (gx_m 24 rfl)) ?_
        refine gx_Jgs (pc := 36) (ci := 16) (kk := 28) (t2 := 100) (by decide) (by decide) rfl rfl rfl q1702 (htX16_applyTo (36, .getfield 73, 3) (gx_m 25 rfl)) ?_
        refine gx_iload_n (pc := 39) (n := 3) (i := 3) rfl 4 rfl (htX16_applyTo (39, .iload_n 3, 1) (gx_m 26 rfl)) ?_
        refine gx_Jia (pc := 40) (htX16_applyTo (40, .iaload, 1) (gx_m 27 rfl)) (fun v6 => ?_)
        refine gx_Jjoin (pcJ := 76) (lvJ := fun (j_4 : Unit) => [(0, gx_r 17 (some x0)), (1, gx_i x1), (2, gx_i x2), (3, gx_i s3), (4, gx_i v5)]) (stJ := fun (j_4 : Unit) => []) (fun _ => True) (fun j_4 hj_4 => ?_) (fun kk4 hj4 => ?_)
        · refine gx_aload_n (pc := 76) (n := 0) (i := 0) rfl 0 rfl (htX16_applyTo (76, .aload_n 0, 1) (gx_m 47 rfl)) ?_
          refine gx_Jgs (pc := 77) (ci := 16) (kk := 48) (t2 := 100) (by decide) (by decide) rfl rfl rfl q1722 (htX16_applyTo (77, .getfield 133, 3) (gx_m 48 rfl)) ?_
          refine gx_iload_n (pc := 80) (n := 1) (i := 1) rfl 1 rfl (htX16_applyTo (80, .iload_n 1, 1) (gx_m 49 rfl)) ?_
          refine gx_aload_n (pc := 81) (n := 0) (i := 0) rfl 0 rfl (htX16_applyTo (81, .aload_n 0, 1) (gx_m 50 rfl)) ?_
          refine gx_aload_n (pc := 82) (n := 0) (i := 0) rfl 0 rfl (htX16_applyTo (82, .aload_n 0, 1) (gx_m 51 rfl)) ?_
          refine gx_Jgs (pc := 83) (ci := 16) (kk := 48) (t2 := 100) (by decide) (by decide) rfl rfl rfl q1722 (htX16_applyTo (83, .getfield 133, 3) (gx_m 52 rfl)) ?_
          refine gx_iload_n (pc := 86) (n := 1) (i := 1) rfl 1 rfl (htX16_applyTo (86, .iload_n 1, 1) (gx_m 53 rfl)) ?_
          refine gx_Jia (pc := 87) (htX16_applyTo (87, .iaload, 1) (gx_m 54 rfl)) (fun v9 => ?_)
          refine gx_iload (pc := 88) (i := 4) 4 rfl (htX16_applyTo (88, .iload 4, 2) (gx_m 55 rfl)) ?_
          refine gx_Jci (pc := 90) (gx_hst (as := [gx_i v9, gx_i v5]) (b := gx_r 17 (some x0))) (gx_runV (as := [gx_i v9, gx_i v5]) (ci := 16) (ct_X16_extend Y x0 v9 v5) (by decide) (Or.inl rfl) rfl rfl rfl rfl q2194 q2196 qs68 q117 q2197 rfl dd_X16_extend (by decide) (by decide) (Nat.le_of_ble_eq_true rfl) (htX16_applyTo (90, .invokevirtual 487, 3) (gx_m 56 rfl))) (fun v10 => ?_)
          refine gx_Jis (pc := 93) (htX16_applyTo (93, .iastore, 1) (gx_m 57 rfl)) ?_
          refine gx_iinc (pc := 94) (i := 3) (j := 3) (v := (s3 + 1)) (lv' := [(3, gx_i (s3 + 1)), (0, gx_r 17 (some x0)), (1, gx_i x1), (2, gx_i x2), (4, gx_i v5)]) rfl (gx_iv (by decide)) (by decide) rfl (htX16_applyTo (94, .iinc 3 1, 3) (gx_m 58 rfl)) ?_
          refine gx_goto (pc := 97) (tgt := 20) (by decide) (htX16_applyTo (97, .goto (-77), 3) (gx_m 59 rfl)) ?_
          refine gx_Jw (lv := [(0, gx_r 17 (some x0)), (1, gx_i x1), (2, gx_i x2), (3, gx_i (s3 + 1))]) [1, 2, 3, 0] rfl ?_
          exact ha2 ((s3 + 1) : Int32)
        · refine gx_if_ge (pc := 41) (y := 0) (tgt := 55) (by decide) (htX16_applyTo (41, .ifCond .ge 14, 3) (gx_m 28 rfl)) (fun c5 => ?_) (fun c5 => ?_)
          · refine gx_aload_n (pc := 55) (n := 0) (i := 0) rfl 1 rfl (htX16_applyTo (55, .aload_n 0, 1) (gx_m 35 rfl)) ?_
            refine gx_Jgs (pc := 56) (ci := 16) (kk := 28) (t2 := 100) (by decide) (by decide) rfl rfl rfl q1702 (htX16_applyTo (56, .getfield 73, 3) (gx_m 36 rfl)) ?_
            refine gx_iload_n (pc := 59) (n := 3) (i := 3) rfl 4 rfl (htX16_applyTo (59, .iload_n 3, 1) (gx_m 37 rfl)) ?_
            refine gx_Jia (pc := 60) (htX16_applyTo (60, .iaload, 1) (gx_m 38 rfl)) (fun v7 => ?_)
            refine gx_iload (pc := 61) (i := 4) 0 rfl (htX16_applyTo (61, .iload 4, 2) (gx_m 39 rfl)) ?_
            refine gx_icmp_eq (pc := 63) (tgt := 76) (by decide) (htX16_applyTo (63, .if_icmp .eq 13, 3) (gx_m 40 rfl)) (fun c6 => ?_) (fun c6 => ?_)
            · refine gx_Jw (lv := [(0, gx_r 17 (some x0)), (1, gx_i x1), (2, gx_i x2), (3, gx_i s3), (4, gx_i v5)]) [1, 2, 3, 4, 0] rfl ?_
              exact hj4 () trivial
            · refine gx_aload_n (pc := 66) (n := 0) (i := 0) rfl 1 rfl (htX16_applyTo (66, .aload_n 0, 1) (gx_m 41 rfl)) ?_
              refine gx_dup (pc := 67) rfl (htX16_applyTo (67, .dup, 1) (gx_m 42 rfl)) ?_
              refine gx_Jgi (pc := 68) (ci := 16) (kk := 96) (by decide) (Or.inl rfl) (by decide) (by decide) q1770 (htX16_applyTo (68, .getfield 342, 3) (gx_m 43 rfl)) (fun v8 hv8 => ?_)
              refine gx_iconst (pc := 71) (v := 1) (by decide) (htX16_applyTo (71, .iconst 1, 1) (gx_m 44 rfl)) ?_
              refine gx_iadd (pc := 72) (htX16_applyTo (72, .iadd, 1) (gx_m 45 rfl)) ?_
              refine gx_Jpi (pc := 73) (ci := 16) (kk := 96) (by decide) (Or.inl rfl) (by decide) rfl rfl q1770 (Or.inl rfl) (htX16_applyTo (73, .putfield 342, 3) (gx_m 46 rfl)) ?_
              refine gx_Jw (lv := [(0, gx_r 17 (some x0)), (1, gx_i x1), (2, gx_i x2), (3, gx_i s3), (4, gx_i v5)]) [1, 2, 3, 4, 0] rfl ?_
              exact hj4 () trivial
          · refine gx_aload_n (pc := 44) (n := 0) (i := 0) rfl 1 rfl (htX16_applyTo (44, .aload_n 0, 1) (gx_m 29 rfl)) ?_
            refine gx_Jgs (pc := 45) (ci := 16) (kk := 28) (t2 := 100) (by decide) (by decide) rfl rfl rfl q1702 (htX16_applyTo (45, .getfield 73, 3) (gx_m 30 rfl)) ?_
            refine gx_iload_n (pc := 48) (n := 3) (i := 3) rfl 4 rfl (htX16_applyTo (48, .iload_n 3, 1) (gx_m 31 rfl)) ?_
            refine gx_iload (pc := 49) (i := 4) 0 rfl (htX16_applyTo (49, .iload 4, 2) (gx_m 32 rfl)) ?_
            refine gx_Jis (pc := 51) (htX16_applyTo (51, .iastore, 1) (gx_m 33 rfl)) ?_
            refine gx_goto (pc := 52) (tgt := 76) (by decide) (htX16_applyTo (52, .goto 24, 3) (gx_m 34 rfl)) ?_
            refine gx_Jw (lv := [(0, gx_r 17 (some x0)), (1, gx_i x1), (2, gx_i x2), (3, gx_i s3), (4, gx_i v5)]) [1, 2, 3, 4, 0] rfl ?_
            exact hj4 () trivial
  · exact gx_Jvret (pc := 10) rfl (fun _ => trivial) (fun _ _ => rfl) (htX16_applyTo (10, .return_, 1) (gx_m 6 rfl))
theorem ct_X16_lookForCommit (Y : gx_Y) (x0 : gx_Nm) (x1 : Int32) : gx_Ct Y yX16_lookForCommit (ws_ yX16_lookForCommit cX16_lookForCommit 5 none) 3 147 [gx_r 17 (some x0), gx_i x1] gx_Ov (f_X16_lookForCommit x0 x1) := by
  refine gx_start (lv := [(0, gx_r 17 (some x0)), (1, gx_i x1)]) gx_Ov_r pn_X16 (Nat.le_of_ble_eq_true rfl) rfl ?_
  unfold f_X16_lookForCommit
  refine gx_aload_n (pc := 0) (n := 0) (i := 0) rfl 0 rfl (htX16_lookForCommit (0, .aload_n 0, 1) (gx_m 0 rfl)) ?_
  refine gx_Jgs (pc := 1) (ci := 16) (kk := 36) (t2 := 100) (by decide) (by decide) rfl rfl rfl q1710 (htX16_lookForCommit (1, .getfield 95, 3) (gx_m 1 rfl)) ?_
  refine gx_iload_n (pc := 4) (n := 1) (i := 1) rfl 1 rfl (htX16_lookForCommit (4, .iload_n 1, 1) (gx_m 2 rfl)) ?_
  refine gx_Jia (pc := 5) (htX16_lookForCommit (5, .iaload, 1) (gx_m 3 rfl)) (fun v1 => ?_)
  refine gx_istore_n (pc := 6) (n := 2) (i := 2) (lv' := [(2, gx_i v1), (0, gx_r 17 (some x0)), (1, gx_i x1)]) rfl (by decide) rfl (htX16_lookForCommit (6, .istore_n 2, 1) (gx_m 4 rfl)) ?_
  refine gx_JjoinE (pcJ := 122) (lvJ := fun (j_1 : Unit) => []) (stJ := fun (j_1 : Unit) => []) (gr := fun r => gx_rt r) (fun _ => rfl) (fun _ => rfl) (fun j_1 => ?_) (fun kk1 hj1 he1 => ?_)
  · exact gx_Jvret (pc := 122) rfl (fun _ => trivial) (fun _ _ => rfl) (htX16_lookForCommit (122, .return_, 1) (gx_m 68 rfl))
  · refine gx_Jw (lv := [(0, gx_r 17 (some x0)), (1, gx_i x1), (2, gx_i v1)]) [1, 2, 0] rfl ?_
    refine gx_Jlp (pc := 7) (lvh := fun (s2 : Int32) => [(0, gx_r 17 (some x0)), (1, gx_i x1), (2, gx_i s2)]) (fun s2 kl1 ha1 hb1 => ?_) _
    unfold lb_X16_lookForCommit_2
    refine gx_iload_n (pc := 7) (n := 2) (i := 2) rfl 2 rfl (htX16_lookForCommit (7, .iload_n 2, 1) (gx_m 5 rfl)) ?_
    refine gx_aload_n (pc := 8) (n := 0) (i := 0) rfl 0 rfl (htX16_lookForCommit (8, .aload_n 0, 1) (gx_m 6 rfl)) ?_
    refine gx_Jgs (pc := 9) (ci := 16) (kk := 47) (t2 := 100) (by decide) (by decide) rfl rfl rfl q1721 (htX16_lookForCommit (9, .getfield 130, 3) (gx_m 7 rfl)) ?_
    refine gx_iload_n (pc := 12) (n := 1) (i := 1) rfl 1 rfl (htX16_lookForCommit (12, .iload_n 1, 1) (gx_m 8 rfl)) ?_
    refine gx_Jia (pc := 13) (htX16_lookForCommit (13, .iaload, 1) (gx_m 9 rfl)) (fun v3 => ?_)
    refine gx_icmp_le (pc := 14) (tgt := 122) (by decide) (htX16_lookForCommit (14, .if_icmp .le 108, 3) (gx_m 10 rfl)) (fun c2 => ?_) (fun c2 => ?_)
    · refine gx_Jw (lv := []) [] rfl ?_
      exact gx_Jout hb1 (hj1 ())
    · refine gx_iload_n (pc := 17) (n := 2) (i := 2) rfl 2 rfl (htX16_lookForCommit (17, .iload_n 2, 1) (gx_m 11 rfl)) ?_
      refine gx_aload_n (pc := 18) (n := 0) (i := 0) rfl 0 rfl (htX16_lookForCommit (18, .aload_n 0, 1) (gx_m 12 rfl)) ?_
      refine gx_Jgs (pc := 19) (ci := 16) (kk := 33) (t2 := 100) (by decide) (by decide) rfl rfl rfl q1707 (htX16_lookForCommit (19, .getfield 86, 3) (gx_m 13 rfl)) ?_
      refine gx_iload_n (pc := 22) (n := 1) (i := 1) rfl 1 rfl (htX16_lookForCommit (22, .iload_n 1, 1) (gx_m 14 rfl)) ?_
      refine gx_Jia (pc := 23) (htX16_lookForCommit (23, .iaload, 1) (gx_m 15 rfl)) (fun v4 => ?_)
      refine gx_icmp_le (pc := 24) (tgt := 122) (by decide) (htX16_lookForCommit (24, .if_icmp .le 98, 3) (gx_m 16 rfl)) (fun c3 => ?_) (fun c3 => ?_)
      · refine gx_Jw (lv := []) [] rfl ?_
        exact gx_Jout hb1 (hj1 ())
      · refine gx_aload_n (pc := 27) (n := 0) (i := 0) rfl 0 rfl (htX16_lookForCommit (27, .aload_n 0, 1) (gx_m 17 rfl)) ?_
        refine gx_iload_n (pc := 28) (n := 1) (i := 1) rfl 1 rfl (htX16_lookForCommit (28, .iload_n 1, 1) (gx_m 18 rfl)) ?_
        refine gx_iload_n (pc := 29) (n := 2) (i := 2) rfl 2 rfl (htX16_lookForCommit (29, .iload_n 2, 1) (gx_m 19 rfl)) ?_
        refine gx_Jci (pc := 30) (gx_hst (as := [gx_i x1, gx_i s2]) (b := gx_r 17 (some x0))) (gx_runV (as := [gx_i x1, gx_i s2]) (ci := 16) (ct_X16_termAt Y x0 x1 s2) (by decide) (Or.inl rfl) rfl rfl rfl rfl q2150 q2152 qs60 q117 q2153 rfl dd_X16_termAt (by decide) (by decide) (Nat.le_of_ble_eq_true rfl) (htX16_lookForCommit (30, .invokevirtual 461, 3) (gx_m 20 rfl))) (fun v5 => ?_)
        refine gx_aload_n (pc := 33) (n := 0) (i := 0) rfl 0 rfl (htX16_lookForCommit (33, .aload_n 0, 1) (gx_m 21 rfl)) ?_
        refine gx_Jgs (pc := 34) (ci := 16) (kk := 31) (t2 := 100) (by decide) (by decide) rfl rfl rfl q1705 (htX16_lookForCommit (34, .getfield 80, 3) (gx_m 22 rfl)) ?_
        refine gx_iload_n (pc := 37) (n := 1) (i := 1) rfl 1 rfl (htX16_lookForCommit (37, .iload_n 1, 1) (gx_m 23 rfl)) ?_
        refine gx_Jia (pc := 38) (htX16_lookForCommit (38, .iaload, 1) (gx_m 24 rfl)) (fun v6 => ?_)
        refine gx_icmp_eq (pc := 39) (tgt := 45) (by decide) (htX16_lookForCommit (39, .if_icmp .eq 6, 3) (gx_m 25 rfl)) (fun c4 => ?_) (fun c4 => ?_)
        · refine gx_iconst (pc := 45) (v := 0) (by decide) (htX16_lookForCommit (45, .iconst 0, 1) (gx_m 27 rfl)) ?_
          refine gx_istore_n (pc := 46) (n := 3) (i := 3) (lv' := [(3, gx_i 0), (0, gx_r 17 (some x0)), (1, gx_i x1), (2, gx_i s2)]) rfl (by decide) rfl (htX16_lookForCommit (46, .istore_n 3, 1) (gx_m 28 rfl)) ?_
          refine gx_iconst (pc := 47) (v := 0) (by decide) (htX16_lookForCommit (47, .iconst 0, 1) (gx_m 29 rfl)) ?_
          refine gx_istore (pc := 48) (i := 4) (lv' := [(4, gx_i 0), (3, gx_i 0), (0, gx_r 17 (some x0)), (1, gx_i x1), (2, gx_i s2)]) (by decide) rfl (htX16_lookForCommit (48, .istore 4, 2) (gx_m 30 rfl)) ?_
          refine gx_Jjoin (pcJ := 96) (lvJ := fun (j14 : Int32) => [(0, gx_r 17 (some x0)), (1, gx_i x1), (2, gx_i s2), (3, gx_i j14)]) (stJ := fun (j14 : Int32) => []) (fun _ => True) (fun j14 _ => ?_) (fun kk5 hj5 => ?_)
          · refine gx_iconst (pc := 96) (v := 2) (by decide) (htX16_lookForCommit (96, .iconst 2, 1) (gx_m 54 rfl)) ?_
            refine gx_iload_n (pc := 97) (n := 3) (i := 3) rfl 3 rfl (htX16_lookForCommit (97, .iload_n 3, 1) (gx_m 55 rfl)) ?_
            refine gx_imul (pc := 98) (htX16_lookForCommit (98, .imul, 1) (gx_m 56 rfl)) ?_
            refine gx_aload_n (pc := 99) (n := 0) (i := 0) rfl 0 rfl (htX16_lookForCommit (99, .aload_n 0, 1) (gx_m 57 rfl)) ?_
            refine gx_Jgi (pc := 100) (ci := 16) (kk := 29) (by decide) (Or.inl rfl) (by decide) (by decide) q1703 (htX16_lookForCommit (100, .getfield 315, 3) (gx_m 58 rfl)) (fun v15 hv15 => ?_)
            refine gx_icmp_gt (pc := 103) (tgt := 109) (by decide) (htX16_lookForCommit (103, .if_icmp .gt 6, 3) (gx_m 59 rfl)) (fun c6 => ?_) (fun c6 => ?_)
            · refine gx_aload_n (pc := 109) (n := 0) (i := 0) rfl 0 rfl (htX16_lookForCommit (109, .aload_n 0, 1) (gx_m 61 rfl)) ?_
              refine gx_iload_n (pc := 110) (n := 1) (i := 1) rfl 1 rfl (htX16_lookForCommit (110, .iload_n 1, 1) (gx_m 62 rfl)) ?_
              refine gx_iload_n (pc := 111) (n := 2) (i := 2) rfl 2 rfl (htX16_lookForCommit (111, .iload_n 2, 1) (gx_m 63 rfl)) ?_
              refine gx_Jcv (pc := 112) (gx_hst (as := [gx_i x1, gx_i s2]) (b := gx_r 17 (some x0))) (gx_runV (as := [gx_i x1, gx_i s2]) (ci := 16) (ct_X16_applyTo Y x0 x1 s2) (by decide) (Or.inl rfl) rfl rfl rfl rfl q2190 q2192 qs67 q117 q2193 rfl dd_X16_applyTo (by decide) (by decide) (Nat.le_of_ble_eq_true rfl) (htX16_lookForCommit (112, .invokevirtual 504, 3) (gx_m 64 rfl))) ?_
              refine gx_Jret ((hb1 _).trans (he1 _)) ?_
              exact gx_Jvret (pc := 115) rfl (fun _ => trivial) (fun _ _ => rfl) (htX16_lookForCommit (115, .return_, 1) (gx_m 65 rfl))
            · refine gx_goto (pc := 106) (tgt := 116) (by decide) (htX16_lookForCommit (106, .goto 10, 3) (gx_m 60 rfl)) ?_
              refine gx_iinc (pc := 116) (i := 2) (j := 2) (v := (s2 + (-1))) (lv' := [(2, gx_i (s2 + (-1))), (0, gx_r 17 (some x0)), (1, gx_i x1), (3, gx_i j14)]) rfl (gx_iv (by decide)) (by decide) rfl (htX16_lookForCommit (116, .iinc 2 (-1), 3) (gx_m 66 rfl)) ?_
              refine gx_goto (pc := 119) (tgt := 7) (by decide) (htX16_lookForCommit (119, .goto (-112), 3) (gx_m 67 rfl)) ?_
              refine gx_Jw (lv := [(0, gx_r 17 (some x0)), (1, gx_i x1), (2, gx_i (s2 + (-1)))]) [1, 2, 0] rfl ?_
              exact ha1 ((s2 + (-1)) : Int32)
          · refine gx_Jw (lv := [(0, gx_r 17 (some x0)), (1, gx_i x1), (2, gx_i s2), (3, gx_i 0), (4, gx_i 0)]) [2, 3, 4, 1, 0] rfl ?_
            refine gx_Jlp (pc := 50) (lvh := fun (s7 : Int32 × Int32) => [(0, gx_r 17 (some x0)), (1, gx_i x1), (2, gx_i s2), (3, gx_i s7.1), (4, gx_i s7.2)]) (fun s7 kl5 ha5 hb5 => ?_) _
            unfold lb_X16_lookForCommit_1
            refine gx_iload (pc := 50) (i := 4) 4 rfl (htX16_lookForCommit (50, .iload 4, 2) (gx_m 31 rfl)) ?_
            refine gx_aload_n (pc := 52) (n := 0) (i := 0) rfl 0 rfl (htX16_lookForCommit (52, .aload_n 0, 1) (gx_m 32 rfl)) ?_
            refine gx_Jgi (pc := 53) (ci := 16) (kk := 29) (by decide) (Or.inl rfl) (by decide) (by decide) q1703 (htX16_lookForCommit (53, .getfield 315, 3) (gx_m 33 rfl)) (fun v8 hv8 => ?_)
            refine gx_icmp_ge (pc := 56) (tgt := 96) (by decide) (htX16_lookForCommit (56, .if_icmp .ge 40, 3) (gx_m 34 rfl)) (fun c7 => ?_) (fun c7 => ?_)
            · refine gx_Jw (lv := [(0, gx_r 17 (some x0)), (1, gx_i x1), (2, gx_i s2), (3, gx_i s7.1)]) [0, 1, 2, 3] rfl ?_
              exact gx_Jout hb5 (hj5 (s7.1 : Int32) trivial)
            · refine gx_iload (pc := 59) (i := 4) 4 rfl (htX16_lookForCommit (59, .iload 4, 2) (gx_m 35 rfl)) ?_
              refine gx_iload_n (pc := 61) (n := 1) (i := 1) rfl 1 rfl (htX16_lookForCommit (61, .iload_n 1, 1) (gx_m 36 rfl)) ?_
              refine gx_Jjoin (pcJ := 83) (lvJ := fun (j12 : Int32) => [(0, gx_r 17 (some x0)), (1, gx_i x1), (2, gx_i s2), (3, gx_i s7.1), (4, gx_i s7.2)]) (stJ := fun (j12 : Int32) => [gx_i j12]) (fun _ => True) (fun j12 hj12 => ?_) (fun kk8 hj8 => ?_)
              · refine gx_iload_n (pc := 83) (n := 2) (i := 2) rfl 2 rfl (htX16_lookForCommit (83, .iload_n 2, 1) (gx_m 49 rfl)) ?_
                refine gx_Jjoin (pcJ := 90) (lvJ := fun (j13 : Int32) => [(0, gx_r 17 (some x0)), (1, gx_i x1), (2, gx_i s2), (3, gx_i j13), (4, gx_i s7.2)]) (stJ := fun (j13 : Int32) => []) (fun _ => True) (fun j13 hj13 => ?_) (fun kk9 hj9 => ?_)
                · refine gx_iinc (pc := 90) (i := 4) (j := 4) (v := (s7.2 + 1)) (lv' := [(4, gx_i (s7.2 + 1)), (0, gx_r 17 (some x0)), (1, gx_i x1), (2, gx_i s2), (3, gx_i j13)]) rfl (gx_iv (by decide)) (by decide) rfl (htX16_lookForCommit (90, .iinc 4 1, 3) (gx_m 52 rfl)) ?_
                  refine gx_goto (pc := 93) (tgt := 50) (by decide) (htX16_lookForCommit (93, .goto (-43), 3) (gx_m 53 rfl)) ?_
                  refine gx_Jw (lv := [(0, gx_r 17 (some x0)), (1, gx_i x1), (2, gx_i s2), (3, gx_i j13), (4, gx_i (s7.2 + 1))]) [1, 2, 3, 4, 0] rfl ?_
                  exact ha5 ((j13 : Int32), ((s7.2 + 1) : Int32))
                · refine gx_icmp_lt (pc := 84) (tgt := 90) (by decide) (htX16_lookForCommit (84, .if_icmp .lt 6, 3) (gx_m 50 rfl)) (fun c10 => ?_) (fun c10 => ?_)
                  · exact hj9 (s7.1 : Int32) trivial
                  · refine gx_iinc (pc := 87) (i := 3) (j := 3) (v := (s7.1 + 1)) (lv' := [(3, gx_i (s7.1 + 1)), (0, gx_r 17 (some x0)), (1, gx_i x1), (2, gx_i s2), (4, gx_i s7.2)]) rfl (gx_iv (by decide)) (by decide) rfl (htX16_lookForCommit (87, .iinc 3 1, 3) (gx_m 51 rfl)) ?_
                    refine gx_Jw (lv := [(0, gx_r 17 (some x0)), (1, gx_i x1), (2, gx_i s2), (3, gx_i (s7.1 + 1)), (4, gx_i s7.2)]) [1, 2, 3, 0, 4] rfl ?_
                    exact hj9 ((s7.1 + 1) : Int32) trivial
              · refine gx_icmp_ne (pc := 62) (tgt := 74) (by decide) (htX16_lookForCommit (62, .if_icmp .ne 12, 3) (gx_m 37 rfl)) (fun c11 => ?_) (fun c11 => ?_)
                · refine gx_aload_n (pc := 65) (n := 0) (i := 0) rfl 0 rfl (htX16_lookForCommit (65, .aload_n 0, 1) (gx_m 38 rfl)) ?_
                  refine gx_Jgs (pc := 66) (ci := 16) (kk := 52) (t2 := 100) (by decide) (by decide) rfl rfl rfl q1726 (htX16_lookForCommit (66, .getfield 145, 3) (gx_m 39 rfl)) ?_
                  refine gx_iload_n (pc := 69) (n := 1) (i := 1) rfl 1 rfl (htX16_lookForCommit (69, .iload_n 1, 1) (gx_m 40 rfl)) ?_
                  refine gx_Jia (pc := 70) (htX16_lookForCommit (70, .iaload, 1) (gx_m 41 rfl)) (fun v9 => ?_)
                  refine gx_goto (pc := 71) (tgt := 83) (by decide) (htX16_lookForCommit (71, .goto 12, 3) (gx_m 42 rfl)) ?_
                  exact hj8 (v9 : Int32) trivial
                · refine gx_aload_n (pc := 74) (n := 0) (i := 0) rfl 0 rfl (htX16_lookForCommit (74, .aload_n 0, 1) (gx_m 43 rfl)) ?_
                  refine gx_Jgs (pc := 75) (ci := 16) (kk := 54) (t2 := 105) (by decide) (by decide) rfl rfl rfl q1728 (htX16_lookForCommit (75, .getfield 151, 3) (gx_m 44 rfl)) ?_
                  refine gx_iload_n (pc := 78) (n := 1) (i := 1) rfl 1 rfl (htX16_lookForCommit (78, .iload_n 1, 1) (gx_m 45 rfl)) ?_
                  refine gx_Jra (pc := 79) (t := 5) (t2 := 100) (by decide) (by decide) rfl (htX16_lookForCommit (79, .aaload, 1) (gx_m 46 rfl)) (fun v10 => ?_)
                  refine gx_iload (pc := 80) (i := 4) 4 rfl (htX16_lookForCommit (80, .iload 4, 2) (gx_m 47 rfl)) ?_
                  refine gx_Jia (pc := 82) (htX16_lookForCommit (82, .iaload, 1) (gx_m 48 rfl)) (fun v11 => ?_)
                  exact hj8 (v11 : Int32) trivial
        · refine gx_goto (pc := 42) (tgt := 116) (by decide) (htX16_lookForCommit (42, .goto 74, 3) (gx_m 26 rfl)) ?_
          refine gx_iinc (pc := 116) (i := 2) (j := 2) (v := (s2 + (-1))) (lv' := [(2, gx_i (s2 + (-1))), (0, gx_r 17 (some x0)), (1, gx_i x1)]) rfl (gx_iv (by decide)) (by decide) rfl (htX16_lookForCommit (116, .iinc 2 (-1), 3) (gx_m 66 rfl)) ?_
          refine gx_goto (pc := 119) (tgt := 7) (by decide) (htX16_lookForCommit (119, .goto (-112), 3) (gx_m 67 rfl)) ?_
          refine gx_Jw (lv := [(0, gx_r 17 (some x0)), (1, gx_i x1), (2, gx_i (s2 + (-1)))]) [1, 2, 0] rfl ?_
          exact ha1 ((s2 + (-1)) : Int32)
theorem ct_X16_sync (Y : gx_Y) (x0 : gx_Nm) (x1 : Int32) : gx_Ct Y yX16_sync (ws_ yX16_sync cX16_sync 5 (some .int)) 4 171 [gx_r 17 (some x0), gx_i x1] gx_Oi (f_X16_sync x0 x1) := by
  refine gx_start (lv := [(0, gx_r 17 (some x0)), (1, gx_i x1)]) gx_Oi_r pn_X16 (Nat.le_of_ble_eq_true rfl) rfl ?_
  unfold f_X16_sync
  refine gx_aload_n (pc := 0) (n := 0) (i := 0) rfl 0 rfl (htX16_sync (0, .aload_n 0, 1) (gx_m 0 rfl)) ?_
  refine gx_iload_n (pc := 1) (n := 1) (i := 1) rfl 1 rfl (htX16_sync (1, .iload_n 1, 1) (gx_m 1 rfl)) ?_
  refine gx_Jcz (pc := 2) (gx_hst (as := [gx_i x1]) (b := gx_r 17 (some x0))) (gx_runV (as := [gx_i x1]) (ci := 16) (ct_X16_up Y x0 x1) (by decide) (Or.inl rfl) rfl rfl rfl rfl q2113 q2115 qs51 q117 q2116 rfl dd_X16_up (by decide) (by decide) (Nat.le_of_ble_eq_true rfl) (htX16_sync (2, .invokevirtual 532, 3) (gx_m 2 rfl))) (fun v1 hv1 => ?_)
  refine gx_if_ne (pc := 5) (y := 0) (tgt := 14) (by decide) (htX16_sync (5, .ifCond .ne 9, 3) (gx_m 3 rfl)) (fun c1 => ?_) (fun c1 => ?_)
  · refine gx_aload_n (pc := 8) (n := 0) (i := 0) rfl 0 rfl (htX16_sync (8, .aload_n 0, 1) (gx_m 4 rfl)) ?_
    refine gx_iconst (pc := 9) (v := 1) (by decide) (htX16_sync (9, .iconst 1, 1) (gx_m 5 rfl)) ?_
    refine gx_Jci (pc := 10) (gx_hst (as := [gx_i 1]) (b := gx_r 17 (some x0))) (gx_runV (as := [gx_i 1]) (ci := 16) (ct_X16_no Y x0 1) (by decide) (Or.inl rfl) rfl rfl rfl rfl q2062 q2064 qs46 q117 q2065 rfl dd_X16_no (by decide) (by decide) (Nat.le_of_ble_eq_true rfl) (htX16_sync (10, .invokevirtual 370, 3) (gx_m 6 rfl))) (fun v2 => ?_)
    exact gx_Jiret (pc := 13) rfl (fun _ => trivial) (fun _ _ => rfl) (htX16_sync (13, .ireturn, 1) (gx_m 7 rfl))
  · refine gx_aload_n (pc := 14) (n := 0) (i := 0) rfl 0 rfl (htX16_sync (14, .aload_n 0, 1) (gx_m 8 rfl)) ?_
    refine gx_iconst (pc := 15) (v := 0) (by decide) (htX16_sync (15, .iconst 0, 1) (gx_m 9 rfl)) ?_
    refine gx_Jpi (pc := 16) (ci := 16) (kk := 0) (by decide) (Or.inl rfl) (by decide) rfl rfl q1674 (Or.inl rfl) (htX16_sync (16, .putfield 312, 3) (gx_m 10 rfl)) ?_
    refine gx_aload_n (pc := 19) (n := 0) (i := 0) rfl 0 rfl (htX16_sync (19, .aload_n 0, 1) (gx_m 11 rfl)) ?_
    refine gx_iload_n (pc := 20) (n := 1) (i := 1) rfl 1 rfl (htX16_sync (20, .iload_n 1, 1) (gx_m 12 rfl)) ?_
    refine gx_aload_n (pc := 21) (n := 0) (i := 0) rfl 0 rfl (htX16_sync (21, .aload_n 0, 1) (gx_m 13 rfl)) ?_
    refine gx_Jgs (pc := 22) (ci := 16) (kk := 63) (t2 := 100) (by decide) (by decide) rfl rfl rfl q1737 (htX16_sync (22, .getfield 178, 3) (gx_m 14 rfl)) ?_
    refine gx_iload_n (pc := 25) (n := 1) (i := 1) rfl 1 rfl (htX16_sync (25, .iload_n 1, 1) (gx_m 15 rfl)) ?_
    refine gx_Jia (pc := 26) (htX16_sync (26, .iaload, 1) (gx_m 16 rfl)) (fun v3 => ?_)
    refine gx_Jcv (pc := 27) (gx_hst (as := [gx_i x1, gx_i v3]) (b := gx_r 17 (some x0))) (gx_runV (as := [gx_i x1, gx_i v3]) (ci := 16) (ct_X16_toDisk Y x0 x1 v3) (by decide) (Or.inl rfl) rfl rfl rfl rfl q2178 q2180 qs64 q117 q2181 rfl dd_X16_toDisk (by decide) (by decide) (Nat.le_of_ble_eq_true rfl) (htX16_sync (27, .invokevirtual 539, 3) (gx_m 17 rfl))) ?_
    refine gx_iconst (pc := 30) (v := 0) (by decide) (htX16_sync (30, .iconst 0, 1) (gx_m 18 rfl)) ?_
    refine gx_istore_n (pc := 31) (n := 2) (i := 2) (lv' := [(2, gx_i 0), (0, gx_r 17 (some x0)), (1, gx_i x1)]) rfl (by decide) rfl (htX16_sync (31, .istore_n 2, 1) (gx_m 19 rfl)) ?_
    refine gx_iconst (pc := 32) (v := 0) (by decide) (htX16_sync (32, .iconst 0, 1) (gx_m 20 rfl)) ?_
    refine gx_istore_n (pc := 33) (n := 3) (i := 3) (lv' := [(3, gx_i 0), (2, gx_i 0), (0, gx_r 17 (some x0)), (1, gx_i x1)]) rfl (by decide) rfl (htX16_sync (33, .istore_n 3, 1) (gx_m 21 rfl)) ?_
    refine gx_iconst (pc := 34) (v := 0) (by decide) (htX16_sync (34, .iconst 0, 1) (gx_m 22 rfl)) ?_
    refine gx_istore (pc := 35) (i := 4) (lv' := [(4, gx_i 0), (3, gx_i 0), (2, gx_i 0), (0, gx_r 17 (some x0)), (1, gx_i x1)]) (by decide) rfl (htX16_sync (35, .istore 4, 2) (gx_m 23 rfl)) ?_
    refine gx_Jjoin (pcJ := 112) (lvJ := fun (j12 : Int32 × Int32) => [(0, gx_r 17 (some x0)), (1, gx_i x1), (2, gx_i j12.1), (3, gx_i j12.2)]) (stJ := fun (j12 : Int32 × Int32) => []) (fun _ => True) (fun j12 _ => ?_) (fun kk2 hj2 => ?_)
    · refine gx_aload_n (pc := 112) (n := 0) (i := 0) rfl 0 rfl (htX16_sync (112, .aload_n 0, 1) (gx_m 62 rfl)) ?_
      refine gx_iload_n (pc := 113) (n := 3) (i := 3) rfl 3 rfl (htX16_sync (113, .iload_n 3, 1) (gx_m 63 rfl)) ?_
      refine gx_Jpi (pc := 114) (ci := 16) (kk := 81) (by decide) (Or.inl rfl) (by decide) rfl rfl q1755 (Or.inl rfl) (htX16_sync (114, .putfield 336, 3) (gx_m 64 rfl)) ?_
      refine gx_aload_n (pc := 117) (n := 0) (i := 0) rfl 0 rfl (htX16_sync (117, .aload_n 0, 1) (gx_m 65 rfl)) ?_
      refine gx_Jgs (pc := 118) (ci := 16) (kk := 52) (t2 := 100) (by decide) (by decide) rfl rfl rfl q1726 (htX16_sync (118, .getfield 145, 3) (gx_m 66 rfl)) ?_
      refine gx_iload_n (pc := 121) (n := 1) (i := 1) rfl 1 rfl (htX16_sync (121, .iload_n 1, 1) (gx_m 67 rfl)) ?_
      refine gx_aload_n (pc := 122) (n := 0) (i := 0) rfl 0 rfl (htX16_sync (122, .aload_n 0, 1) (gx_m 68 rfl)) ?_
      refine gx_Jgs (pc := 123) (ci := 16) (kk := 36) (t2 := 100) (by decide) (by decide) rfl rfl rfl q1710 (htX16_sync (123, .getfield 95, 3) (gx_m 69 rfl)) ?_
      refine gx_iload_n (pc := 126) (n := 1) (i := 1) rfl 1 rfl (htX16_sync (126, .iload_n 1, 1) (gx_m 70 rfl)) ?_
      refine gx_Jia (pc := 127) (htX16_sync (127, .iaload, 1) (gx_m 71 rfl)) (fun v13 => ?_)
      refine gx_Jis (pc := 128) (htX16_sync (128, .iastore, 1) (gx_m 72 rfl)) ?_
      refine gx_aload_n (pc := 129) (n := 0) (i := 0) rfl 0 rfl (htX16_sync (129, .aload_n 0, 1) (gx_m 73 rfl)) ?_
      refine gx_Jgs (pc := 130) (ci := 16) (kk := 45) (t2 := 100) (by decide) (by decide) rfl rfl rfl q1719 (htX16_sync (130, .getfield 124, 3) (gx_m 74 rfl)) ?_
      refine gx_iload_n (pc := 133) (n := 1) (i := 1) rfl 1 rfl (htX16_sync (133, .iload_n 1, 1) (gx_m 75 rfl)) ?_
      refine gx_Jia (pc := 134) (htX16_sync (134, .iaload, 1) (gx_m 76 rfl)) (fun v14 => ?_)
      refine gx_iconst (pc := 135) (v := 2) (by decide) (htX16_sync (135, .iconst 2, 1) (gx_m 77 rfl)) ?_
      refine gx_Jjoin (pcJ := 144) (lvJ := fun (j_3 : Unit) => [(2, gx_i j12.1)]) (stJ := fun (j_3 : Unit) => []) (fun _ => True) (fun j_3 hj_3 => ?_) (fun kk3 hj3 => ?_)
      · refine gx_iload_n (pc := 144) (n := 2) (i := 2) rfl 0 rfl (htX16_sync (144, .iload_n 2, 1) (gx_m 82 rfl)) ?_
        exact gx_Jiret (pc := 145) rfl (fun _ => trivial) (fun _ _ => rfl) (htX16_sync (145, .ireturn, 1) (gx_m 83 rfl))
      · refine gx_icmp_ne (pc := 136) (tgt := 144) (by decide) (htX16_sync (136, .if_icmp .ne 8, 3) (gx_m 78 rfl)) (fun c4 => ?_) (fun c4 => ?_)
        · refine gx_aload_n (pc := 139) (n := 0) (i := 0) rfl 0 rfl (htX16_sync (139, .aload_n 0, 1) (gx_m 79 rfl)) ?_
          refine gx_iload_n (pc := 140) (n := 1) (i := 1) rfl 1 rfl (htX16_sync (140, .iload_n 1, 1) (gx_m 80 rfl)) ?_
          refine gx_Jcv (pc := 141) (gx_hst (as := [gx_i x1]) (b := gx_r 17 (some x0))) (gx_runV (as := [gx_i x1]) (ci := 16) (ct_X16_lookForCommit Y x0 x1) (by decide) (Or.inl rfl) rfl rfl rfl rfl q2186 q2188 qs66 q117 q2189 rfl dd_X16_lookForCommit (by decide) (by decide) (Nat.le_of_ble_eq_true rfl) (htX16_sync (141, .invokevirtual 522, 3) (gx_m 81 rfl))) ?_
          refine gx_Jw (lv := [(2, gx_i j12.1)]) [2] rfl ?_
          exact hj3 () trivial
        · refine gx_Jw (lv := [(2, gx_i j12.1)]) [2] rfl ?_
          exact hj3 () trivial
    · refine gx_Jw (lv := [(0, gx_r 17 (some x0)), (1, gx_i x1), (2, gx_i 0), (3, gx_i 0), (4, gx_i 0)]) [3, 4, 2, 1, 0] rfl ?_
      refine gx_Jlp (pc := 37) (lvh := fun (s4 : Int32 × Int32 × Int32) => [(0, gx_r 17 (some x0)), (1, gx_i x1), (2, gx_i s4.1), (3, gx_i s4.2.1), (4, gx_i s4.2.2)]) (fun s4 kl2 ha2 hb2 => ?_) _
      unfold lb_X16_sync_1
      refine gx_iload (pc := 37) (i := 4) 4 rfl (htX16_sync (37, .iload 4, 2) (gx_m 24 rfl)) ?_
      refine gx_aload_n (pc := 39) (n := 0) (i := 0) rfl 0 rfl (htX16_sync (39, .aload_n 0, 1) (gx_m 25 rfl)) ?_
      refine gx_Jgi (pc := 40) (ci := 16) (kk := 81) (by decide) (Or.inl rfl) (by decide) (by decide) q1755 (htX16_sync (40, .getfield 336, 3) (gx_m 26 rfl)) (fun v5 hv5 => ?_)
      refine gx_icmp_ge (pc := 43) (tgt := 112) (by decide) (htX16_sync (43, .if_icmp .ge 69, 3) (gx_m 27 rfl)) (fun c5 => ?_) (fun c5 => ?_)
      · refine gx_Jw (lv := [(0, gx_r 17 (some x0)), (1, gx_i x1), (2, gx_i s4.1), (3, gx_i s4.2.1)]) [0, 1, 2, 3] rfl ?_
        exact gx_Jout hb2 (hj2 ((s4.1 : Int32), (s4.2.1 : Int32)) trivial)
      · refine gx_aload_n (pc := 46) (n := 0) (i := 0) rfl 0 rfl (htX16_sync (46, .aload_n 0, 1) (gx_m 28 rfl)) ?_
        refine gx_Jgs (pc := 47) (ci := 16) (kk := 80) (t2 := 100) (by decide) (by decide) rfl rfl rfl q1754 (htX16_sync (47, .getfield 221, 3) (gx_m 29 rfl)) ?_
        refine gx_iload (pc := 50) (i := 4) 4 rfl (htX16_sync (50, .iload 4, 2) (gx_m 30 rfl)) ?_
        refine gx_Jia (pc := 52) (htX16_sync (52, .iaload, 1) (gx_m 31 rfl)) (fun v6 => ?_)
        refine gx_iload_n (pc := 53) (n := 1) (i := 1) rfl 1 rfl (htX16_sync (53, .iload_n 1, 1) (gx_m 32 rfl)) ?_
        refine gx_Jjoin (pcJ := 106) (lvJ := fun (j11 : Int32 × Int32) => [(0, gx_r 17 (some x0)), (1, gx_i x1), (2, gx_i j11.1), (3, gx_i j11.2), (4, gx_i s4.2.2)]) (stJ := fun (j11 : Int32 × Int32) => []) (fun _ => True) (fun j11 hj11 => ?_) (fun kk6 hj6 => ?_)
        · refine gx_iinc (pc := 106) (i := 4) (j := 4) (v := (s4.2.2 + 1)) (lv' := [(4, gx_i (s4.2.2 + 1)), (0, gx_r 17 (some x0)), (1, gx_i x1), (2, gx_i j11.1), (3, gx_i j11.2)]) rfl (gx_iv (by decide)) (by decide) rfl (htX16_sync (106, .iinc 4 1, 3) (gx_m 60 rfl)) ?_
          refine gx_goto (pc := 109) (tgt := 37) (by decide) (htX16_sync (109, .goto (-72), 3) (gx_m 61 rfl)) ?_
          refine gx_Jw (lv := [(0, gx_r 17 (some x0)), (1, gx_i x1), (2, gx_i j11.1), (3, gx_i j11.2), (4, gx_i (s4.2.2 + 1))]) [1, 2, 3, 4, 0] rfl ?_
          exact ha2 ((j11.1 : Int32), (j11.2 : Int32), ((s4.2.2 + 1) : Int32))
        · refine gx_icmp_ne (pc := 54) (tgt := 77) (by decide) (htX16_sync (54, .if_icmp .ne 23, 3) (gx_m 33 rfl)) (fun c7 => ?_) (fun c7 => ?_)
          · refine gx_aload_n (pc := 57) (n := 0) (i := 0) rfl 0 rfl (htX16_sync (57, .aload_n 0, 1) (gx_m 34 rfl)) ?_
            refine gx_aload_n (pc := 58) (n := 0) (i := 0) rfl 0 rfl (htX16_sync (58, .aload_n 0, 1) (gx_m 35 rfl)) ?_
            refine gx_Jgs (pc := 59) (ci := 16) (kk := 79) (t2 := 100) (by decide) (by decide) rfl rfl rfl q1753 (htX16_sync (59, .getfield 218, 3) (gx_m 36 rfl)) ?_
            refine gx_iload (pc := 62) (i := 4) 4 rfl (htX16_sync (62, .iload 4, 2) (gx_m 37 rfl)) ?_
            refine gx_Jia (pc := 64) (htX16_sync (64, .iaload, 1) (gx_m 38 rfl)) (fun v7 => ?_)
            refine gx_Jcz (pc := 65) (gx_hst (as := [gx_i v7]) (b := gx_r 17 (some x0))) (gx_runV (as := [gx_i v7]) (ci := 16) (ct_X16_toNet Y x0 v7) (by decide) (Or.inl rfl) rfl rfl rfl rfl q2146 q2148 qs59 q117 q2149 rfl dd_X16_toNet (by decide) (by decide) (Nat.le_of_ble_eq_true rfl) (htX16_sync (65, .invokevirtual 468, 3) (gx_m 39 rfl))) (fun v8 hv8 => ?_)
            refine gx_if_eq (pc := 68) (y := 0) (tgt := 106) (by decide) (htX16_sync (68, .ifCond .eq 38, 3) (gx_m 40 rfl)) (fun c8 => ?_) (fun c8 => ?_)
            · exact hj6 ((s4.1 : Int32), (s4.2.1 : Int32)) trivial
            · refine gx_iinc (pc := 71) (i := 2) (j := 2) (v := (s4.1 + 1)) (lv' := [(2, gx_i (s4.1 + 1)), (0, gx_r 17 (some x0)), (1, gx_i x1), (3, gx_i s4.2.1), (4, gx_i s4.2.2)]) rfl (gx_iv (by decide)) (by decide) rfl (htX16_sync (71, .iinc 2 1, 3) (gx_m 41 rfl)) ?_
              refine gx_goto (pc := 74) (tgt := 106) (by decide) (htX16_sync (74, .goto 32, 3) (gx_m 42 rfl)) ?_
              refine gx_Jw (lv := [(0, gx_r 17 (some x0)), (1, gx_i x1), (2, gx_i (s4.1 + 1)), (3, gx_i s4.2.1), (4, gx_i s4.2.2)]) [1, 2, 0, 3, 4] rfl ?_
              exact hj6 (((s4.1 + 1) : Int32), (s4.2.1 : Int32)) trivial
          · refine gx_aload_n (pc := 77) (n := 0) (i := 0) rfl 0 rfl (htX16_sync (77, .aload_n 0, 1) (gx_m 43 rfl)) ?_
            refine gx_Jgs (pc := 78) (ci := 16) (kk := 79) (t2 := 100) (by decide) (by decide) rfl rfl rfl q1753 (htX16_sync (78, .getfield 218, 3) (gx_m 44 rfl)) ?_
            refine gx_iload_n (pc := 81) (n := 3) (i := 3) rfl 3 rfl (htX16_sync (81, .iload_n 3, 1) (gx_m 45 rfl)) ?_
            refine gx_aload_n (pc := 82) (n := 0) (i := 0) rfl 0 rfl (htX16_sync (82, .aload_n 0, 1) (gx_m 46 rfl)) ?_
            refine gx_Jgs (pc := 83) (ci := 16) (kk := 79) (t2 := 100) (by decide) (by decide) rfl rfl rfl q1753 (htX16_sync (83, .getfield 218, 3) (gx_m 47 rfl)) ?_
            refine gx_iload (pc := 86) (i := 4) 4 rfl (htX16_sync (86, .iload 4, 2) (gx_m 48 rfl)) ?_
            refine gx_Jia (pc := 88) (htX16_sync (88, .iaload, 1) (gx_m 49 rfl)) (fun v9 => ?_)
            refine gx_Jis (pc := 89) (htX16_sync (89, .iastore, 1) (gx_m 50 rfl)) ?_
            refine gx_aload_n (pc := 90) (n := 0) (i := 0) rfl 0 rfl (htX16_sync (90, .aload_n 0, 1) (gx_m 51 rfl)) ?_
            refine gx_Jgs (pc := 91) (ci := 16) (kk := 80) (t2 := 100) (by decide) (by decide) rfl rfl rfl q1754 (htX16_sync (91, .getfield 221, 3) (gx_m 52 rfl)) ?_
            refine gx_iload_n (pc := 94) (n := 3) (i := 3) rfl 3 rfl (htX16_sync (94, .iload_n 3, 1) (gx_m 53 rfl)) ?_
            refine gx_aload_n (pc := 95) (n := 0) (i := 0) rfl 0 rfl (htX16_sync (95, .aload_n 0, 1) (gx_m 54 rfl)) ?_
            refine gx_Jgs (pc := 96) (ci := 16) (kk := 80) (t2 := 100) (by decide) (by decide) rfl rfl rfl q1754 (htX16_sync (96, .getfield 221, 3) (gx_m 55 rfl)) ?_
            refine gx_iload (pc := 99) (i := 4) 4 rfl (htX16_sync (99, .iload 4, 2) (gx_m 56 rfl)) ?_
            refine gx_Jia (pc := 101) (htX16_sync (101, .iaload, 1) (gx_m 57 rfl)) (fun v10 => ?_)
            refine gx_Jis (pc := 102) (htX16_sync (102, .iastore, 1) (gx_m 58 rfl)) ?_
            refine gx_iinc (pc := 103) (i := 3) (j := 3) (v := (s4.2.1 + 1)) (lv' := [(3, gx_i (s4.2.1 + 1)), (0, gx_r 17 (some x0)), (1, gx_i x1), (2, gx_i s4.1), (4, gx_i s4.2.2)]) rfl (gx_iv (by decide)) (by decide) rfl (htX16_sync (103, .iinc 3 1, 3) (gx_m 59 rfl)) ?_
            refine gx_Jw (lv := [(0, gx_r 17 (some x0)), (1, gx_i x1), (2, gx_i s4.1), (3, gx_i (s4.2.1 + 1)), (4, gx_i s4.2.2)]) [1, 2, 3, 0, 4] rfl ?_
            exact hj6 ((s4.1 : Int32), ((s4.2.1 + 1) : Int32)) trivial
theorem ct_X16_leave (Y : gx_Y) (x0 : gx_Nm) (x1 : Int32) (x2 : Int32) : gx_Ct Y yX16_leave (ws_ yX16_leave cX16_leave 4 none) 1 100 [gx_r 17 (some x0), gx_i x1, gx_i x2] gx_Ov (f_X16_leave x0 x1 x2) := by
  refine gx_start (lv := [(0, gx_r 17 (some x0)), (1, gx_i x1), (2, gx_i x2)]) gx_Ov_r pn_X16 (Nat.le_of_ble_eq_true rfl) rfl ?_
  unfold f_X16_leave
  refine gx_aload_n (pc := 0) (n := 0) (i := 0) rfl 0 rfl (htX16_leave (0, .aload_n 0, 1) (gx_m 0 rfl)) ?_
  refine gx_Jgs (pc := 1) (ci := 16) (kk := 45) (t2 := 100) (by decide) (by decide) rfl rfl rfl q1719 (htX16_leave (1, .getfield 124, 3) (gx_m 1 rfl)) ?_
  refine gx_iload_n (pc := 4) (n := 1) (i := 1) rfl 1 rfl (htX16_leave (4, .iload_n 1, 1) (gx_m 2 rfl)) ?_
  refine gx_Jia (pc := 5) (htX16_leave (5, .iaload, 1) (gx_m 3 rfl)) (fun v1 => ?_)
  refine gx_iconst (pc := 6) (v := 2) (by decide) (htX16_leave (6, .iconst 2, 1) (gx_m 4 rfl)) ?_
  refine gx_Jjoin (pcJ := 43) (lvJ := fun (j_1 : Unit) => [(0, gx_r 17 (some x0)), (1, gx_i x1), (2, gx_i x2)]) (stJ := fun (j_1 : Unit) => []) (fun _ => True) (fun j_1 hj_1 => ?_) (fun kk1 hj1 => ?_)
  · refine gx_aload_n (pc := 43) (n := 0) (i := 0) rfl 0 rfl (htX16_leave (43, .aload_n 0, 1) (gx_m 25 rfl)) ?_
    refine gx_Jgs (pc := 44) (ci := 16) (kk := 45) (t2 := 100) (by decide) (by decide) rfl rfl rfl q1719 (htX16_leave (44, .getfield 124, 3) (gx_m 26 rfl)) ?_
    refine gx_iload_n (pc := 47) (n := 1) (i := 1) rfl 1 rfl (htX16_leave (47, .iload_n 1, 1) (gx_m 27 rfl)) ?_
    refine gx_iload_n (pc := 48) (n := 2) (i := 2) rfl 2 rfl (htX16_leave (48, .iload_n 2, 1) (gx_m 28 rfl)) ?_
    refine gx_Jis (pc := 49) (htX16_leave (49, .iastore, 1) (gx_m 29 rfl)) ?_
    exact gx_Jvret (pc := 50) rfl (fun _ => trivial) (fun _ _ => rfl) (htX16_leave (50, .return_, 1) (gx_m 30 rfl))
  · refine gx_icmp_ne (pc := 7) (tgt := 43) (by decide) (htX16_leave (7, .if_icmp .ne 36, 3) (gx_m 5 rfl)) (fun c2 => ?_) (fun c2 => ?_)
    · refine gx_iconst (pc := 10) (v := 0) (by decide) (htX16_leave (10, .iconst 0, 1) (gx_m 6 rfl)) ?_
      refine gx_istore_n (pc := 11) (n := 3) (i := 3) (lv' := [(3, gx_i 0), (0, gx_r 17 (some x0)), (1, gx_i x1), (2, gx_i x2)]) rfl (by decide) rfl (htX16_leave (11, .istore_n 3, 1) (gx_m 7 rfl)) ?_
      refine gx_Jjoin (pcJ := 43) (lvJ := fun (j_3 : Unit) => [(0, gx_r 17 (some x0)), (1, gx_i x1), (2, gx_i x2)]) (stJ := fun (j_3 : Unit) => []) (fun _ => True) (fun j_3 _ => ?_) (fun kk3 hj3 => ?_)
      · exact hj1 () trivial
      · refine gx_Jw (lv := [(0, gx_r 17 (some x0)), (1, gx_i x1), (2, gx_i x2), (3, gx_i 0)]) [1, 2, 3, 0] rfl ?_
        refine gx_Jlp (pc := 12) (lvh := fun (s2 : Int32) => [(0, gx_r 17 (some x0)), (1, gx_i x1), (2, gx_i x2), (3, gx_i s2)]) (fun s2 kl3 ha3 hb3 => ?_) _
        unfold lb_X16_leave_1
        refine gx_iload_n (pc := 12) (n := 3) (i := 3) rfl 3 rfl (htX16_leave (12, .iload_n 3, 1) (gx_m 8 rfl)) ?_
        refine gx_aload_n (pc := 13) (n := 0) (i := 0) rfl 0 rfl (htX16_leave (13, .aload_n 0, 1) (gx_m 9 rfl)) ?_
        refine gx_Jgi (pc := 14) (ci := 16) (kk := 93) (by decide) (Or.inl rfl) (by decide) (by decide) q1767 (htX16_leave (14, .getfield 339, 3) (gx_m 10 rfl)) (fun v3 hv3 => ?_)
        refine gx_icmp_ge (pc := 17) (tgt := 43) (by decide) (htX16_leave (17, .if_icmp .ge 26, 3) (gx_m 11 rfl)) (fun c4 => ?_) (fun c4 => ?_)
        · refine gx_Jw (lv := [(0, gx_r 17 (some x0)), (1, gx_i x1), (2, gx_i x2)]) [0, 1, 2] rfl ?_
          exact gx_Jout hb3 (hj3 () trivial)
        · refine gx_aload_n (pc := 20) (n := 0) (i := 0) rfl 0 rfl (htX16_leave (20, .aload_n 0, 1) (gx_m 12 rfl)) ?_
          refine gx_Jgs (pc := 21) (ci := 16) (kk := 82) (t2 := 100) (by decide) (by decide) rfl rfl rfl q1756 (htX16_leave (21, .getfield 224, 3) (gx_m 13 rfl)) ?_
          refine gx_iload_n (pc := 24) (n := 3) (i := 3) rfl 3 rfl (htX16_leave (24, .iload_n 3, 1) (gx_m 14 rfl)) ?_
          refine gx_Jia (pc := 25) (htX16_leave (25, .iaload, 1) (gx_m 15 rfl)) (fun v4 => ?_)
          refine gx_iload_n (pc := 26) (n := 1) (i := 1) rfl 1 rfl (htX16_leave (26, .iload_n 1, 1) (gx_m 16 rfl)) ?_
          refine gx_Jjoin (pcJ := 37) (lvJ := fun (j_5 : Unit) => [(0, gx_r 17 (some x0)), (1, gx_i x1), (2, gx_i x2), (3, gx_i s2)]) (stJ := fun (j_5 : Unit) => []) (fun _ => True) (fun j_5 hj_5 => ?_) (fun kk5 hj5 => ?_)
          · refine gx_iinc (pc := 37) (i := 3) (j := 3) (v := (s2 + 1)) (lv' := [(3, gx_i (s2 + 1)), (0, gx_r 17 (some x0)), (1, gx_i x1), (2, gx_i x2)]) rfl (gx_iv (by decide)) (by decide) rfl (htX16_leave (37, .iinc 3 1, 3) (gx_m 23 rfl)) ?_
            refine gx_goto (pc := 40) (tgt := 12) (by decide) (htX16_leave (40, .goto (-28), 3) (gx_m 24 rfl)) ?_
            refine gx_Jw (lv := [(0, gx_r 17 (some x0)), (1, gx_i x1), (2, gx_i x2), (3, gx_i (s2 + 1))]) [1, 2, 3, 0] rfl ?_
            exact ha3 ((s2 + 1) : Int32)
          · refine gx_icmp_ne (pc := 27) (tgt := 37) (by decide) (htX16_leave (27, .if_icmp .ne 10, 3) (gx_m 17 rfl)) (fun c6 => ?_) (fun c6 => ?_)
            · refine gx_aload_n (pc := 30) (n := 0) (i := 0) rfl 0 rfl (htX16_leave (30, .aload_n 0, 1) (gx_m 18 rfl)) ?_
              refine gx_Jgs (pc := 31) (ci := 16) (kk := 82) (t2 := 100) (by decide) (by decide) rfl rfl rfl q1756 (htX16_leave (31, .getfield 224, 3) (gx_m 19 rfl)) ?_
              refine gx_iload_n (pc := 34) (n := 3) (i := 3) rfl 3 rfl (htX16_leave (34, .iload_n 3, 1) (gx_m 20 rfl)) ?_
              refine gx_iconst (pc := 35) (v := (-1)) (by decide) (htX16_leave (35, .iconst (-1), 1) (gx_m 21 rfl)) ?_
              refine gx_Jis (pc := 36) (htX16_leave (36, .iastore, 1) (gx_m 22 rfl)) ?_
              exact hj5 () trivial
            · exact hj5 () trivial
    · exact hj1 () trivial
theorem ct_X16_crash (Y : gx_Y) (x0 : gx_Nm) (x1 : Int32) (x2 : Int32) : gx_Ct Y yX16_crash (ws_ yX16_crash cX16_crash 5 none) 3 149 [gx_r 17 (some x0), gx_i x1, gx_i x2] gx_Ov (f_X16_crash x0 x1 x2) := by
  refine gx_start (lv := [(0, gx_r 17 (some x0)), (1, gx_i x1), (2, gx_i x2)]) gx_Ov_r pn_X16 (Nat.le_of_ble_eq_true rfl) rfl ?_
  unfold f_X16_crash
  refine gx_aload_n (pc := 0) (n := 0) (i := 0) rfl 0 rfl (htX16_crash (0, .aload_n 0, 1) (gx_m 0 rfl)) ?_
  refine gx_aload_n (pc := 1) (n := 0) (i := 0) rfl 0 rfl (htX16_crash (1, .aload_n 0, 1) (gx_m 1 rfl)) ?_
  refine gx_iload_n (pc := 2) (n := 1) (i := 1) rfl 1 rfl (htX16_crash (2, .iload_n 1, 1) (gx_m 2 rfl)) ?_
  refine gx_Jcz (pc := 3) (gx_hst (as := [gx_i x1]) (b := gx_r 17 (some x0))) (gx_runV (as := [gx_i x1]) (ci := 16) (ct_X16_up Y x0 x1) (by decide) (Or.inl rfl) rfl rfl rfl rfl q2113 q2115 qs51 q117 q2116 rfl dd_X16_up (by decide) (by decide) (Nat.le_of_ble_eq_true rfl) (htX16_crash (3, .invokevirtual 532, 3) (gx_m 3 rfl))) (fun v1 hv1 => ?_)
  refine gx_Jjoin (pcJ := 32) (lvJ := fun (j3 : Int32) => [(0, gx_r 17 (some x0)), (1, gx_i x1), (2, gx_i x2)]) (stJ := fun (j3 : Int32) => [gx_i j3, gx_r 17 (some x0)]) (fun _ => True) (fun j3 hj3 => ?_) (fun kk1 hj1 => ?_)
  · refine gx_Jpi (pc := 32) (ci := 16) (kk := 0) (by decide) (Or.inl rfl) (by decide) rfl rfl q1674 (Or.inl rfl) (htX16_crash (32, .putfield 312, 3) (gx_m 18 rfl)) ?_
    refine gx_aload_n (pc := 35) (n := 0) (i := 0) rfl 0 rfl (htX16_crash (35, .aload_n 0, 1) (gx_m 19 rfl)) ?_
    refine gx_Jgi (pc := 36) (ci := 16) (kk := 0) (by decide) (Or.inl rfl) (by decide) (by decide) q1674 (htX16_crash (36, .getfield 312, 3) (gx_m 20 rfl)) (fun v4 hv4 => ?_)
    refine gx_if_eq (pc := 39) (y := 0) (tgt := 43) (by decide) (htX16_crash (39, .ifCond .eq 4, 3) (gx_m 21 rfl)) (fun c2 => ?_) (fun c2 => ?_)
    · refine gx_aload_n (pc := 43) (n := 0) (i := 0) rfl 0 rfl (htX16_crash (43, .aload_n 0, 1) (gx_m 23 rfl)) ?_
      refine gx_iload_n (pc := 44) (n := 1) (i := 1) rfl 1 rfl (htX16_crash (44, .iload_n 1, 1) (gx_m 24 rfl)) ?_
      refine gx_iload_n (pc := 45) (n := 2) (i := 2) rfl 2 rfl (htX16_crash (45, .iload_n 2, 1) (gx_m 25 rfl)) ?_
      refine gx_Jcv (pc := 46) (gx_hst (as := [gx_i x1, gx_i x2]) (b := gx_r 17 (some x0))) (gx_runV (as := [gx_i x1, gx_i x2]) (ci := 16) (ct_X16_toDisk Y x0 x1 x2) (by decide) (Or.inl rfl) rfl rfl rfl rfl q2178 q2180 qs64 q117 q2181 rfl dd_X16_toDisk (by decide) (by decide) (Nat.le_of_ble_eq_true rfl) (htX16_crash (46, .invokevirtual 539, 3) (gx_m 26 rfl))) ?_
      refine gx_iconst (pc := 49) (v := 0) (by decide) (htX16_crash (49, .iconst 0, 1) (gx_m 27 rfl)) ?_
      refine gx_istore_n (pc := 50) (n := 3) (i := 3) (lv' := [(3, gx_i 0), (0, gx_r 17 (some x0)), (1, gx_i x1), (2, gx_i x2)]) rfl (by decide) rfl (htX16_crash (50, .istore_n 3, 1) (gx_m 28 rfl)) ?_
      refine gx_iconst (pc := 51) (v := 0) (by decide) (htX16_crash (51, .iconst 0, 1) (gx_m 29 rfl)) ?_
      refine gx_istore (pc := 52) (i := 4) (lv' := [(4, gx_i 0), (3, gx_i 0), (0, gx_r 17 (some x0)), (1, gx_i x1), (2, gx_i x2)]) (by decide) rfl (htX16_crash (52, .istore 4, 2) (gx_m 30 rfl)) ?_
      refine gx_Jjoin (pcJ := 112) (lvJ := fun (j11 : Int32) => [(0, gx_r 17 (some x0)), (1, gx_i x1), (3, gx_i j11)]) (stJ := fun (j11 : Int32) => []) (fun _ => True) (fun j11 _ => ?_) (fun kk3 hj3 => ?_)
      · refine gx_aload_n (pc := 112) (n := 0) (i := 0) rfl 0 rfl (htX16_crash (112, .aload_n 0, 1) (gx_m 61 rfl)) ?_
        refine gx_iload_n (pc := 113) (n := 3) (i := 3) rfl 2 rfl (htX16_crash (113, .iload_n 3, 1) (gx_m 62 rfl)) ?_
        refine gx_Jpi (pc := 114) (ci := 16) (kk := 81) (by decide) (Or.inl rfl) (by decide) rfl rfl q1755 (Or.inl rfl) (htX16_crash (114, .putfield 336, 3) (gx_m 63 rfl)) ?_
        refine gx_aload_n (pc := 117) (n := 0) (i := 0) rfl 0 rfl (htX16_crash (117, .aload_n 0, 1) (gx_m 64 rfl)) ?_
        refine gx_iload_n (pc := 118) (n := 1) (i := 1) rfl 1 rfl (htX16_crash (118, .iload_n 1, 1) (gx_m 65 rfl)) ?_
        refine gx_iconst (pc := 119) (v := 0) (by decide) (htX16_crash (119, .iconst 0, 1) (gx_m 66 rfl)) ?_
        refine gx_Jcv (pc := 120) (gx_hst (as := [gx_i x1, gx_i 0]) (b := gx_r 17 (some x0))) (gx_runV (as := [gx_i x1, gx_i 0]) (ci := 16) (ct_X16_leave Y x0 x1 0) (by decide) (Or.inl rfl) rfl rfl rfl rfl q2205 q2207 qs69 q117 q2208 rfl dd_X16_leave (by decide) (by decide) (Nat.le_of_ble_eq_true rfl) (htX16_crash (120, .invokevirtual 484, 3) (gx_m 67 rfl))) ?_
        refine gx_aload_n (pc := 123) (n := 0) (i := 0) rfl 0 rfl (htX16_crash (123, .aload_n 0, 1) (gx_m 68 rfl)) ?_
        refine gx_Jgs (pc := 124) (ci := 16) (kk := 30) (t2 := 102) (by decide) (by decide) rfl rfl rfl q1704 (htX16_crash (124, .getfield 76, 3) (gx_m 69 rfl)) ?_
        refine gx_iload_n (pc := 127) (n := 1) (i := 1) rfl 1 rfl (htX16_crash (127, .iload_n 1, 1) (gx_m 70 rfl)) ?_
        refine gx_iconst (pc := 128) (v := 1) (by decide) (htX16_crash (128, .iconst 1, 1) (gx_m 71 rfl)) ?_
        refine gx_Jzs (pc := 129) (htX16_crash (129, .bastore, 1) (gx_m 72 rfl)) ?_
        exact gx_Jvret (pc := 130) rfl (fun _ => trivial) (fun _ _ => rfl) (htX16_crash (130, .return_, 1) (gx_m 73 rfl))
      · refine gx_Jw (lv := [(0, gx_r 17 (some x0)), (1, gx_i x1), (3, gx_i 0), (4, gx_i 0)]) [2, 3, 1, 0] rfl ?_
        refine gx_Jlp (pc := 54) (lvh := fun (s5 : Int32 × Int32) => [(0, gx_r 17 (some x0)), (1, gx_i x1), (3, gx_i s5.1), (4, gx_i s5.2)]) (fun s5 kl3 ha3 hb3 => ?_) _
        unfold lb_X16_crash_1
        refine gx_iload (pc := 54) (i := 4) 3 rfl (htX16_crash (54, .iload 4, 2) (gx_m 31 rfl)) ?_
        refine gx_aload_n (pc := 56) (n := 0) (i := 0) rfl 0 rfl (htX16_crash (56, .aload_n 0, 1) (gx_m 32 rfl)) ?_
        refine gx_Jgi (pc := 57) (ci := 16) (kk := 81) (by decide) (Or.inl rfl) (by decide) (by decide) q1755 (htX16_crash (57, .getfield 336, 3) (gx_m 33 rfl)) (fun v6 hv6 => ?_)
        refine gx_icmp_ge (pc := 60) (tgt := 112) (by decide) (htX16_crash (60, .if_icmp .ge 52, 3) (gx_m 34 rfl)) (fun c4 => ?_) (fun c4 => ?_)
        · refine gx_Jw (lv := [(0, gx_r 17 (some x0)), (1, gx_i x1), (3, gx_i s5.1)]) [0, 1, 2] rfl ?_
          exact gx_Jout hb3 (hj3 (s5.1 : Int32) trivial)
        · refine gx_aload_n (pc := 63) (n := 0) (i := 0) rfl 0 rfl (htX16_crash (63, .aload_n 0, 1) (gx_m 35 rfl)) ?_
          refine gx_Jgs (pc := 64) (ci := 16) (kk := 80) (t2 := 100) (by decide) (by decide) rfl rfl rfl q1754 (htX16_crash (64, .getfield 221, 3) (gx_m 36 rfl)) ?_
          refine gx_iload (pc := 67) (i := 4) 3 rfl (htX16_crash (67, .iload 4, 2) (gx_m 37 rfl)) ?_
          refine gx_Jia (pc := 69) (htX16_crash (69, .iaload, 1) (gx_m 38 rfl)) (fun v7 => ?_)
          refine gx_iload_n (pc := 70) (n := 1) (i := 1) rfl 1 rfl (htX16_crash (70, .iload_n 1, 1) (gx_m 39 rfl)) ?_
          refine gx_Jjoin (pcJ := 106) (lvJ := fun (j10 : Int32) => [(0, gx_r 17 (some x0)), (1, gx_i x1), (3, gx_i j10), (4, gx_i s5.2)]) (stJ := fun (j10 : Int32) => []) (fun _ => True) (fun j10 hj10 => ?_) (fun kk5 hj5 => ?_)
          · refine gx_iinc (pc := 106) (i := 4) (j := 3) (v := (s5.2 + 1)) (lv' := [(4, gx_i (s5.2 + 1)), (0, gx_r 17 (some x0)), (1, gx_i x1), (3, gx_i j10)]) rfl (gx_iv (by decide)) (by decide) rfl (htX16_crash (106, .iinc 4 1, 3) (gx_m 59 rfl)) ?_
            refine gx_goto (pc := 109) (tgt := 54) (by decide) (htX16_crash (109, .goto (-55), 3) (gx_m 60 rfl)) ?_
            refine gx_Jw (lv := [(0, gx_r 17 (some x0)), (1, gx_i x1), (3, gx_i j10), (4, gx_i (s5.2 + 1))]) [1, 2, 3, 0] rfl ?_
            exact ha3 ((j10 : Int32), ((s5.2 + 1) : Int32))
          · refine gx_icmp_ne (pc := 71) (tgt := 77) (by decide) (htX16_crash (71, .if_icmp .ne 6, 3) (gx_m 40 rfl)) (fun c6 => ?_) (fun c6 => ?_)
            · refine gx_goto (pc := 74) (tgt := 106) (by decide) (htX16_crash (74, .goto 32, 3) (gx_m 41 rfl)) ?_
              exact hj5 (s5.1 : Int32) trivial
            · refine gx_aload_n (pc := 77) (n := 0) (i := 0) rfl 0 rfl (htX16_crash (77, .aload_n 0, 1) (gx_m 42 rfl)) ?_
              refine gx_Jgs (pc := 78) (ci := 16) (kk := 79) (t2 := 100) (by decide) (by decide) rfl rfl rfl q1753 (htX16_crash (78, .getfield 218, 3) (gx_m 43 rfl)) ?_
              refine gx_iload_n (pc := 81) (n := 3) (i := 3) rfl 2 rfl (htX16_crash (81, .iload_n 3, 1) (gx_m 44 rfl)) ?_
              refine gx_aload_n (pc := 82) (n := 0) (i := 0) rfl 0 rfl (htX16_crash (82, .aload_n 0, 1) (gx_m 45 rfl)) ?_
              refine gx_Jgs (pc := 83) (ci := 16) (kk := 79) (t2 := 100) (by decide) (by decide) rfl rfl rfl q1753 (htX16_crash (83, .getfield 218, 3) (gx_m 46 rfl)) ?_
              refine gx_iload (pc := 86) (i := 4) 3 rfl (htX16_crash (86, .iload 4, 2) (gx_m 47 rfl)) ?_
              refine gx_Jia (pc := 88) (htX16_crash (88, .iaload, 1) (gx_m 48 rfl)) (fun v8 => ?_)
              refine gx_Jis (pc := 89) (htX16_crash (89, .iastore, 1) (gx_m 49 rfl)) ?_
              refine gx_aload_n (pc := 90) (n := 0) (i := 0) rfl 0 rfl (htX16_crash (90, .aload_n 0, 1) (gx_m 50 rfl)) ?_
              refine gx_Jgs (pc := 91) (ci := 16) (kk := 80) (t2 := 100) (by decide) (by decide) rfl rfl rfl q1754 (htX16_crash (91, .getfield 221, 3) (gx_m 51 rfl)) ?_
              refine gx_iload_n (pc := 94) (n := 3) (i := 3) rfl 2 rfl (htX16_crash (94, .iload_n 3, 1) (gx_m 52 rfl)) ?_
              refine gx_aload_n (pc := 95) (n := 0) (i := 0) rfl 0 rfl (htX16_crash (95, .aload_n 0, 1) (gx_m 53 rfl)) ?_
              refine gx_Jgs (pc := 96) (ci := 16) (kk := 80) (t2 := 100) (by decide) (by decide) rfl rfl rfl q1754 (htX16_crash (96, .getfield 221, 3) (gx_m 54 rfl)) ?_
              refine gx_iload (pc := 99) (i := 4) 3 rfl (htX16_crash (99, .iload 4, 2) (gx_m 55 rfl)) ?_
              refine gx_Jia (pc := 101) (htX16_crash (101, .iaload, 1) (gx_m 56 rfl)) (fun v9 => ?_)
              refine gx_Jis (pc := 102) (htX16_crash (102, .iastore, 1) (gx_m 57 rfl)) ?_
              refine gx_iinc (pc := 103) (i := 3) (j := 2) (v := (s5.1 + 1)) (lv' := [(3, gx_i (s5.1 + 1)), (0, gx_r 17 (some x0)), (1, gx_i x1), (4, gx_i s5.2)]) rfl (gx_iv (by decide)) (by decide) rfl (htX16_crash (103, .iinc 3 1, 3) (gx_m 58 rfl)) ?_
              refine gx_Jw (lv := [(0, gx_r 17 (some x0)), (1, gx_i x1), (3, gx_i (s5.1 + 1)), (4, gx_i s5.2)]) [1, 2, 0, 3] rfl ?_
              exact hj5 ((s5.1 + 1) : Int32) trivial
    · exact gx_Jvret (pc := 42) rfl (fun _ => trivial) (fun _ _ => rfl) (htX16_crash (42, .return_, 1) (gx_m 22 rfl))
  · refine gx_if_ne (pc := 6) (y := 0) (tgt := 13) (by decide) (htX16_crash (6, .ifCond .ne 7, 3) (gx_m 4 rfl)) (fun c7 => ?_) (fun c7 => ?_)
    · refine gx_iconst (pc := 9) (v := 2) (by decide) (htX16_crash (9, .iconst 2, 1) (gx_m 5 rfl)) ?_
      refine gx_goto (pc := 10) (tgt := 32) (by decide) (htX16_crash (10, .goto 22, 3) (gx_m 6 rfl)) ?_
      exact hj1 (2 : Int32) trivial
    · refine gx_iload_n (pc := 13) (n := 2) (i := 2) rfl 2 rfl (htX16_crash (13, .iload_n 2, 1) (gx_m 7 rfl)) ?_
      refine gx_if_lt (pc := 14) (y := 0) (tgt := 27) (by decide) (htX16_crash (14, .ifCond .lt 13, 3) (gx_m 8 rfl)) (fun c8 => ?_) (fun c8 => ?_)
      · refine gx_iconst (pc := 27) (v := 1) (by decide) (htX16_crash (27, .iconst 1, 1) (gx_m 15 rfl)) ?_
        refine gx_goto (pc := 28) (tgt := 32) (by decide) (htX16_crash (28, .goto 4, 3) (gx_m 16 rfl)) ?_
        exact hj1 (1 : Int32) trivial
      · refine gx_iload_n (pc := 17) (n := 2) (i := 2) rfl 2 rfl (htX16_crash (17, .iload_n 2, 1) (gx_m 9 rfl)) ?_
        refine gx_aload_n (pc := 18) (n := 0) (i := 0) rfl 0 rfl (htX16_crash (18, .aload_n 0, 1) (gx_m 10 rfl)) ?_
        refine gx_Jgs (pc := 19) (ci := 16) (kk := 63) (t2 := 100) (by decide) (by decide) rfl rfl rfl q1737 (htX16_crash (19, .getfield 178, 3) (gx_m 11 rfl)) ?_
        refine gx_iload_n (pc := 22) (n := 1) (i := 1) rfl 1 rfl (htX16_crash (22, .iload_n 1, 1) (gx_m 12 rfl)) ?_
        refine gx_Jia (pc := 23) (htX16_crash (23, .iaload, 1) (gx_m 13 rfl)) (fun v2 => ?_)
        refine gx_icmp_le (pc := 24) (tgt := 31) (by decide) (htX16_crash (24, .if_icmp .le 7, 3) (gx_m 14 rfl)) (fun c9 => ?_) (fun c9 => ?_)
        · refine gx_iconst (pc := 31) (v := 0) (by decide) (htX16_crash (31, .iconst 0, 1) (gx_m 17 rfl)) ?_
          exact hj1 (0 : Int32) trivial
        · refine gx_iconst (pc := 27) (v := 1) (by decide) (htX16_crash (27, .iconst 1, 1) (gx_m 15 rfl)) ?_
          refine gx_goto (pc := 28) (tgt := 32) (by decide) (htX16_crash (28, .goto 4, 3) (gx_m 16 rfl)) ?_
          exact hj1 (1 : Int32) trivial
theorem ct_X16_start (Y : gx_Y) (x0 : gx_Nm) (x1 : Int32) : gx_Ct Y yX16_start (ws_ yX16_start cX16_start 2 none) 2 122 [gx_r 17 (some x0), gx_i x1] gx_Ov (f_X16_start x0 x1) := by
  refine gx_start (lv := [(0, gx_r 17 (some x0)), (1, gx_i x1)]) gx_Ov_r pn_X16 (Nat.le_of_ble_eq_true rfl) rfl ?_
  unfold f_X16_start
  refine gx_aload_n (pc := 0) (n := 0) (i := 0) rfl 0 rfl (htX16_start (0, .aload_n 0, 1) (gx_m 0 rfl)) ?_
  refine gx_iload_n (pc := 1) (n := 1) (i := 1) rfl 1 rfl (htX16_start (1, .iload_n 1, 1) (gx_m 1 rfl)) ?_
  refine gx_Jjoin (pcJ := 27) (lvJ := fun (j3 : Int32) => [(0, gx_r 17 (some x0)), (1, gx_i x1)]) (stJ := fun (j3 : Int32) => [gx_i j3, gx_r 17 (some x0)]) (fun (j3 : Int32) => j3 &&& 1 = j3) (fun j3 hj3 => ?_) (fun kk1 hj1 => ?_)
  · refine gx_Jpi (pc := 27) (ci := 16) (kk := 0) (by decide) (Or.inl rfl) (by decide) rfl rfl q1674 (Or.inl rfl) (htX16_start (27, .putfield 312, 3) (gx_m 15 rfl)) ?_
    refine gx_aload_n (pc := 30) (n := 0) (i := 0) rfl 0 rfl (htX16_start (30, .aload_n 0, 1) (gx_m 16 rfl)) ?_
    refine gx_Jgi (pc := 31) (ci := 16) (kk := 0) (by decide) (Or.inl rfl) (by decide) (by decide) q1674 (htX16_start (31, .getfield 312, 3) (gx_m 17 rfl)) (fun v4 hv4 => ?_)
    refine gx_if_eq (pc := 34) (y := 0) (tgt := 38) (by decide) (htX16_start (34, .ifCond .eq 4, 3) (gx_m 18 rfl)) (fun c2 => ?_) (fun c2 => ?_)
    · refine gx_aload_n (pc := 38) (n := 0) (i := 0) rfl 0 rfl (htX16_start (38, .aload_n 0, 1) (gx_m 20 rfl)) ?_
      refine gx_Jgs (pc := 39) (ci := 16) (kk := 30) (t2 := 102) (by decide) (by decide) rfl rfl rfl q1704 (htX16_start (39, .getfield 76, 3) (gx_m 21 rfl)) ?_
      refine gx_iload_n (pc := 42) (n := 1) (i := 1) rfl 1 rfl (htX16_start (42, .iload_n 1, 1) (gx_m 22 rfl)) ?_
      refine gx_iconst (pc := 43) (v := 0) (by decide) (htX16_start (43, .iconst 0, 1) (gx_m 23 rfl)) ?_
      refine gx_Jzs (pc := 44) (htX16_start (44, .bastore, 1) (gx_m 24 rfl)) ?_
      refine gx_aload_n (pc := 45) (n := 0) (i := 0) rfl 0 rfl (htX16_start (45, .aload_n 0, 1) (gx_m 25 rfl)) ?_
      refine gx_iload_n (pc := 46) (n := 1) (i := 1) rfl 1 rfl (htX16_start (46, .iload_n 1, 1) (gx_m 26 rfl)) ?_
      refine gx_Jcv (pc := 47) (gx_hst (as := [gx_i x1]) (b := gx_r 17 (some x0))) (gx_runV (as := [gx_i x1]) (ci := 16) (ct_X16_begin Y x0 x1) (by decide) (Or.inl rfl) rfl rfl rfl rfl q2054 q2056 qs45 q117 q2057 rfl dd_X16_begin (by decide) (by decide) (Nat.le_of_ble_eq_true rfl) (htX16_start (47, .invokevirtual 351, 3) (gx_m 27 rfl))) ?_
      exact gx_Jvret (pc := 50) rfl (fun _ => trivial) (fun _ _ => rfl) (htX16_start (50, .return_, 1) (gx_m 28 rfl))
    · exact gx_Jvret (pc := 37) rfl (fun _ => trivial) (fun _ _ => rfl) (htX16_start (37, .return_, 1) (gx_m 19 rfl))
  · refine gx_if_lt (pc := 2) (y := 0) (tgt := 22) (by decide) (htX16_start (2, .ifCond .lt 20, 3) (gx_m 2 rfl)) (fun c3 => ?_) (fun c3 => ?_)
    · refine gx_iconst (pc := 22) (v := 1) (by decide) (htX16_start (22, .iconst 1, 1) (gx_m 12 rfl)) ?_
      refine gx_goto (pc := 23) (tgt := 27) (by decide) (htX16_start (23, .goto 4, 3) (gx_m 13 rfl)) ?_
      exact hj1 (1 : Int32) gx_b1
    · refine gx_iload_n (pc := 5) (n := 1) (i := 1) rfl 1 rfl (htX16_start (5, .iload_n 1, 1) (gx_m 3 rfl)) ?_
      refine gx_aload_n (pc := 6) (n := 0) (i := 0) rfl 0 rfl (htX16_start (6, .aload_n 0, 1) (gx_m 4 rfl)) ?_
      refine gx_Jgi (pc := 7) (ci := 16) (kk := 29) (by decide) (Or.inl rfl) (by decide) (by decide) q1703 (htX16_start (7, .getfield 315, 3) (gx_m 5 rfl)) (fun v1 hv1 => ?_)
      refine gx_icmp_ge (pc := 10) (tgt := 22) (by decide) (htX16_start (10, .if_icmp .ge 12, 3) (gx_m 6 rfl)) (fun c4 => ?_) (fun c4 => ?_)
      · refine gx_iconst (pc := 22) (v := 1) (by decide) (htX16_start (22, .iconst 1, 1) (gx_m 12 rfl)) ?_
        refine gx_goto (pc := 23) (tgt := 27) (by decide) (htX16_start (23, .goto 4, 3) (gx_m 13 rfl)) ?_
        exact hj1 (1 : Int32) gx_b1
      · refine gx_aload_n (pc := 13) (n := 0) (i := 0) rfl 0 rfl (htX16_start (13, .aload_n 0, 1) (gx_m 7 rfl)) ?_
        refine gx_Jgs (pc := 14) (ci := 16) (kk := 30) (t2 := 102) (by decide) (by decide) rfl rfl rfl q1704 (htX16_start (14, .getfield 76, 3) (gx_m 8 rfl)) ?_
        refine gx_iload_n (pc := 17) (n := 1) (i := 1) rfl 1 rfl (htX16_start (17, .iload_n 1, 1) (gx_m 9 rfl)) ?_
        refine gx_Jza (pc := 18) (htX16_start (18, .baload, 1) (gx_m 10 rfl)) (fun v2 => ?_)
        refine gx_if_ne (pc := 19) (y := 0) (tgt := 26) (by decide) (htX16_start (19, .ifCond .ne 7, 3) (gx_m 11 rfl)) (fun c5 => ?_) (fun c5 => ?_)
        · refine gx_iconst (pc := 22) (v := 1) (by decide) (htX16_start (22, .iconst 1, 1) (gx_m 12 rfl)) ?_
          refine gx_goto (pc := 23) (tgt := 27) (by decide) (htX16_start (23, .goto 4, 3) (gx_m 13 rfl)) ?_
          exact hj1 (1 : Int32) gx_b1
        · refine gx_iconst (pc := 26) (v := 0) (by decide) (htX16_start (26, .iconst 0, 1) (gx_m 14 rfl)) ?_
          exact hj1 (0 : Int32) gx_b0
theorem ct_X16_grants (Y : gx_Y) (x0 : gx_Nm) (x1 : Int32) : gx_Ct Y yX16_grants (ws_ yX16_grants cX16_grants 4 (some .int)) 1 100 [gx_r 17 (some x0), gx_i x1] gx_Oi (f_X16_grants x0 x1) := by
  refine gx_start (lv := [(0, gx_r 17 (some x0)), (1, gx_i x1)]) gx_Oi_r pn_X16 (Nat.le_of_ble_eq_true rfl) rfl ?_
  unfold f_X16_grants
  refine gx_iconst (pc := 0) (v := 0) (by decide) (htX16_grants (0, .iconst 0, 1) (gx_m 0 rfl)) ?_
  refine gx_istore_n (pc := 1) (n := 2) (i := 2) (lv' := [(2, gx_i 0), (0, gx_r 17 (some x0)), (1, gx_i x1)]) rfl (by decide) rfl (htX16_grants (1, .istore_n 2, 1) (gx_m 1 rfl)) ?_
  refine gx_iconst (pc := 2) (v := 0) (by decide) (htX16_grants (2, .iconst 0, 1) (gx_m 2 rfl)) ?_
  refine gx_istore_n (pc := 3) (n := 3) (i := 3) (lv' := [(3, gx_i 0), (2, gx_i 0), (0, gx_r 17 (some x0)), (1, gx_i x1)]) rfl (by decide) rfl (htX16_grants (3, .istore_n 3, 1) (gx_m 3 rfl)) ?_
  refine gx_Jjoin (pcJ := 32) (lvJ := fun (j6 : Int32) => [(2, gx_i j6)]) (stJ := fun (j6 : Int32) => []) (fun _ => True) (fun j6 _ => ?_) (fun kk1 hj1 => ?_)
  · refine gx_iload_n (pc := 32) (n := 2) (i := 2) rfl 0 rfl (htX16_grants (32, .iload_n 2, 1) (gx_m 18 rfl)) ?_
    exact gx_Jiret (pc := 33) rfl (fun _ => trivial) (fun _ _ => rfl) (htX16_grants (33, .ireturn, 1) (gx_m 19 rfl))
  · refine gx_Jw (lv := [(0, gx_r 17 (some x0)), (1, gx_i x1), (2, gx_i 0), (3, gx_i 0)]) [2, 3, 1, 0] rfl ?_
    refine gx_Jlp (pc := 4) (lvh := fun (s1 : Int32 × Int32) => [(0, gx_r 17 (some x0)), (1, gx_i x1), (2, gx_i s1.1), (3, gx_i s1.2)]) (fun s1 kl1 ha1 hb1 => ?_) _
    unfold lb_X16_grants_1
    refine gx_iload_n (pc := 4) (n := 3) (i := 3) rfl 3 rfl (htX16_grants (4, .iload_n 3, 1) (gx_m 4 rfl)) ?_
    refine gx_aload_n (pc := 5) (n := 0) (i := 0) rfl 0 rfl (htX16_grants (5, .aload_n 0, 1) (gx_m 5 rfl)) ?_
    refine gx_Jgi (pc := 6) (ci := 16) (kk := 29) (by decide) (Or.inl rfl) (by decide) (by decide) q1703 (htX16_grants (6, .getfield 315, 3) (gx_m 6 rfl)) (fun v2 hv2 => ?_)
    refine gx_icmp_ge (pc := 9) (tgt := 32) (by decide) (htX16_grants (9, .if_icmp .ge 23, 3) (gx_m 7 rfl)) (fun c2 => ?_) (fun c2 => ?_)
    · refine gx_Jw (lv := [(2, gx_i s1.1)]) [2] rfl ?_
      exact gx_Jout hb1 (hj1 (s1.1 : Int32) trivial)
    · refine gx_aload_n (pc := 12) (n := 0) (i := 0) rfl 0 rfl (htX16_grants (12, .aload_n 0, 1) (gx_m 8 rfl)) ?_
      refine gx_Jgs (pc := 13) (ci := 16) (kk := 56) (t2 := 106) (by decide) (by decide) rfl rfl rfl q1730 (htX16_grants (13, .getfield 159, 3) (gx_m 9 rfl)) ?_
      refine gx_iload_n (pc := 16) (n := 1) (i := 1) rfl 1 rfl (htX16_grants (16, .iload_n 1, 1) (gx_m 10 rfl)) ?_
      refine gx_Jra (pc := 17) (t := 6) (t2 := 102) (by decide) (by decide) rfl (htX16_grants (17, .aaload, 1) (gx_m 11 rfl)) (fun v3 => ?_)
      refine gx_iload_n (pc := 18) (n := 3) (i := 3) rfl 3 rfl (htX16_grants (18, .iload_n 3, 1) (gx_m 12 rfl)) ?_
      refine gx_Jza (pc := 19) (htX16_grants (19, .baload, 1) (gx_m 13 rfl)) (fun v4 => ?_)
      refine gx_Jjoin (pcJ := 26) (lvJ := fun (j5 : Int32) => [(0, gx_r 17 (some x0)), (1, gx_i x1), (2, gx_i j5), (3, gx_i s1.2)]) (stJ := fun (j5 : Int32) => []) (fun _ => True) (fun j5 hj5 => ?_) (fun kk3 hj3 => ?_)
      · refine gx_iinc (pc := 26) (i := 3) (j := 3) (v := (s1.2 + 1)) (lv' := [(3, gx_i (s1.2 + 1)), (0, gx_r 17 (some x0)), (1, gx_i x1), (2, gx_i j5)]) rfl (gx_iv (by decide)) (by decide) rfl (htX16_grants (26, .iinc 3 1, 3) (gx_m 16 rfl)) ?_
        refine gx_goto (pc := 29) (tgt := 4) (by decide) (htX16_grants (29, .goto (-25), 3) (gx_m 17 rfl)) ?_
        refine gx_Jw (lv := [(0, gx_r 17 (some x0)), (1, gx_i x1), (2, gx_i j5), (3, gx_i (s1.2 + 1))]) [1, 2, 3, 0] rfl ?_
        exact ha1 ((j5 : Int32), ((s1.2 + 1) : Int32))
      · refine gx_if_eq (pc := 20) (y := 0) (tgt := 26) (by decide) (htX16_grants (20, .ifCond .eq 6, 3) (gx_m 14 rfl)) (fun c4 => ?_) (fun c4 => ?_)
        · exact hj3 (s1.1 : Int32) trivial
        · refine gx_iinc (pc := 23) (i := 2) (j := 2) (v := (s1.1 + 1)) (lv' := [(2, gx_i (s1.1 + 1)), (0, gx_r 17 (some x0)), (1, gx_i x1), (3, gx_i s1.2)]) rfl (gx_iv (by decide)) (by decide) rfl (htX16_grants (23, .iinc 2 1, 3) (gx_m 15 rfl)) ?_
          refine gx_Jw (lv := [(0, gx_r 17 (some x0)), (1, gx_i x1), (2, gx_i (s1.1 + 1)), (3, gx_i s1.2)]) [1, 2, 0, 3] rfl ?_
          exact hj3 ((s1.1 + 1) : Int32) trivial
theorem ct_X16_drop (Y : gx_Y) (x0 : gx_Nm) (x1 : Int32) : gx_Ct Y yX16_drop (ws_ yX16_drop cX16_drop 3 none) 1 100 [gx_r 17 (some x0), gx_i x1] gx_Ov (f_X16_drop x0 x1) := by
  refine gx_start (lv := [(0, gx_r 17 (some x0)), (1, gx_i x1)]) gx_Ov_r pn_X16 (Nat.le_of_ble_eq_true rfl) rfl ?_
  unfold f_X16_drop
  refine gx_aload_n (pc := 0) (n := 0) (i := 0) rfl 0 rfl (htX16_drop (0, .aload_n 0, 1) (gx_m 0 rfl)) ?_
  refine gx_dup (pc := 1) rfl (htX16_drop (1, .dup, 1) (gx_m 1 rfl)) ?_
  refine gx_Jgi (pc := 2) (ci := 16) (kk := 78) (by decide) (Or.inl rfl) (by decide) (by decide) q1752 (htX16_drop (2, .getfield 333, 3) (gx_m 2 rfl)) (fun v1 hv1 => ?_)
  refine gx_iconst (pc := 5) (v := 1) (by decide) (htX16_drop (5, .iconst 1, 1) (gx_m 3 rfl)) ?_
  refine gx_isub (pc := 6) (htX16_drop (6, .isub, 1) (gx_m 4 rfl)) ?_
  refine gx_Jpi (pc := 7) (ci := 16) (kk := 78) (by decide) (Or.inl rfl) (by decide) rfl rfl q1752 (Or.inl rfl) (htX16_drop (7, .putfield 333, 3) (gx_m 5 rfl)) ?_
  refine gx_iload_n (pc := 10) (n := 1) (i := 1) rfl 1 rfl (htX16_drop (10, .iload_n 1, 1) (gx_m 6 rfl)) ?_
  refine gx_istore_n (pc := 11) (n := 2) (i := 2) (lv' := [(2, gx_i x1), (0, gx_r 17 (some x0)), (1, gx_i x1)]) rfl (by decide) rfl (htX16_drop (11, .istore_n 2, 1) (gx_m 7 rfl)) ?_
  refine gx_Jjoin (pcJ := 40) (lvJ := fun (j_1 : Unit) => []) (stJ := fun (j_1 : Unit) => []) (fun _ => True) (fun j_1 _ => ?_) (fun kk1 hj1 => ?_)
  · exact gx_Jvret (pc := 40) rfl (fun _ => trivial) (fun _ _ => rfl) (htX16_drop (40, .return_, 1) (gx_m 24 rfl))
  · refine gx_Jw (lv := [(0, gx_r 17 (some x0)), (2, gx_i x1)]) [1, 0] rfl ?_
    refine gx_Jlp (pc := 12) (lvh := fun (s2 : Int32) => [(0, gx_r 17 (some x0)), (2, gx_i s2)]) (fun s2 kl1 ha1 hb1 => ?_) _
    unfold lb_X16_drop_1
    refine gx_iload_n (pc := 12) (n := 2) (i := 2) rfl 1 rfl (htX16_drop (12, .iload_n 2, 1) (gx_m 8 rfl)) ?_
    refine gx_aload_n (pc := 13) (n := 0) (i := 0) rfl 0 rfl (htX16_drop (13, .aload_n 0, 1) (gx_m 9 rfl)) ?_
    refine gx_Jgi (pc := 14) (ci := 16) (kk := 78) (by decide) (Or.inl rfl) (by decide) (by decide) q1752 (htX16_drop (14, .getfield 333, 3) (gx_m 10 rfl)) (fun v3 hv3 => ?_)
    refine gx_icmp_ge (pc := 17) (tgt := 40) (by decide) (htX16_drop (17, .if_icmp .ge 23, 3) (gx_m 11 rfl)) (fun c2 => ?_) (fun c2 => ?_)
    · refine gx_Jw (lv := []) [] rfl ?_
      exact gx_Jout hb1 (hj1 () trivial)
    · refine gx_aload_n (pc := 20) (n := 0) (i := 0) rfl 0 rfl (htX16_drop (20, .aload_n 0, 1) (gx_m 12 rfl)) ?_
      refine gx_Jgs (pc := 21) (ci := 16) (kk := 77) (t2 := 100) (by decide) (by decide) rfl rfl rfl q1751 (htX16_drop (21, .getfield 215, 3) (gx_m 13 rfl)) ?_
      refine gx_iload_n (pc := 24) (n := 2) (i := 2) rfl 1 rfl (htX16_drop (24, .iload_n 2, 1) (gx_m 14 rfl)) ?_
      refine gx_aload_n (pc := 25) (n := 0) (i := 0) rfl 0 rfl (htX16_drop (25, .aload_n 0, 1) (gx_m 15 rfl)) ?_
      refine gx_Jgs (pc := 26) (ci := 16) (kk := 77) (t2 := 100) (by decide) (by decide) rfl rfl rfl q1751 (htX16_drop (26, .getfield 215, 3) (gx_m 16 rfl)) ?_
      refine gx_iload_n (pc := 29) (n := 2) (i := 2) rfl 1 rfl (htX16_drop (29, .iload_n 2, 1) (gx_m 17 rfl)) ?_
      refine gx_iconst (pc := 30) (v := 1) (by decide) (htX16_drop (30, .iconst 1, 1) (gx_m 18 rfl)) ?_
      refine gx_iadd (pc := 31) (htX16_drop (31, .iadd, 1) (gx_m 19 rfl)) ?_
      refine gx_Jia (pc := 32) (htX16_drop (32, .iaload, 1) (gx_m 20 rfl)) (fun v4 => ?_)
      refine gx_Jis (pc := 33) (htX16_drop (33, .iastore, 1) (gx_m 21 rfl)) ?_
      refine gx_iinc (pc := 34) (i := 2) (j := 1) (v := (s2 + 1)) (lv' := [(2, gx_i (s2 + 1)), (0, gx_r 17 (some x0))]) rfl (gx_iv (by decide)) (by decide) rfl (htX16_drop (34, .iinc 2 1, 3) (gx_m 22 rfl)) ?_
      refine gx_goto (pc := 37) (tgt := 12) (by decide) (htX16_drop (37, .goto (-25), 3) (gx_m 23 rfl)) ?_
      refine gx_Jw (lv := [(0, gx_r 17 (some x0)), (2, gx_i (s2 + 1))]) [1, 0] rfl ?_
      exact ha1 ((s2 + 1) : Int32)
theorem ct_X16_newer (Y : gx_Y) (x0 : gx_Nm) (x1 : Int32) (x2 : Int32) : gx_Ct Y yX16_newer (ws_ yX16_newer cX16_newer 3 none) 3 148 [gx_r 17 (some x0), gx_i x1, gx_i x2] gx_Ov (f_X16_newer x0 x1 x2) := by
  refine gx_start (lv := [(0, gx_r 17 (some x0)), (1, gx_i x1), (2, gx_i x2)]) gx_Ov_r pn_X16 (Nat.le_of_ble_eq_true rfl) rfl ?_
  unfold f_X16_newer
  refine gx_aload_n (pc := 0) (n := 0) (i := 0) rfl 0 rfl (htX16_newer (0, .aload_n 0, 1) (gx_m 0 rfl)) ?_
  refine gx_iload_n (pc := 1) (n := 1) (i := 1) rfl 1 rfl (htX16_newer (1, .iload_n 1, 1) (gx_m 1 rfl)) ?_
  refine gx_iload_n (pc := 2) (n := 2) (i := 2) rfl 2 rfl (htX16_newer (2, .iload_n 2, 1) (gx_m 2 rfl)) ?_
  refine gx_iconst (pc := 3) (v := (-1)) (by decide) (htX16_newer (3, .iconst (-1), 1) (gx_m 3 rfl)) ?_
  refine gx_Jcv (pc := 4) (gx_hst (as := [gx_i x1, gx_i x2, gx_i (-1)]) (b := gx_r 17 (some x0))) (gx_runV (as := [gx_i x1, gx_i x2, gx_i (-1)]) (ci := 16) (ct_X16_vote Y x0 x1 x2 (-1)) (by decide) (Or.inl rfl) rfl rfl rfl rfl q2158 q2160 qs61 q117 q2161 rfl dd_X16_vote (by decide) (by decide) (Nat.le_of_ble_eq_true rfl) (htX16_newer (4, .invokevirtual 482, 3) (gx_m 4 rfl))) ?_
  refine gx_aload_n (pc := 7) (n := 0) (i := 0) rfl 0 rfl (htX16_newer (7, .aload_n 0, 1) (gx_m 5 rfl)) ?_
  refine gx_iload_n (pc := 8) (n := 1) (i := 1) rfl 1 rfl (htX16_newer (8, .iload_n 1, 1) (gx_m 6 rfl)) ?_
  refine gx_iconst (pc := 9) (v := 0) (by decide) (htX16_newer (9, .iconst 0, 1) (gx_m 7 rfl)) ?_
  refine gx_Jcv (pc := 10) (gx_hst (as := [gx_i x1, gx_i 0]) (b := gx_r 17 (some x0))) (gx_runV (as := [gx_i x1, gx_i 0]) (ci := 16) (ct_X16_leave Y x0 x1 0) (by decide) (Or.inl rfl) rfl rfl rfl rfl q2205 q2207 qs69 q117 q2208 rfl dd_X16_leave (by decide) (by decide) (Nat.le_of_ble_eq_true rfl) (htX16_newer (10, .invokevirtual 484, 3) (gx_m 8 rfl))) ?_
  refine gx_aload_n (pc := 13) (n := 0) (i := 0) rfl 0 rfl (htX16_newer (13, .aload_n 0, 1) (gx_m 9 rfl)) ?_
  refine gx_Jgs (pc := 14) (ci := 16) (kk := 46) (t2 := 100) (by decide) (by decide) rfl rfl rfl q1720 (htX16_newer (14, .getfield 127, 3) (gx_m 10 rfl)) ?_
  refine gx_iload_n (pc := 17) (n := 1) (i := 1) rfl 1 rfl (htX16_newer (17, .iload_n 1, 1) (gx_m 11 rfl)) ?_
  refine gx_iconst (pc := 18) (v := (-1)) (by decide) (htX16_newer (18, .iconst (-1), 1) (gx_m 12 rfl)) ?_
  refine gx_Jis (pc := 19) (htX16_newer (19, .iastore, 1) (gx_m 13 rfl)) ?_
  exact gx_Jvret (pc := 20) rfl (fun _ => trivial) (fun _ _ => rfl) (htX16_newer (20, .return_, 1) (gx_m 14 rfl))
