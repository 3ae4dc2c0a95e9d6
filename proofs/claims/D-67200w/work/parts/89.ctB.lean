/-! ===== the machine does what f_y says (printed by gen/pprint.py) ===== -/
set_option maxRecDepth 100000
set_option maxHeartbeats 4000000
theorem ct_X10_leave (Y : gx_Y) (x0 : gx_Nm) (x1 : gx_Nm) : gx_Ct Y yX10_leave (ws_ yX10_leave cX10_leave 2 none) 2 123 [gx_r 11 (some x0), gx_r 18 (some x1)] gx_Ov (f_X10_leave x0 x1) := by
  refine gx_start (lv := [(0, gx_r 11 (some x0)), (1, gx_r 18 (some x1))]) gx_Ov_r pn_X10 (Nat.le_of_ble_eq_true rfl) rfl ?_
  unfold f_X10_leave
  refine gx_aload_n (pc := 0) (n := 0) (i := 0) rfl 0 rfl (htX10_leave (0, .aload_n 0, 1) (gx_m 0 rfl)) ?_
  refine gx_Jgs (pc := 1) (ci := 10) (kk := 1) (t2 := 12) (by decide) (by decide) rfl rfl rfl q390 (htX10_leave (1, .getfield 16, 3) (gx_m 1 rfl)) ?_
  refine gx_aload_n (pc := 4) (n := 1) (i := 1) rfl 1 rfl (htX10_leave (4, .aload_n 1, 1) (gx_m 2 rfl)) ?_
  refine gx_Jcv (pc := 5) (gx_hst (as := [gx_r 18 (some x1)]) (b := gx_r 12 (some (1 :: x0)))) (gx_runV (as := [gx_r 18 (some x1)]) (ci := 11) (ct_X11_add Y (1 :: x0) x1) (by decide) (Or.inl rfl) rfl rfl rfl rfl q683 q684 q685 q111 q686 rfl dd_X11_add (by decide) (by decide) (Nat.le_of_ble_eq_true rfl) (htX10_leave (5, .invokevirtual 27, 3) (gx_m 3 rfl))) ?_
  exact gx_Jvret (pc := 8) rfl (fun _ => trivial) (fun _ _ => rfl) (htX10_leave (8, .return_, 1) (gx_m 4 rfl))
theorem ct_X5_copy (Y : gx_Y) (x0 : gx_Nm) (x1 : gx_Nm) : gx_Ct Y yX5_copy (ws_ yX5_copy cX5_copy 3 none) 2 122 [gx_r 6 (some x0), gx_r 6 (some x1)] gx_Ov (f_X5_copy x0 x1) := by
  refine gx_start (lv := [(0, gx_r 6 (some x0)), (1, gx_r 6 (some x1))]) gx_Ov_r pn_X5 (Nat.le_of_ble_eq_true rfl) rfl ?_
  unfold f_X5_copy
  refine gx_aload_n (pc := 0) (n := 0) (i := 0) rfl 0 rfl (htX5_copy (0, .aload_n 0, 1) (gx_m 0 rfl)) ?_
  refine gx_Jcv (pc := 1) (gx_hst (as := []) (b := gx_r 6 (some x0))) (gx_runV (as := []) (ci := 5) (ct_X5_clear Y x0) (by decide) (Or.inl rfl) rfl rfl rfl rfl q859 q638 q639 q105 q640 rfl dd_X5_clear (by decide) (by decide) (Nat.le_of_ble_eq_true rfl) (htX5_copy (1, .invokevirtual 27, 3) (gx_m 1 rfl))) ?_
  refine gx_iconst (pc := 4) (v := 0) (by decide) (htX5_copy (4, .iconst 0, 1) (gx_m 2 rfl)) ?_
  refine gx_istore_n (pc := 5) (n := 2) (i := 2) (lv' := [(2, gx_i 0), (0, gx_r 6 (some x0)), (1, gx_r 6 (some x1))]) rfl (by decide) rfl (htX5_copy (5, .istore_n 2, 1) (gx_m 3 rfl)) ?_
  refine gx_Jjoin (pcJ := 30) (lvJ := fun (j_1 : Unit) => []) (stJ := fun (j_1 : Unit) => []) (fun _ => True) (fun j_1 _ => ?_) (fun kk1 hj1 => ?_)
  · exact gx_Jvret (pc := 30) rfl (fun _ => trivial) (fun _ _ => rfl) (htX5_copy (30, .return_, 1) (gx_m 16 rfl))
  · refine gx_Jw (lv := [(0, gx_r 6 (some x0)), (1, gx_r 6 (some x1)), (2, gx_i 0)]) [1, 2, 0] rfl ?_
    refine gx_Jlp (pc := 6) (lvh := fun (s1 : Int32) => [(0, gx_r 6 (some x0)), (1, gx_r 6 (some x1)), (2, gx_i s1)]) (fun s1 kl1 ha1 hb1 => ?_) _
    unfold lb_X5_copy_1
    refine gx_iload_n (pc := 6) (n := 2) (i := 2) rfl 2 rfl (htX5_copy (6, .iload_n 2, 1) (gx_m 4 rfl)) ?_
    refine gx_aload_n (pc := 7) (n := 1) (i := 1) rfl 1 rfl (htX5_copy (7, .aload_n 1, 1) (gx_m 5 rfl)) ?_
    refine gx_Jgi (pc := 8) (ci := 5) (kk := 1) (by decide) (Or.inl rfl) (by decide) (by decide) q176 (htX5_copy (8, .getfield 13, 3) (gx_m 6 rfl)) (fun v2 hv2 => ?_)
    refine gx_icmp_ge (pc := 11) (tgt := 30) (by decide) (htX5_copy (11, .if_icmp .ge 19, 3) (gx_m 7 rfl)) (fun c2 => ?_) (fun c2 => ?_)
    · refine gx_Jw (lv := []) [] rfl ?_
      exact gx_Jout hb1 (hj1 () trivial)
    · refine gx_aload_n (pc := 14) (n := 0) (i := 0) rfl 0 rfl (htX5_copy (14, .aload_n 0, 1) (gx_m 8 rfl)) ?_
      refine gx_aload_n (pc := 15) (n := 1) (i := 1) rfl 1 rfl (htX5_copy (15, .aload_n 1, 1) (gx_m 9 rfl)) ?_
      refine gx_Jgr (pc := 16) (ci := 5) (kk := 0) (t2 := 100) (by decide) (Or.inl rfl) (by decide) rfl rfl q175 (htX5_copy (16, .getfield 7, 3) (gx_m 10 rfl)) (fun v3 => ?_)
      refine gx_iload_n (pc := 19) (n := 2) (i := 2) rfl 2 rfl (htX5_copy (19, .iload_n 2, 1) (gx_m 11 rfl)) ?_
      refine gx_Jia (pc := 20) (htX5_copy (20, .iaload, 1) (gx_m 12 rfl)) (fun v4 => ?_)
      refine gx_Jcv (pc := 21) (gx_hst (as := [gx_i v4]) (b := gx_r 6 (some x0))) (gx_runV (as := [gx_i v4]) (ci := 5) (ct_X5_add Y x0 v4) (by decide) (Or.inl rfl) rfl rfl rfl rfl q860 q642 q643 q105 q644 rfl dd_X5_add (by decide) (by decide) (Nat.le_of_ble_eq_true rfl) (htX5_copy (21, .invokevirtual 23, 3) (gx_m 13 rfl))) ?_
      refine gx_iinc (pc := 24) (i := 2) (j := 2) (v := (s1 + 1)) (lv' := [(2, gx_i (s1 + 1)), (0, gx_r 6 (some x0)), (1, gx_r 6 (some x1))]) rfl (gx_iv (by decide)) (by decide) rfl (htX5_copy (24, .iinc 2 1, 3) (gx_m 14 rfl)) ?_
      refine gx_goto (pc := 27) (tgt := 6) (by decide) (htX5_copy (27, .goto (-21), 3) (gx_m 15 rfl)) ?_
      refine gx_Jw (lv := [(0, gx_r 6 (some x0)), (1, gx_r 6 (some x1)), (2, gx_i (s1 + 1))]) [1, 2, 0] rfl ?_
      exact ha1 ((s1 + 1) : Int32)
theorem ct_X15_copy (Y : gx_Y) (x0 : gx_Nm) (x1 : gx_Nm) : gx_Ct Y yX15_copy (ws_ yX15_copy cX15_copy 2 none) 3 144 [gx_r 16 (some x0), gx_r 16 (some x1)] gx_Ov (f_X15_copy x0 x1) := by
  refine gx_start (lv := [(0, gx_r 16 (some x0)), (1, gx_r 16 (some x1))]) gx_Ov_r pn_X15 (Nat.le_of_ble_eq_true rfl) rfl ?_
  unfold f_X15_copy
  refine gx_aload_n (pc := 0) (n := 0) (i := 0) rfl 0 rfl (htX15_copy (0, .aload_n 0, 1) (gx_m 0 rfl)) ?_
  refine gx_aload_n (pc := 1) (n := 1) (i := 1) rfl 1 rfl (htX15_copy (1, .aload_n 1, 1) (gx_m 1 rfl)) ?_
  refine gx_Jgi (pc := 2) (ci := 15) (kk := 1) (by decide) (Or.inl rfl) (by decide) (by decide) q506 (htX15_copy (2, .getfield 22, 3) (gx_m 2 rfl)) (fun v1 hv1 => ?_)
  refine gx_Jpi (pc := 5) (ci := 15) (kk := 1) (by decide) (Or.inl rfl) (by decide) rfl rfl q506 (Or.inl rfl) (htX15_copy (5, .putfield 22, 3) (gx_m 3 rfl)) ?_
  refine gx_aload_n (pc := 8) (n := 0) (i := 0) rfl 0 rfl (htX15_copy (8, .aload_n 0, 1) (gx_m 4 rfl)) ?_
  refine gx_aload_n (pc := 9) (n := 1) (i := 1) rfl 1 rfl (htX15_copy (9, .aload_n 1, 1) (gx_m 5 rfl)) ?_
  refine gx_Jgi (pc := 10) (ci := 15) (kk := 2) (by decide) (Or.inl rfl) (by decide) (by decide) q509 (htX15_copy (10, .getfield 26, 3) (gx_m 6 rfl)) (fun v2 hv2 => ?_)
  refine gx_Jpi (pc := 13) (ci := 15) (kk := 2) (by decide) (Or.inl rfl) (by decide) rfl rfl q509 (Or.inl rfl) (htX15_copy (13, .putfield 26, 3) (gx_m 7 rfl)) ?_
  refine gx_aload_n (pc := 16) (n := 0) (i := 0) rfl 0 rfl (htX15_copy (16, .aload_n 0, 1) (gx_m 8 rfl)) ?_
  refine gx_aload_n (pc := 17) (n := 1) (i := 1) rfl 1 rfl (htX15_copy (17, .aload_n 1, 1) (gx_m 9 rfl)) ?_
  refine gx_Jgi (pc := 18) (ci := 15) (kk := 3) (by decide) (Or.inl rfl) (by decide) (by decide) q511 (htX15_copy (18, .getfield 29, 3) (gx_m 10 rfl)) (fun v3 hv3 => ?_)
  refine gx_Jpi (pc := 21) (ci := 15) (kk := 3) (by decide) (Or.inl rfl) (by decide) rfl rfl q511 (Or.inl rfl) (htX15_copy (21, .putfield 29, 3) (gx_m 11 rfl)) ?_
  refine gx_aload_n (pc := 24) (n := 0) (i := 0) rfl 0 rfl (htX15_copy (24, .aload_n 0, 1) (gx_m 12 rfl)) ?_
  refine gx_Jgs (pc := 25) (ci := 15) (kk := 4) (t2 := 6) (by decide) (by decide) rfl rfl rfl q513 (htX15_copy (25, .getfield 12, 3) (gx_m 13 rfl)) ?_
  refine gx_aload_n (pc := 28) (n := 1) (i := 1) rfl 1 rfl (htX15_copy (28, .aload_n 1, 1) (gx_m 14 rfl)) ?_
  refine gx_Jgs (pc := 29) (ci := 15) (kk := 4) (t2 := 6) (by decide) (by decide) rfl rfl rfl q513 (htX15_copy (29, .getfield 12, 3) (gx_m 15 rfl)) ?_
  refine gx_Jcv (pc := 32) (gx_hst (as := [gx_r 6 (some (4 :: x1))]) (b := gx_r 6 (some (4 :: x0)))) (gx_runV (as := [gx_r 6 (some (4 :: x1))]) (ci := 5) (ct_X5_copy Y (4 :: x0) (4 :: x1)) (by decide) (Or.inl rfl) rfl rfl rfl rfl q855 q856 q857 q105 q858 rfl dd_X5_copy (by decide) (by decide) (Nat.le_of_ble_eq_true rfl) (htX15_copy (32, .invokevirtual 35, 3) (gx_m 16 rfl))) ?_
  exact gx_Jvret (pc := 35) rfl (fun _ => trivial) (fun _ _ => rfl) (htX15_copy (35, .return_, 1) (gx_m 17 rfl))
theorem ct_X13_whole (Y : gx_Y) (x0 : gx_Nm) : gx_Ct Y yX13_whole (ws_ yX13_whole cX13_whole 1 none) 2 120 [gx_r 14 (some x0)] gx_Ov (f_X13_whole x0) := by
  refine gx_start (lv := [(0, gx_r 14 (some x0))]) gx_Ov_r pn_X13 (Nat.le_of_ble_eq_true rfl) rfl ?_
  unfold f_X13_whole
  refine gx_aload_n (pc := 0) (n := 0) (i := 0) rfl 0 rfl (htX13_whole (0, .aload_n 0, 1) (gx_m 0 rfl)) ?_
  refine gx_aload_n (pc := 1) (n := 0) (i := 0) rfl 0 rfl (htX13_whole (1, .aload_n 0, 1) (gx_m 1 rfl)) ?_
  refine gx_Jgs (pc := 2) (ci := 13) (kk := 5) (t2 := 16) (by decide) (by decide) rfl rfl rfl q554 (htX13_whole (2, .getfield 69, 3) (gx_m 2 rfl)) ?_
  refine gx_Jgi (pc := 5) (ci := 15) (kk := 1) (by decide) (Or.inl rfl) (by decide) (by decide) q507 (htX13_whole (5, .getfield 128, 3) (gx_m 3 rfl)) (fun v1 hv1 => ?_)
  refine gx_Jpi (pc := 8) (ci := 13) (kk := 10) (by decide) (Or.inl rfl) (by decide) rfl rfl q563 (Or.inl rfl) (htX13_whole (8, .putfield 131, 3) (gx_m 4 rfl)) ?_
  refine gx_aload_n (pc := 11) (n := 0) (i := 0) rfl 0 rfl (htX13_whole (11, .aload_n 0, 1) (gx_m 5 rfl)) ?_
  refine gx_aload_n (pc := 12) (n := 0) (i := 0) rfl 0 rfl (htX13_whole (12, .aload_n 0, 1) (gx_m 6 rfl)) ?_
  refine gx_Jgs (pc := 13) (ci := 13) (kk := 5) (t2 := 16) (by decide) (by decide) rfl rfl rfl q554 (htX13_whole (13, .getfield 69, 3) (gx_m 7 rfl)) ?_
  refine gx_Jgi (pc := 16) (ci := 15) (kk := 3) (by decide) (Or.inl rfl) (by decide) (by decide) q512 (htX13_whole (16, .getfield 134, 3) (gx_m 8 rfl)) (fun v2 hv2 => ?_)
  refine gx_Jpi (pc := 19) (ci := 13) (kk := 11) (by decide) (Or.inl rfl) (by decide) rfl rfl q565 (Or.inl rfl) (htX13_whole (19, .putfield 137, 3) (gx_m 9 rfl)) ?_
  refine gx_aload_n (pc := 22) (n := 0) (i := 0) rfl 0 rfl (htX13_whole (22, .aload_n 0, 1) (gx_m 10 rfl)) ?_
  refine gx_aload_n (pc := 23) (n := 0) (i := 0) rfl 0 rfl (htX13_whole (23, .aload_n 0, 1) (gx_m 11 rfl)) ?_
  refine gx_Jgs (pc := 24) (ci := 13) (kk := 5) (t2 := 16) (by decide) (by decide) rfl rfl rfl q554 (htX13_whole (24, .getfield 69, 3) (gx_m 12 rfl)) ?_
  refine gx_Jgi (pc := 27) (ci := 15) (kk := 1) (by decide) (Or.inl rfl) (by decide) (by decide) q507 (htX13_whole (27, .getfield 128, 3) (gx_m 13 rfl)) (fun v3 hv3 => ?_)
  refine gx_Jpi (pc := 30) (ci := 13) (kk := 13) (by decide) (Or.inl rfl) (by decide) rfl rfl q568 (Or.inl rfl) (htX13_whole (30, .putfield 138, 3) (gx_m 14 rfl)) ?_
  refine gx_aload_n (pc := 33) (n := 0) (i := 0) rfl 0 rfl (htX13_whole (33, .aload_n 0, 1) (gx_m 15 rfl)) ?_
  refine gx_Jgs (pc := 34) (ci := 13) (kk := 12) (t2 := 6) (by decide) (by decide) rfl rfl rfl q567 (htX13_whole (34, .getfield 23, 3) (gx_m 16 rfl)) ?_
  refine gx_Jcv (pc := 37) (gx_hst (as := []) (b := gx_r 6 (some (12 :: x0)))) (gx_runV (as := []) (ci := 5) (ct_X5_clear Y (12 :: x0)) (by decide) (Or.inl rfl) rfl rfl rfl rfl q865 q638 q639 q105 q640 rfl dd_X5_clear (by decide) (by decide) (Nat.le_of_ble_eq_true rfl) (htX13_whole (37, .invokevirtual 141, 3) (gx_m 17 rfl))) ?_
  refine gx_aload_n (pc := 40) (n := 0) (i := 0) rfl 0 rfl (htX13_whole (40, .aload_n 0, 1) (gx_m 18 rfl)) ?_
  refine gx_iconst (pc := 41) (v := 0) (by decide) (htX13_whole (41, .iconst 0, 1) (gx_m 19 rfl)) ?_
  refine gx_Jpi (pc := 42) (ci := 13) (kk := 14) (by decide) (Or.inl rfl) (by decide) rfl rfl q569 (Or.inl rfl) (htX13_whole (42, .putfield 142, 3) (gx_m 20 rfl)) ?_
  exact gx_Jvret (pc := 45) rfl (fun _ => trivial) (fun _ _ => rfl) (htX13_whole (45, .return_, 1) (gx_m 21 rfl))
theorem ct_X13_forgetReads (Y : gx_Y) (x0 : gx_Nm) : gx_Ct Y yX13_forgetReads (ws_ yX13_forgetReads cX13_forgetReads 1 none) 1 100 [gx_r 14 (some x0)] gx_Ov (f_X13_forgetReads x0) := by
  refine gx_start (lv := [(0, gx_r 14 (some x0))]) gx_Ov_r pn_X13 (Nat.le_of_ble_eq_true rfl) rfl ?_
  unfold f_X13_forgetReads
  refine gx_aload_n (pc := 0) (n := 0) (i := 0) rfl 0 rfl (htX13_forgetReads (0, .aload_n 0, 1) (gx_m 0 rfl)) ?_
  refine gx_iconst (pc := 1) (v := 0) (by decide) (htX13_forgetReads (1, .iconst 0, 1) (gx_m 1 rfl)) ?_
  refine gx_Jpi (pc := 2) (ci := 13) (kk := 21) (by decide) (Or.inl rfl) (by decide) rfl rfl q576 (Or.inl rfl) (htX13_forgetReads (2, .putfield 145, 3) (gx_m 2 rfl)) ?_
  refine gx_aload_n (pc := 5) (n := 0) (i := 0) rfl 0 rfl (htX13_forgetReads (5, .aload_n 0, 1) (gx_m 3 rfl)) ?_
  refine gx_iconst (pc := 6) (v := 0) (by decide) (htX13_forgetReads (6, .iconst 0, 1) (gx_m 4 rfl)) ?_
  refine gx_Jpi (pc := 7) (ci := 13) (kk := 22) (by decide) (Or.inl rfl) (by decide) rfl rfl q577 (Or.inl rfl) (htX13_forgetReads (7, .putfield 148, 3) (gx_m 5 rfl)) ?_
  exact gx_Jvret (pc := 10) rfl (fun _ => trivial) (fun _ _ => rfl) (htX13_forgetReads (10, .return_, 1) (gx_m 6 rfl))
theorem ct_X13_rise (Y : gx_Y) (x0 : gx_Nm) : gx_Ct Y yX13_rise (ws_ yX13_rise cX13_rise 1 none) 4 165 [gx_r 14 (some x0)] gx_Ov (f_X13_rise x0) := by
  refine gx_start (lv := [(0, gx_r 14 (some x0))]) gx_Ov_r pn_X13 (Nat.le_of_ble_eq_true rfl) rfl ?_
  unfold f_X13_rise
  refine gx_aload_n (pc := 0) (n := 0) (i := 0) rfl 0 rfl (htX13_rise (0, .aload_n 0, 1) (gx_m 0 rfl)) ?_
  refine gx_iconst (pc := 1) (v := 0) (by decide) (htX13_rise (1, .iconst 0, 1) (gx_m 1 rfl)) ?_
  refine gx_Jpz (pc := 2) (ci := 13) (kk := 7) (by decide) (Or.inl rfl) (by decide) rfl rfl gx_b0 q557 (Or.inl rfl) (htX13_rise (2, .putfield 96, 3) (gx_m 2 rfl)) ?_
  refine gx_aload_n (pc := 5) (n := 0) (i := 0) rfl 0 rfl (htX13_rise (5, .aload_n 0, 1) (gx_m 3 rfl)) ?_
  refine gx_aload_n (pc := 6) (n := 0) (i := 0) rfl 0 rfl (htX13_rise (6, .aload_n 0, 1) (gx_m 4 rfl)) ?_
  refine gx_Jgs (pc := 7) (ci := 13) (kk := 2) (t2 := 15) (by decide) (by decide) rfl rfl rfl q548 (htX13_rise (7, .getfield 62, 3) (gx_m 5 rfl)) ?_
  refine gx_Jgi (pc := 10) (ci := 14) (kk := 0) (by decide) (Or.inl rfl) (by decide) (by decide) q526 (htX13_rise (10, .getfield 100, 3) (gx_m 6 rfl)) (fun v1 hv1 => ?_)
  refine gx_Jpi (pc := 13) (ci := 13) (kk := 3) (by decide) (Or.inl rfl) (by decide) rfl rfl q550 (Or.inl rfl) (htX13_rise (13, .putfield 103, 3) (gx_m 7 rfl)) ?_
  refine gx_aload_n (pc := 16) (n := 0) (i := 0) rfl 0 rfl (htX13_rise (16, .aload_n 0, 1) (gx_m 8 rfl)) ?_
  refine gx_aload_n (pc := 17) (n := 0) (i := 0) rfl 0 rfl (htX13_rise (17, .aload_n 0, 1) (gx_m 9 rfl)) ?_
  refine gx_Jgs (pc := 18) (ci := 13) (kk := 2) (t2 := 15) (by decide) (by decide) rfl rfl rfl q548 (htX13_rise (18, .getfield 62, 3) (gx_m 10 rfl)) ?_
  refine gx_Jgi (pc := 21) (ci := 14) (kk := 1) (by decide) (Or.inl rfl) (by decide) (by decide) q529 (htX13_rise (21, .getfield 104, 3) (gx_m 11 rfl)) (fun v2 hv2 => ?_)
  refine gx_Jpi (pc := 24) (ci := 13) (kk := 4) (by decide) (Or.inl rfl) (by decide) rfl rfl q552 (Or.inl rfl) (htX13_rise (24, .putfield 107, 3) (gx_m 12 rfl)) ?_
  refine gx_aload_n (pc := 27) (n := 0) (i := 0) rfl 0 rfl (htX13_rise (27, .aload_n 0, 1) (gx_m 13 rfl)) ?_
  refine gx_Jgs (pc := 28) (ci := 13) (kk := 5) (t2 := 16) (by decide) (by decide) rfl rfl rfl q554 (htX13_rise (28, .getfield 69, 3) (gx_m 14 rfl)) ?_
  refine gx_aload_n (pc := 31) (n := 0) (i := 0) rfl 0 rfl (htX13_rise (31, .aload_n 0, 1) (gx_m 15 rfl)) ?_
  refine gx_Jgs (pc := 32) (ci := 13) (kk := 2) (t2 := 15) (by decide) (by decide) rfl rfl rfl q548 (htX13_rise (32, .getfield 62, 3) (gx_m 16 rfl)) ?_
  refine gx_Jgs (pc := 35) (ci := 14) (kk := 2) (t2 := 16) (by decide) (by decide) rfl rfl rfl q532 (htX13_rise (35, .getfield 108, 3) (gx_m 17 rfl)) ?_
  refine gx_Jcv (pc := 38) (gx_hst (as := [gx_r 16 (some (2 :: 2 :: x0))]) (b := gx_r 16 (some (5 :: x0)))) (gx_runV (as := [gx_r 16 (some (2 :: 2 :: x0))]) (ci := 15) (ct_X15_copy Y (5 :: x0) (2 :: 2 :: x0)) (by decide) (Or.inl rfl) rfl rfl rfl rfl q851 q852 q853 q115 q854 rfl dd_X15_copy (by decide) (by decide) (Nat.le_of_ble_eq_true rfl) (htX13_rise (38, .invokevirtual 109, 3) (gx_m 18 rfl))) ?_
  refine gx_aload_n (pc := 41) (n := 0) (i := 0) rfl 0 rfl (htX13_rise (41, .aload_n 0, 1) (gx_m 19 rfl)) ?_
  refine gx_iconst (pc := 42) (v := 0) (by decide) (htX13_rise (42, .iconst 0, 1) (gx_m 20 rfl)) ?_
  refine gx_Jpi (pc := 43) (ci := 13) (kk := 8) (by decide) (Or.inl rfl) (by decide) rfl rfl q559 (Or.inl rfl) (htX13_rise (43, .putfield 113, 3) (gx_m 21 rfl)) ?_
  refine gx_aload_n (pc := 46) (n := 0) (i := 0) rfl 0 rfl (htX13_rise (46, .aload_n 0, 1) (gx_m 22 rfl)) ?_
  refine gx_iconst (pc := 47) (v := (-1)) (by decide) (htX13_rise (47, .iconst (-1), 1) (gx_m 23 rfl)) ?_
  refine gx_Jpi (pc := 48) (ci := 13) (kk := 9) (by decide) (Or.inl rfl) (by decide) rfl rfl q561 (Or.inl rfl) (htX13_rise (48, .putfield 116, 3) (gx_m 24 rfl)) ?_
  refine gx_aload_n (pc := 51) (n := 0) (i := 0) rfl 0 rfl (htX13_rise (51, .aload_n 0, 1) (gx_m 25 rfl)) ?_
  refine gx_Jcv (pc := 52) (gx_hst (as := []) (b := gx_r 14 (some x0))) (gx_runV (as := []) (ci := 13) (ct_X13_whole Y x0) (by decide) (Or.inl rfl) rfl rfl rfl rfl q861 q863 qs2 q113 q864 rfl dd_X13_whole (by decide) (by decide) (Nat.le_of_ble_eq_true rfl) (htX13_rise (52, .invokevirtual 119, 3) (gx_m 26 rfl))) ?_
  refine gx_aload_n (pc := 55) (n := 0) (i := 0) rfl 0 rfl (htX13_rise (55, .aload_n 0, 1) (gx_m 27 rfl)) ?_
  refine gx_iconst (pc := 56) (v := 0) (by decide) (htX13_rise (56, .iconst 0, 1) (gx_m 28 rfl)) ?_
  refine gx_Jpi (pc := 57) (ci := 13) (kk := 15) (by decide) (Or.inl rfl) (by decide) rfl rfl q570 (Or.inl rfl) (htX13_rise (57, .putfield 122, 3) (gx_m 29 rfl)) ?_
  refine gx_aload_n (pc := 60) (n := 0) (i := 0) rfl 0 rfl (htX13_rise (60, .aload_n 0, 1) (gx_m 30 rfl)) ?_
  refine gx_Jcv (pc := 61) (gx_hst (as := []) (b := gx_r 14 (some x0))) (gx_runV (as := []) (ci := 13) (ct_X13_forgetReads Y x0) (by decide) (Or.inl rfl) rfl rfl rfl rfl q866 q868 qs3 q113 q869 rfl dd_X13_forgetReads (by decide) (by decide) (Nat.le_of_ble_eq_true rfl) (htX13_rise (61, .invokevirtual 125, 3) (gx_m 31 rfl))) ?_
  exact gx_Jvret (pc := 64) rfl (fun _ => trivial) (fun _ _ => rfl) (htX13_rise (64, .return_, 1) (gx_m 32 rfl))
theorem ct_X13_clear (Y : gx_Y) (x0 : gx_Nm) : gx_Ct Y yX13_clear (ws_ yX13_clear cX13_clear 1 none) 5 185 [gx_r 14 (some x0)] gx_Ov (f_X13_clear x0) := by
  refine gx_start (lv := [(0, gx_r 14 (some x0))]) gx_Ov_r pn_X13 (Nat.le_of_ble_eq_true rfl) rfl ?_
  unfold f_X13_clear
  refine gx_aload_n (pc := 0) (n := 0) (i := 0) rfl 0 rfl (htX13_clear (0, .aload_n 0, 1) (gx_m 0 rfl)) ?_
  refine gx_Jgs (pc := 1) (ci := 13) (kk := 2) (t2 := 15) (by decide) (by decide) rfl rfl rfl q548 (htX13_clear (1, .getfield 62, 3) (gx_m 1 rfl)) ?_
  refine gx_Jcv (pc := 4) (gx_hst (as := []) (b := gx_r 15 (some (2 :: x0)))) (gx_runV (as := []) (ci := 14) (ct_X14_clear Y (2 :: x0)) (by decide) (Or.inl rfl) rfl rfl rfl rfl q832 q833 q834 q114 q835 rfl dd_X14_clear (by decide) (by decide) (Nat.le_of_ble_eq_true rfl) (htX13_clear (4, .invokevirtual 73, 3) (gx_m 2 rfl))) ?_
  refine gx_Jjoin (pcJ := 37) (lvJ := fun (j_1 : Unit) => [(0, gx_r 14 (some x0))]) (stJ := fun (j_1 : Unit) => []) (fun _ => True) (fun j_1 _ => ?_) (fun kk1 hj1 => ?_)
  · refine gx_aload_n (pc := 37) (n := 0) (i := 0) rfl 0 rfl (htX13_clear (37, .aload_n 0, 1) (gx_m 15 rfl)) ?_
    refine gx_Jcv (pc := 38) (gx_hst (as := []) (b := gx_r 14 (some x0))) (gx_runV (as := []) (ci := 13) (ct_X13_rise Y x0) (by decide) (Or.inl rfl) rfl rfl rfl rfl q847 q848 q849 q113 q850 rfl dd_X13_rise (by decide) (by decide) (Nat.le_of_ble_eq_true rfl) (htX13_clear (38, .invokevirtual 93, 3) (gx_m 16 rfl))) ?_
    exact gx_Jvret (pc := 41) rfl (fun _ => trivial) (fun _ _ => rfl) (htX13_clear (41, .return_, 1) (gx_m 17 rfl))
  · refine gx_Jlp (pc := 7) (lvh := fun (s1 : Unit) => [(0, gx_r 14 (some x0))]) (fun s1 kl1 ha1 hb1 => ?_) _
    unfold lb_X13_clear_1
    refine gx_aload_n (pc := 7) (n := 0) (i := 0) rfl 0 rfl (htX13_clear (7, .aload_n 0, 1) (gx_m 3 rfl)) ?_
    refine gx_Jgs (pc := 8) (ci := 13) (kk := 6) (t2 := 12) (by decide) (by decide) rfl rfl rfl q556 (htX13_clear (8, .getfield 12, 3) (gx_m 4 rfl)) ?_
    refine gx_Jgi (pc := 11) (ci := 11) (kk := 1) (by decide) (Or.inl rfl) (by decide) (by decide) q380 (htX13_clear (11, .getfield 76, 3) (gx_m 5 rfl)) (fun v2 hv2 => ?_)
    refine gx_if_le (pc := 14) (y := 0) (tgt := 37) (by decide) (htX13_clear (14, .ifCond .le 23, 3) (gx_m 6 rfl)) (fun c2 => ?_) (fun c2 => ?_)
    · exact gx_Jout hb1 (hj1 () trivial)
    · refine gx_aload_n (pc := 17) (n := 0) (i := 0) rfl 0 rfl (htX13_clear (17, .aload_n 0, 1) (gx_m 7 rfl)) ?_
      refine gx_Jgs (pc := 18) (ci := 13) (kk := 0) (t2 := 3) (by decide) (by decide) rfl rfl rfl q546 (htX13_clear (18, .getfield 43, 3) (gx_m 8 rfl)) ?_
      refine gx_Jgs (pc := 21) (ci := 2) (kk := 3) (t2 := 11) (by decide) (by decide) rfl rfl rfl q410 (htX13_clear (21, .getfield 79, 3) (gx_m 9 rfl)) ?_
      refine gx_aload_n (pc := 24) (n := 0) (i := 0) rfl 0 rfl (htX13_clear (24, .aload_n 0, 1) (gx_m 10 rfl)) ?_
      refine gx_Jgs (pc := 25) (ci := 13) (kk := 6) (t2 := 12) (by decide) (by decide) rfl rfl rfl q556 (htX13_clear (25, .getfield 12, 3) (gx_m 11 rfl)) ?_
      refine gx_Jcr (pc := 28) (t2 := 18) (gx_hst (as := []) (b := gx_r 12 (some (6 :: x0)))) (gx_runV (as := []) (ci := 11) (ct_X11_pop Y (6 :: x0)) (by decide) (Or.inl rfl) rfl rfl rfl rfl q842 q680 q681 q111 q682 rfl dd_X11_pop (by decide) (by decide) (Nat.le_of_ble_eq_true rfl) (htX13_clear (28, .invokevirtual 83, 3) (gx_m 12 rfl))) (fun v3 => ?_)
      refine gx_Jcv (pc := 31) (gx_hst (as := [gx_r 18 (some v3)]) (b := gx_r 11 (some [3, 0, 1]))) (gx_runV (as := [gx_r 18 (some v3)]) (ci := 10) (ct_X10_leave Y [3, 0, 1] v3) (by decide) (Or.inl rfl) rfl rfl rfl rfl q843 q844 q845 q110 q846 rfl dd_X10_leave (by decide) (by decide) (Nat.le_of_ble_eq_true rfl) (htX13_clear (31, .invokevirtual 87, 3) (gx_m 13 rfl))) ?_
      refine gx_goto (pc := 34) (tgt := 7) (by decide) (htX13_clear (34, .goto (-27), 3) (gx_m 14 rfl)) ?_
      exact ha1 ()
theorem ct_X4_addInt (Y : gx_Y) (x0 : gx_Nm) (x1 : Int32) : gx_Ct Y yX4_addInt (ws_ yX4_addInt cX4_addInt 3 none) 2 122 [gx_r 5 (some x0), gx_i x1] gx_Ov (f_X4_addInt x0 x1) := by
  refine gx_start (lv := [(0, gx_r 5 (some x0)), (1, gx_i x1)]) gx_Ov_r pn_X4 (Nat.le_of_ble_eq_true rfl) rfl ?_
  unfold f_X4_addInt
  refine gx_bipush (pc := 0) (v := 24) (by decide) (htX4_addInt (0, .bipush 24, 2) (gx_m 0 rfl)) ?_
  refine gx_istore_n (pc := 2) (n := 2) (i := 2) (lv' := [(2, gx_i 24), (0, gx_r 5 (some x0)), (1, gx_i x1)]) rfl (by decide) rfl (htX4_addInt (2, .istore_n 2, 1) (gx_m 1 rfl)) ?_
  refine gx_Jjoin (pcJ := 20) (lvJ := fun (j_1 : Unit) => []) (stJ := fun (j_1 : Unit) => []) (fun _ => True) (fun j_1 _ => ?_) (fun kk1 hj1 => ?_)
  · exact gx_Jvret (pc := 20) rfl (fun _ => trivial) (fun _ _ => rfl) (htX4_addInt (20, .return_, 1) (gx_m 11 rfl))
  · refine gx_Jw (lv := [(0, gx_r 5 (some x0)), (1, gx_i x1), (2, gx_i 24)]) [1, 2, 0] rfl ?_
    refine gx_Jlp (pc := 3) (lvh := fun (s1 : Int32) => [(0, gx_r 5 (some x0)), (1, gx_i x1), (2, gx_i s1)]) (fun s1 kl1 ha1 hb1 => ?_) _
    unfold lb_X4_addInt_1
    refine gx_iload_n (pc := 3) (n := 2) (i := 2) rfl 2 rfl (htX4_addInt (3, .iload_n 2, 1) (gx_m 2 rfl)) ?_
    refine gx_if_lt (pc := 4) (y := 0) (tgt := 20) (by decide) (htX4_addInt (4, .ifCond .lt 16, 3) (gx_m 3 rfl)) (fun c2 => ?_) (fun c2 => ?_)
    · refine gx_Jw (lv := []) [] rfl ?_
      exact gx_Jout hb1 (hj1 () trivial)
    · refine gx_aload_n (pc := 7) (n := 0) (i := 0) rfl 0 rfl (htX4_addInt (7, .aload_n 0, 1) (gx_m 4 rfl)) ?_
      refine gx_iload_n (pc := 8) (n := 1) (i := 1) rfl 1 rfl (htX4_addInt (8, .iload_n 1, 1) (gx_m 5 rfl)) ?_
      refine gx_iload_n (pc := 9) (n := 2) (i := 2) rfl 2 rfl (htX4_addInt (9, .iload_n 2, 1) (gx_m 6 rfl)) ?_
      refine gx_iushr (pc := 10) (htX4_addInt (10, .iushr, 1) (gx_m 7 rfl)) ?_
      refine gx_Jcv (pc := 11) (gx_hst (as := [gx_i (gx_ushr x1 s1)]) (b := gx_r 5 (some x0))) (gx_runV (as := [gx_i (gx_ushr x1 s1)]) (ci := 4) (ct_X4_add Y x0 (gx_ushr x1 s1)) (by decide) (Or.inl rfl) rfl rfl rfl rfl q931 q693 q694 q104 q695 rfl dd_X4_add (by decide) (by decide) (Nat.le_of_ble_eq_true rfl) (htX4_addInt (11, .invokevirtual 23, 3) (gx_m 8 rfl))) ?_
      refine gx_iinc (pc := 14) (i := 2) (j := 2) (v := (s1 + (-8))) (lv' := [(2, gx_i (s1 + (-8))), (0, gx_r 5 (some x0)), (1, gx_i x1)]) rfl (gx_iv (by decide)) (by decide) rfl (htX4_addInt (14, .iinc 2 (-8), 3) (gx_m 9 rfl)) ?_
      refine gx_goto (pc := 17) (tgt := 3) (by decide) (htX4_addInt (17, .goto (-14), 3) (gx_m 10 rfl)) ?_
      refine gx_Jw (lv := [(0, gx_r 5 (some x0)), (1, gx_i x1), (2, gx_i (s1 + (-8)))]) [1, 2, 0] rfl ?_
      exact ha1 ((s1 + (-8)) : Int32)
theorem ct_X4_addAll (Y : gx_Y) (x0 : gx_Nm) (x1 : gx_Nm) (x2 : Int32) (x3 : Int32) : gx_Ct Y yX4_addAll (ws_ yX4_addAll cX4_addAll 5 none) 2 122 [gx_r 5 (some x0), gx_r 5 (some x1), gx_i x2, gx_i x3] gx_Ov (f_X4_addAll x0 x1 x2 x3) := by
  refine gx_start (lv := [(0, gx_r 5 (some x0)), (1, gx_r 5 (some x1)), (2, gx_i x2), (3, gx_i x3)]) gx_Ov_r pn_X4 (Nat.le_of_ble_eq_true rfl) rfl ?_
  unfold f_X4_addAll
  refine gx_iload_n (pc := 0) (n := 2) (i := 2) rfl 2 rfl (htX4_addAll (0, .iload_n 2, 1) (gx_m 0 rfl)) ?_
  refine gx_istore (pc := 1) (i := 4) (lv' := [(4, gx_i x2), (0, gx_r 5 (some x0)), (1, gx_r 5 (some x1)), (2, gx_i x2), (3, gx_i x3)]) (by decide) rfl (htX4_addAll (1, .istore 4, 2) (gx_m 1 rfl)) ?_
  refine gx_Jjoin (pcJ := 26) (lvJ := fun (j_1 : Unit) => []) (stJ := fun (j_1 : Unit) => []) (fun _ => True) (fun j_1 _ => ?_) (fun kk1 hj1 => ?_)
  · exact gx_Jvret (pc := 26) rfl (fun _ => trivial) (fun _ _ => rfl) (htX4_addAll (26, .return_, 1) (gx_m 13 rfl))
  · refine gx_Jw (lv := [(0, gx_r 5 (some x0)), (1, gx_r 5 (some x1)), (3, gx_i x3), (4, gx_i x2)]) [1, 2, 4, 0] rfl ?_
    refine gx_Jlp (pc := 3) (lvh := fun (s1 : Int32) => [(0, gx_r 5 (some x0)), (1, gx_r 5 (some x1)), (3, gx_i x3), (4, gx_i s1)]) (fun s1 kl1 ha1 hb1 => ?_) _
    unfold lb_X4_addAll_1
    refine gx_iload (pc := 3) (i := 4) 3 rfl (htX4_addAll (3, .iload 4, 2) (gx_m 2 rfl)) ?_
    refine gx_iload_n (pc := 5) (n := 3) (i := 3) rfl 2 rfl (htX4_addAll (5, .iload_n 3, 1) (gx_m 3 rfl)) ?_
    refine gx_icmp_ge (pc := 6) (tgt := 26) (by decide) (htX4_addAll (6, .if_icmp .ge 20, 3) (gx_m 4 rfl)) (fun c2 => ?_) (fun c2 => ?_)
    · refine gx_Jw (lv := []) [] rfl ?_
      exact gx_Jout hb1 (hj1 () trivial)
    · refine gx_aload_n (pc := 9) (n := 0) (i := 0) rfl 0 rfl (htX4_addAll (9, .aload_n 0, 1) (gx_m 5 rfl)) ?_
      refine gx_aload_n (pc := 10) (n := 1) (i := 1) rfl 1 rfl (htX4_addAll (10, .aload_n 1, 1) (gx_m 6 rfl)) ?_
      refine gx_Jgr (pc := 11) (ci := 4) (kk := 0) (t2 := 101) (by decide) (Or.inl rfl) (by decide) rfl rfl q156 (htX4_addAll (11, .getfield 7, 3) (gx_m 7 rfl)) (fun v2 => ?_)
      refine gx_iload (pc := 14) (i := 4) 3 rfl (htX4_addAll (14, .iload 4, 2) (gx_m 8 rfl)) ?_
      refine gx_Jba (pc := 16) (htX4_addAll (16, .baload, 1) (gx_m 9 rfl)) (fun v3 => ?_)
      refine gx_Jcv (pc := 17) (gx_hst (as := [gx_i v3]) (b := gx_r 5 (some x0))) (gx_runV (as := [gx_i v3]) (ci := 4) (ct_X4_add Y x0 v3) (by decide) (Or.inl rfl) rfl rfl rfl rfl q931 q693 q694 q104 q695 rfl dd_X4_add (by decide) (by decide) (Nat.le_of_ble_eq_true rfl) (htX4_addAll (17, .invokevirtual 23, 3) (gx_m 10 rfl))) ?_
      refine gx_iinc (pc := 20) (i := 4) (j := 3) (v := (s1 + 1)) (lv' := [(4, gx_i (s1 + 1)), (0, gx_r 5 (some x0)), (1, gx_r 5 (some x1)), (3, gx_i x3)]) rfl (gx_iv (by decide)) (by decide) rfl (htX4_addAll (20, .iinc 4 1, 3) (gx_m 11 rfl)) ?_
      refine gx_goto (pc := 23) (tgt := 3) (by decide) (htX4_addAll (23, .goto (-20), 3) (gx_m 12 rfl)) ?_
      refine gx_Jw (lv := [(0, gx_r 5 (some x0)), (1, gx_r 5 (some x1)), (3, gx_i x3), (4, gx_i (s1 + 1))]) [1, 2, 3, 0] rfl ?_
      exact ha1 ((s1 + 1) : Int32)
theorem ct_X12_letters (Y : gx_Y) (x0 : gx_Nm) (x1 : gx_Nm) (x2 : gx_Nm) : gx_Ct Y yX12_letters (ws_ yX12_letters cX12_letters 3 none) 3 146 [gx_r 13 (some x0), gx_r 6 (some x1), gx_r 5 (some x2)] gx_Ov (f_X12_letters x0 x1 x2) := by
  refine gx_start (lv := [(0, gx_r 13 (some x0)), (1, gx_r 6 (some x1)), (2, gx_r 5 (some x2))]) gx_Ov_r pn_X12 (Nat.le_of_ble_eq_true rfl) rfl ?_
  unfold f_X12_letters
  refine gx_aload_n (pc := 0) (n := 1) (i := 1) rfl 1 rfl (htX12_letters (0, .aload_n 1, 1) (gx_m 0 rfl)) ?_
  refine gx_aload_n (pc := 1) (n := 0) (i := 0) rfl 0 rfl (htX12_letters (1, .aload_n 0, 1) (gx_m 1 rfl)) ?_
  refine gx_Jgs (pc := 2) (ci := 12) (kk := 0) (t2 := 5) (by decide) (by decide) rfl rfl rfl q453 (htX12_letters (2, .getfield 12, 3) (gx_m 2 rfl)) ?_
  refine gx_Jgi (pc := 5) (ci := 4) (kk := 1) (by decide) (Or.inl rfl) (by decide) (by decide) q160 (htX12_letters (5, .getfield 41, 3) (gx_m 3 rfl)) (fun v1 hv1 => ?_)
  refine gx_Jcv (pc := 8) (gx_hst (as := [gx_i v1]) (b := gx_r 6 (some x1))) (gx_runV (as := [gx_i v1]) (ci := 5) (ct_X5_add Y x1 v1) (by decide) (Or.inl rfl) rfl rfl rfl rfl q959 q642 q643 q105 q644 rfl dd_X5_add (by decide) (by decide) (Nat.le_of_ble_eq_true rfl) (htX12_letters (8, .invokevirtual 42, 3) (gx_m 4 rfl))) ?_
  refine gx_aload_n (pc := 11) (n := 0) (i := 0) rfl 0 rfl (htX12_letters (11, .aload_n 0, 1) (gx_m 5 rfl)) ?_
  refine gx_Jgs (pc := 12) (ci := 12) (kk := 0) (t2 := 5) (by decide) (by decide) rfl rfl rfl q453 (htX12_letters (12, .getfield 12, 3) (gx_m 6 rfl)) ?_
  refine gx_aload_n (pc := 15) (n := 2) (i := 2) rfl 2 rfl (htX12_letters (15, .aload_n 2, 1) (gx_m 7 rfl)) ?_
  refine gx_iconst (pc := 16) (v := 0) (by decide) (htX12_letters (16, .iconst 0, 1) (gx_m 8 rfl)) ?_
  refine gx_aload_n (pc := 17) (n := 2) (i := 2) rfl 2 rfl (htX12_letters (17, .aload_n 2, 1) (gx_m 9 rfl)) ?_
  refine gx_Jgi (pc := 18) (ci := 4) (kk := 1) (by decide) (Or.inl rfl) (by decide) (by decide) q160 (htX12_letters (18, .getfield 41, 3) (gx_m 10 rfl)) (fun v2 hv2 => ?_)
  refine gx_Jcv (pc := 21) (gx_hst (as := [gx_r 5 (some x2), gx_i 0, gx_i v2]) (b := gx_r 5 (some (0 :: x0)))) (gx_runV (as := [gx_r 5 (some x2), gx_i 0, gx_i v2]) (ci := 4) (ct_X4_addAll Y (0 :: x0) x2 0 v2) (by decide) (Or.inl rfl) rfl rfl rfl rfl q960 q941 q942 q104 q943 rfl dd_X4_addAll (by decide) (by decide) (Nat.le_of_ble_eq_true rfl) (htX12_letters (21, .invokevirtual 45, 3) (gx_m 11 rfl))) ?_
  refine gx_aload_n (pc := 24) (n := 1) (i := 1) rfl 1 rfl (htX12_letters (24, .aload_n 1, 1) (gx_m 12 rfl)) ?_
  refine gx_aload_n (pc := 25) (n := 0) (i := 0) rfl 0 rfl (htX12_letters (25, .aload_n 0, 1) (gx_m 13 rfl)) ?_
  refine gx_Jgs (pc := 26) (ci := 12) (kk := 0) (t2 := 5) (by decide) (by decide) rfl rfl rfl q453 (htX12_letters (26, .getfield 12, 3) (gx_m 14 rfl)) ?_
  refine gx_Jgi (pc := 29) (ci := 4) (kk := 1) (by decide) (Or.inl rfl) (by decide) (by decide) q160 (htX12_letters (29, .getfield 41, 3) (gx_m 15 rfl)) (fun v3 hv3 => ?_)
  refine gx_Jcv (pc := 32) (gx_hst (as := [gx_i v3]) (b := gx_r 6 (some x1))) (gx_runV (as := [gx_i v3]) (ci := 5) (ct_X5_add Y x1 v3) (by decide) (Or.inl rfl) rfl rfl rfl rfl q959 q642 q643 q105 q644 rfl dd_X5_add (by decide) (by decide) (Nat.le_of_ble_eq_true rfl) (htX12_letters (32, .invokevirtual 42, 3) (gx_m 16 rfl))) ?_
  exact gx_Jvret (pc := 35) rfl (fun _ => trivial) (fun _ _ => rfl) (htX12_letters (35, .return_, 1) (gx_m 17 rfl))
theorem ct_X1_step (Y : gx_Y) (x0 : gx_Nm) (x1 : gx_Nm) (x2 : Int32) (x3 : Int32) : gx_Ct Y yX1_step (ws_ yX1_step cX1_step 4 none) 2 122 [gx_r 2 (some x0), gx_r 6 (some x1), gx_i x2, gx_i x3] gx_Ov (f_X1_step x0 x1 x2 x3) := by
  refine gx_start (lv := [(0, gx_r 2 (some x0)), (1, gx_r 6 (some x1)), (2, gx_i x2), (3, gx_i x3)]) gx_Ov_r pn_X1 (Nat.le_of_ble_eq_true rfl) rfl ?_
  unfold f_X1_step
  refine gx_aload_n (pc := 0) (n := 1) (i := 1) rfl 1 rfl (htX1_step (0, .aload_n 1, 1) (gx_m 0 rfl)) ?_
  refine gx_iload_n (pc := 1) (n := 2) (i := 2) rfl 2 rfl (htX1_step (1, .iload_n 2, 1) (gx_m 1 rfl)) ?_
  refine gx_Jcv (pc := 2) (gx_hst (as := [gx_i x2]) (b := gx_r 6 (some x1))) (gx_runV (as := [gx_i x2]) (ci := 5) (ct_X5_add Y x1 x2) (by decide) (Or.inl rfl) rfl rfl rfl rfl q961 q642 q643 q105 q644 rfl dd_X5_add (by decide) (by decide) (Nat.le_of_ble_eq_true rfl) (htX1_step (2, .invokevirtual 127, 3) (gx_m 2 rfl))) ?_
  refine gx_aload_n (pc := 5) (n := 1) (i := 1) rfl 1 rfl (htX1_step (5, .aload_n 1, 1) (gx_m 3 rfl)) ?_
  refine gx_iload_n (pc := 6) (n := 3) (i := 3) rfl 3 rfl (htX1_step (6, .iload_n 3, 1) (gx_m 4 rfl)) ?_
  refine gx_Jcv (pc := 7) (gx_hst (as := [gx_i x3]) (b := gx_r 6 (some x1))) (gx_runV (as := [gx_i x3]) (ci := 5) (ct_X5_add Y x1 x3) (by decide) (Or.inl rfl) rfl rfl rfl rfl q961 q642 q643 q105 q644 rfl dd_X5_add (by decide) (by decide) (Nat.le_of_ble_eq_true rfl) (htX1_step (7, .invokevirtual 127, 3) (gx_m 5 rfl))) ?_
  exact gx_Jvret (pc := 10) rfl (fun _ => trivial) (fun _ _ => rfl) (htX1_step (10, .return_, 1) (gx_m 6 rfl))
theorem ct_X3_fits (Y : gx_Y) (x0 : gx_Nm) (x1 : Int32) (x2 : Int32) : gx_Ct Y yX3_fits (ws_ yX3_fits cX3_fits 3 (some .boolean)) 1 100 [gx_r 4 (some x0), gx_i x1, gx_i x2] gx_Oz (f_X3_fits x0 x1 x2) := by
  refine gx_start (lv := [(0, gx_r 4 (some x0)), (1, gx_i x1), (2, gx_i x2)]) gx_Oz_r pn_X3 (Nat.le_of_ble_eq_true rfl) rfl ?_
  unfold f_X3_fits
  refine gx_aload_n (pc := 0) (n := 0) (i := 0) rfl 0 rfl (htX3_fits (0, .aload_n 0, 1) (gx_m 0 rfl)) ?_
  refine gx_Jgi (pc := 1) (ci := 3) (kk := 3) (by decide) (Or.inl rfl) (by decide) (by decide) q196 (htX3_fits (1, .getfield 38, 3) (gx_m 1 rfl)) (fun v1 hv1 => ?_)
  refine gx_iload_n (pc := 4) (n := 1) (i := 1) rfl 1 rfl (htX3_fits (4, .iload_n 1, 1) (gx_m 2 rfl)) ?_
  refine gx_iadd (pc := 5) (htX3_fits (5, .iadd, 1) (gx_m 3 rfl)) ?_
  refine gx_sipush (pc := 6) (v := 1500) (by decide) (htX3_fits (6, .sipush 1500, 3) (gx_m 4 rfl)) ?_
  refine gx_Jjoin (pcJ := 28) (lvJ := fun (j3 : Int32) => []) (stJ := fun (j3 : Int32) => [gx_i j3]) (fun (j3 : Int32) => j3 &&& 1 = j3) (fun j3 hj3 => ?_) (fun kk1 hj1 => ?_)
  · exact gx_Jzret (pc := 28) rfl hj3 (fun _ => hj3) (fun _ _ => rfl) (htX3_fits (28, .ireturn, 1) (gx_m 15 rfl))
  · refine gx_icmp_gt (pc := 9) (tgt := 27) (by decide) (htX3_fits (9, .if_icmp .gt 18, 3) (gx_m 5 rfl)) (fun c2 => ?_) (fun c2 => ?_)
    · refine gx_iconst (pc := 27) (v := 0) (by decide) (htX3_fits (27, .iconst 0, 1) (gx_m 14 rfl)) ?_
      refine gx_Jw (lv := []) [] rfl ?_
      exact hj1 (0 : Int32) gx_b0
    · refine gx_aload_n (pc := 12) (n := 0) (i := 0) rfl 0 rfl (htX3_fits (12, .aload_n 0, 1) (gx_m 6 rfl)) ?_
      refine gx_Jgi (pc := 13) (ci := 3) (kk := 4) (by decide) (Or.inl rfl) (by decide) (by decide) q197 (htX3_fits (13, .getfield 30, 3) (gx_m 7 rfl)) (fun v2 hv2 => ?_)
      refine gx_iload_n (pc := 16) (n := 2) (i := 2) rfl 2 rfl (htX3_fits (16, .iload_n 2, 1) (gx_m 8 rfl)) ?_
      refine gx_iadd (pc := 17) (htX3_fits (17, .iadd, 1) (gx_m 9 rfl)) ?_
      refine gx_ldc (pc := 18) (v := 40000) rfl q1051 (htX3_fits (18, .ldc 44, 2) (gx_m 10 rfl)) ?_
      refine gx_icmp_gt (pc := 20) (tgt := 27) (by decide) (htX3_fits (20, .if_icmp .gt 7, 3) (gx_m 11 rfl)) (fun c3 => ?_) (fun c3 => ?_)
      · refine gx_iconst (pc := 27) (v := 0) (by decide) (htX3_fits (27, .iconst 0, 1) (gx_m 14 rfl)) ?_
        refine gx_Jw (lv := []) [] rfl ?_
        exact hj1 (0 : Int32) gx_b0
      · refine gx_iconst (pc := 23) (v := 1) (by decide) (htX3_fits (23, .iconst 1, 1) (gx_m 12 rfl)) ?_
        refine gx_goto (pc := 24) (tgt := 28) (by decide) (htX3_fits (24, .goto 4, 3) (gx_m 13 rfl)) ?_
        refine gx_Jw (lv := []) [] rfl ?_
        exact hj1 (1 : Int32) gx_b1
theorem ct_X3_take (Y : gx_Y) (x0 : gx_Nm) (x1 : gx_Nm) (x2 : Int32) (x3 : Int32) : gx_Ct Y yX3_take (ws_ yX3_take cX3_take 5 none) 2 122 [gx_r 4 (some x0), gx_r 6 (some x1), gx_i x2, gx_i x3] gx_Ov (f_X3_take x0 x1 x2 x3) := by
  refine gx_start (lv := [(0, gx_r 4 (some x0)), (1, gx_r 6 (some x1)), (2, gx_i x2), (3, gx_i x3)]) gx_Ov_r pn_X3 (Nat.le_of_ble_eq_true rfl) rfl ?_
  unfold f_X3_take
  refine gx_iconst (pc := 0) (v := 0) (by decide) (htX3_take (0, .iconst 0, 1) (gx_m 0 rfl)) ?_
  refine gx_istore (pc := 1) (i := 4) (lv' := [(4, gx_i 0), (0, gx_r 4 (some x0)), (1, gx_r 6 (some x1)), (2, gx_i x2), (3, gx_i x3)]) (by decide) rfl (htX3_take (1, .istore 4, 2) (gx_m 1 rfl)) ?_
  refine gx_Jjoin (pcJ := 54) (lvJ := fun (j_1 : Unit) => [(0, gx_r 4 (some x0))]) (stJ := fun (j_1 : Unit) => []) (fun _ => True) (fun j_1 _ => ?_) (fun kk1 hj1 => ?_)
  · refine gx_aload_n (pc := 54) (n := 0) (i := 0) rfl 0 rfl (htX3_take (54, .aload_n 0, 1) (gx_m 28 rfl)) ?_
    refine gx_Jgs (pc := 55) (ci := 3) (kk := 1) (t2 := 6) (by decide) (by decide) rfl rfl rfl q194 (htX3_take (55, .getfield 23, 3) (gx_m 29 rfl)) ?_
    refine gx_aload_n (pc := 58) (n := 0) (i := 0) rfl 0 rfl (htX3_take (58, .aload_n 0, 1) (gx_m 30 rfl)) ?_
    refine gx_Jgs (pc := 59) (ci := 3) (kk := 2) (t2 := 6) (by decide) (by decide) rfl rfl rfl q195 (htX3_take (59, .getfield 27, 3) (gx_m 31 rfl)) ?_
    refine gx_Jgi (pc := 62) (ci := 5) (kk := 1) (by decide) (Or.inl rfl) (by decide) (by decide) q182 (htX3_take (62, .getfield 45, 3) (gx_m 32 rfl)) (fun v6 hv6 => ?_)
    refine gx_Jcv (pc := 65) (gx_hst (as := [gx_i v6]) (b := gx_r 6 (some (1 :: x0)))) (gx_runV (as := [gx_i v6]) (ci := 5) (ct_X5_add Y (1 :: x0) v6) (by decide) (Or.inl rfl) rfl rfl rfl rfl q641 q642 q643 q105 q644 rfl dd_X5_add (by decide) (by decide) (Nat.le_of_ble_eq_true rfl) (htX3_take (65, .invokevirtual 41, 3) (gx_m 33 rfl))) ?_
    exact gx_Jvret (pc := 68) rfl (fun _ => trivial) (fun _ _ => rfl) (htX3_take (68, .return_, 1) (gx_m 34 rfl))
  · refine gx_Jw (lv := [(0, gx_r 4 (some x0)), (1, gx_r 6 (some x1)), (2, gx_i x2), (3, gx_i x3), (4, gx_i 0)]) [1, 2, 3, 4, 0] rfl ?_
    refine gx_Jlp (pc := 3) (lvh := fun (s1 : Int32) => [(0, gx_r 4 (some x0)), (1, gx_r 6 (some x1)), (2, gx_i x2), (3, gx_i x3), (4, gx_i s1)]) (fun s1 kl1 ha1 hb1 => ?_) _
    unfold lb_X3_take_1
    refine gx_iload (pc := 3) (i := 4) 4 rfl (htX3_take (3, .iload 4, 2) (gx_m 2 rfl)) ?_
    refine gx_aload_n (pc := 5) (n := 1) (i := 1) rfl 1 rfl (htX3_take (5, .aload_n 1, 1) (gx_m 3 rfl)) ?_
    refine gx_Jgi (pc := 6) (ci := 5) (kk := 1) (by decide) (Or.inl rfl) (by decide) (by decide) q182 (htX3_take (6, .getfield 45, 3) (gx_m 4 rfl)) (fun v2 hv2 => ?_)
    refine gx_icmp_ge (pc := 9) (tgt := 54) (by decide) (htX3_take (9, .if_icmp .ge 45, 3) (gx_m 5 rfl)) (fun c2 => ?_) (fun c2 => ?_)
    · refine gx_Jw (lv := [(0, gx_r 4 (some x0))]) [0] rfl ?_
      exact gx_Jout hb1 (hj1 () trivial)
    · refine gx_aload_n (pc := 12) (n := 0) (i := 0) rfl 0 rfl (htX3_take (12, .aload_n 0, 1) (gx_m 6 rfl)) ?_
      refine gx_Jgs (pc := 13) (ci := 3) (kk := 2) (t2 := 6) (by decide) (by decide) rfl rfl rfl q195 (htX3_take (13, .getfield 27, 3) (gx_m 7 rfl)) ?_
      refine gx_aload_n (pc := 16) (n := 1) (i := 1) rfl 1 rfl (htX3_take (16, .aload_n 1, 1) (gx_m 8 rfl)) ?_
      refine gx_iload (pc := 17) (i := 4) 4 rfl (htX3_take (17, .iload 4, 2) (gx_m 9 rfl)) ?_
      refine gx_Jci (pc := 19) (gx_hst (as := [gx_i s1]) (b := gx_r 6 (some x1))) (gx_runV (as := [gx_i s1]) (ci := 5) (ct_X5_get Y x1 s1) (by decide) (Or.inl rfl) rfl rfl rfl rfl q1061 q668 q669 q105 q670 rfl dd_X5_get (by decide) (by decide) (Nat.le_of_ble_eq_true rfl) (htX3_take (19, .invokevirtual 69, 3) (gx_m 10 rfl))) (fun v3 => ?_)
      refine gx_iload (pc := 22) (i := 4) 4 rfl (htX3_take (22, .iload 4, 2) (gx_m 11 rfl)) ?_
      refine gx_iload_n (pc := 24) (n := 2) (i := 2) rfl 2 rfl (htX3_take (24, .iload_n 2, 1) (gx_m 12 rfl)) ?_
      refine gx_Jnz (fun hnz => ?_)
      refine gx_iremr (pc := 25) hnz (htX3_take (25, .irem, 1) (gx_m 13 rfl)) ?_
      refine gx_iload_n (pc := 26) (n := 2) (i := 2) rfl 2 rfl (htX3_take (26, .iload_n 2, 1) (gx_m 14 rfl)) ?_
      refine gx_iconst (pc := 27) (v := 5) (by decide) (htX3_take (27, .iconst 5, 1) (gx_m 15 rfl)) ?_
      refine gx_Jjoin (pcJ := 36) (lvJ := fun (j4 : Int32) => [(0, gx_r 4 (some x0)), (1, gx_r 6 (some x1)), (2, gx_i x2), (3, gx_i x3), (4, gx_i s1)]) (stJ := fun (j4 : Int32) => [gx_i j4, gx_i (gx_irem s1 x2), gx_i v3, gx_r 6 (some (2 :: x0))]) (fun _ => True) (fun j4 hj4 => ?_) (fun kk3 hj3 => ?_)
      · refine gx_Jjoin (pcJ := 44) (lvJ := fun (j5 : Int32) => [(0, gx_r 4 (some x0)), (1, gx_r 6 (some x1)), (2, gx_i x2), (3, gx_i x3), (4, gx_i s1)]) (stJ := fun (j5 : Int32) => [gx_i j5, gx_i v3, gx_r 6 (some (2 :: x0))]) (fun _ => True) (fun j5 hj5 => ?_) (fun kk4 hj4 => ?_)
        · refine gx_iadd (pc := 44) (htX3_take (44, .iadd, 1) (gx_m 24 rfl)) ?_
          refine gx_Jcv (pc := 45) (gx_hst (as := [gx_i (v3 + j5)]) (b := gx_r 6 (some (2 :: x0)))) (gx_runV (as := [gx_i (v3 + j5)]) (ci := 5) (ct_X5_add Y (2 :: x0) (v3 + j5)) (by decide) (Or.inl rfl) rfl rfl rfl rfl q641 q642 q643 q105 q644 rfl dd_X5_add (by decide) (by decide) (Nat.le_of_ble_eq_true rfl) (htX3_take (45, .invokevirtual 41, 3) (gx_m 25 rfl))) ?_
          refine gx_iinc (pc := 48) (i := 4) (j := 4) (v := (s1 + 1)) (lv' := [(4, gx_i (s1 + 1)), (0, gx_r 4 (some x0)), (1, gx_r 6 (some x1)), (2, gx_i x2), (3, gx_i x3)]) rfl (gx_iv (by decide)) (by decide) rfl (htX3_take (48, .iinc 4 1, 3) (gx_m 26 rfl)) ?_
          refine gx_goto (pc := 51) (tgt := 3) (by decide) (htX3_take (51, .goto (-48), 3) (gx_m 27 rfl)) ?_
          refine gx_Jw (lv := [(0, gx_r 4 (some x0)), (1, gx_r 6 (some x1)), (2, gx_i x2), (3, gx_i x3), (4, gx_i (s1 + 1))]) [1, 2, 3, 4, 0] rfl ?_
          exact ha1 ((s1 + 1) : Int32)
        · refine gx_icmp_ge (pc := 36) (tgt := 43) (by decide) (htX3_take (36, .if_icmp .ge 7, 3) (gx_m 20 rfl)) (fun c5 => ?_) (fun c5 => ?_)
          · refine gx_iconst (pc := 43) (v := 0) (by decide) (htX3_take (43, .iconst 0, 1) (gx_m 23 rfl)) ?_
            exact hj4 (0 : Int32) trivial
          · refine gx_iload_n (pc := 39) (n := 3) (i := 3) rfl 3 rfl (htX3_take (39, .iload_n 3, 1) (gx_m 21 rfl)) ?_
            refine gx_goto (pc := 40) (tgt := 44) (by decide) (htX3_take (40, .goto 4, 3) (gx_m 22 rfl)) ?_
            exact hj4 (x3 : Int32) trivial
      · refine gx_icmp_ne (pc := 28) (tgt := 35) (by decide) (htX3_take (28, .if_icmp .ne 7, 3) (gx_m 16 rfl)) (fun c6 => ?_) (fun c6 => ?_)
        · refine gx_iconst (pc := 31) (v := 2) (by decide) (htX3_take (31, .iconst 2, 1) (gx_m 17 rfl)) ?_
          refine gx_goto (pc := 32) (tgt := 36) (by decide) (htX3_take (32, .goto 4, 3) (gx_m 18 rfl)) ?_
          exact hj3 (2 : Int32) trivial
        · refine gx_iconst (pc := 35) (v := 4) (by decide) (htX3_take (35, .iconst 4, 1) (gx_m 19 rfl)) ?_
          exact hj3 (4 : Int32) trivial
theorem ct_X3_add (Y : gx_Y) (x0 : gx_Nm) (x1 : gx_Nm) : gx_Ct Y yX3_add (ws_ yX3_add cX3_add 3 (some .int)) 3 146 [gx_r 4 (some x0), gx_r 13 (some x1)] gx_Oi (f_X3_add x0 x1) := by
  refine gx_start (lv := [(0, gx_r 4 (some x0)), (1, gx_r 13 (some x1))]) gx_Oi_r pn_X3 (Nat.le_of_ble_eq_true rfl) rfl ?_
  unfold f_X3_add
  refine gx_aload_n (pc := 0) (n := 0) (i := 0) rfl 0 rfl (htX3_add (0, .aload_n 0, 1) (gx_m 0 rfl)) ?_
  refine gx_Jgs (pc := 1) (ci := 3) (kk := 0) (t2 := 5) (by decide) (by decide) rfl rfl rfl q190 (htX3_add (1, .getfield 14, 3) (gx_m 1 rfl)) ?_
  refine gx_Jgi (pc := 4) (ci := 4) (kk := 1) (by decide) (Or.inl rfl) (by decide) (by decide) q161 (htX3_add (4, .getfield 48, 3) (gx_m 2 rfl)) (fun v1 hv1 => ?_)
  refine gx_istore_n (pc := 7) (n := 2) (i := 2) (lv' := [(2, gx_i v1), (0, gx_r 4 (some x0)), (1, gx_r 13 (some x1))]) rfl (by decide) rfl (htX3_add (7, .istore_n 2, 1) (gx_m 3 rfl)) ?_
  refine gx_aload_n (pc := 8) (n := 0) (i := 0) rfl 1 rfl (htX3_add (8, .aload_n 0, 1) (gx_m 4 rfl)) ?_
  refine gx_dup (pc := 9) rfl (htX3_add (9, .dup, 1) (gx_m 5 rfl)) ?_
  refine gx_Jgi (pc := 10) (ci := 3) (kk := 4) (by decide) (Or.inl rfl) (by decide) (by decide) q197 (htX3_add (10, .getfield 30, 3) (gx_m 6 rfl)) (fun v2 hv2 => ?_)
  refine gx_aload_n (pc := 13) (n := 1) (i := 1) rfl 2 rfl (htX3_add (13, .aload_n 1, 1) (gx_m 7 rfl)) ?_
  refine gx_Jgs (pc := 14) (ci := 12) (kk := 0) (t2 := 5) (by decide) (by decide) rfl rfl rfl q454 (htX3_add (14, .getfield 49, 3) (gx_m 8 rfl)) ?_
  refine gx_Jgi (pc := 17) (ci := 4) (kk := 1) (by decide) (Or.inl rfl) (by decide) (by decide) q161 (htX3_add (17, .getfield 48, 3) (gx_m 9 rfl)) (fun v3 hv3 => ?_)
  refine gx_iadd (pc := 20) (htX3_add (20, .iadd, 1) (gx_m 10 rfl)) ?_
  refine gx_Jpi (pc := 21) (ci := 3) (kk := 4) (by decide) (Or.inl rfl) (by decide) rfl rfl q197 (Or.inl rfl) (htX3_add (21, .putfield 30, 3) (gx_m 11 rfl)) ?_
  refine gx_aload_n (pc := 24) (n := 0) (i := 0) rfl 1 rfl (htX3_add (24, .aload_n 0, 1) (gx_m 12 rfl)) ?_
  refine gx_Jgs (pc := 25) (ci := 3) (kk := 0) (t2 := 5) (by decide) (by decide) rfl rfl rfl q190 (htX3_add (25, .getfield 14, 3) (gx_m 13 rfl)) ?_
  refine gx_aload_n (pc := 28) (n := 1) (i := 1) rfl 2 rfl (htX3_add (28, .aload_n 1, 1) (gx_m 14 rfl)) ?_
  refine gx_Jgs (pc := 29) (ci := 12) (kk := 0) (t2 := 5) (by decide) (by decide) rfl rfl rfl q454 (htX3_add (29, .getfield 49, 3) (gx_m 15 rfl)) ?_
  refine gx_iconst (pc := 32) (v := 0) (by decide) (htX3_add (32, .iconst 0, 1) (gx_m 16 rfl)) ?_
  refine gx_aload_n (pc := 33) (n := 1) (i := 1) rfl 2 rfl (htX3_add (33, .aload_n 1, 1) (gx_m 17 rfl)) ?_
  refine gx_Jgs (pc := 34) (ci := 12) (kk := 0) (t2 := 5) (by decide) (by decide) rfl rfl rfl q454 (htX3_add (34, .getfield 49, 3) (gx_m 18 rfl)) ?_
  refine gx_Jgi (pc := 37) (ci := 4) (kk := 1) (by decide) (Or.inl rfl) (by decide) (by decide) q161 (htX3_add (37, .getfield 48, 3) (gx_m 19 rfl)) (fun v4 hv4 => ?_)
  refine gx_Jcv (pc := 40) (gx_hst (as := [gx_r 5 (some (0 :: x1)), gx_i 0, gx_i v4]) (b := gx_r 5 (some (0 :: x0)))) (gx_runV (as := [gx_r 5 (some (0 :: x1)), gx_i 0, gx_i v4]) (ci := 4) (ct_X4_addAll Y (0 :: x0) (0 :: x1) 0 v4) (by decide) (Or.inl rfl) rfl rfl rfl rfl q1056 q941 q942 q104 q943 rfl dd_X4_addAll (by decide) (by decide) (Nat.le_of_ble_eq_true rfl) (htX3_add (40, .invokevirtual 52, 3) (gx_m 20 rfl))) ?_
  refine gx_aload_n (pc := 43) (n := 0) (i := 0) rfl 1 rfl (htX3_add (43, .aload_n 0, 1) (gx_m 21 rfl)) ?_
  refine gx_aload_n (pc := 44) (n := 1) (i := 1) rfl 2 rfl (htX3_add (44, .aload_n 1, 1) (gx_m 22 rfl)) ?_
  refine gx_Jgs (pc := 45) (ci := 12) (kk := 1) (t2 := 6) (by decide) (by decide) rfl rfl rfl q457 (htX3_add (45, .getfield 56, 3) (gx_m 23 rfl)) ?_
  refine gx_iconst (pc := 48) (v := 5) (by decide) (htX3_add (48, .iconst 5, 1) (gx_m 24 rfl)) ?_
  refine gx_iload_n (pc := 49) (n := 2) (i := 2) rfl 0 rfl (htX3_add (49, .iload_n 2, 1) (gx_m 25 rfl)) ?_
  refine gx_Jcv (pc := 50) (gx_hst (as := [gx_r 6 (some (1 :: x1)), gx_i 5, gx_i v1]) (b := gx_r 4 (some x0))) (gx_runV (as := [gx_r 6 (some (1 :: x1)), gx_i 5, gx_i v1]) (ci := 3) (ct_X3_take Y x0 (1 :: x1) 5 v1) (by decide) (Or.inl rfl) rfl rfl rfl rfl q1057 q1059 qs9 q103 q1060 rfl dd_X3_take (by decide) (by decide) (Nat.le_of_ble_eq_true rfl) (htX3_add (50, .invokevirtual 59, 3) (gx_m 26 rfl))) ?_
  refine gx_aload_n (pc := 53) (n := 0) (i := 0) rfl 1 rfl (htX3_add (53, .aload_n 0, 1) (gx_m 27 rfl)) ?_
  refine gx_aload_n (pc := 54) (n := 1) (i := 1) rfl 2 rfl (htX3_add (54, .aload_n 1, 1) (gx_m 28 rfl)) ?_
  refine gx_Jgs (pc := 55) (ci := 12) (kk := 2) (t2 := 6) (by decide) (by decide) rfl rfl rfl q460 (htX3_add (55, .getfield 63, 3) (gx_m 29 rfl)) ?_
  refine gx_bipush (pc := 58) (v := 6) (by decide) (htX3_add (58, .bipush 6, 2) (gx_m 30 rfl)) ?_
  refine gx_iload_n (pc := 60) (n := 2) (i := 2) rfl 0 rfl (htX3_add (60, .iload_n 2, 1) (gx_m 31 rfl)) ?_
  refine gx_Jcv (pc := 61) (gx_hst (as := [gx_r 6 (some (2 :: x1)), gx_i 6, gx_i v1]) (b := gx_r 4 (some x0))) (gx_runV (as := [gx_r 6 (some (2 :: x1)), gx_i 6, gx_i v1]) (ci := 3) (ct_X3_take Y x0 (2 :: x1) 6 v1) (by decide) (Or.inl rfl) rfl rfl rfl rfl q1057 q1059 qs9 q103 q1060 rfl dd_X3_take (by decide) (by decide) (Nat.le_of_ble_eq_true rfl) (htX3_add (61, .invokevirtual 59, 3) (gx_m 32 rfl))) ?_
  refine gx_aload_n (pc := 64) (n := 0) (i := 0) rfl 1 rfl (htX3_add (64, .aload_n 0, 1) (gx_m 33 rfl)) ?_
  refine gx_aload_n (pc := 65) (n := 1) (i := 1) rfl 2 rfl (htX3_add (65, .aload_n 1, 1) (gx_m 34 rfl)) ?_
  refine gx_Jgs (pc := 66) (ci := 12) (kk := 3) (t2 := 6) (by decide) (by decide) rfl rfl rfl q463 (htX3_add (66, .getfield 66, 3) (gx_m 35 rfl)) ?_
  refine gx_bipush (pc := 69) (v := 6) (by decide) (htX3_add (69, .bipush 6, 2) (gx_m 36 rfl)) ?_
  refine gx_iload_n (pc := 71) (n := 2) (i := 2) rfl 0 rfl (htX3_add (71, .iload_n 2, 1) (gx_m 37 rfl)) ?_
  refine gx_Jcv (pc := 72) (gx_hst (as := [gx_r 6 (some (3 :: x1)), gx_i 6, gx_i v1]) (b := gx_r 4 (some x0))) (gx_runV (as := [gx_r 6 (some (3 :: x1)), gx_i 6, gx_i v1]) (ci := 3) (ct_X3_take Y x0 (3 :: x1) 6 v1) (by decide) (Or.inl rfl) rfl rfl rfl rfl q1057 q1059 qs9 q103 q1060 rfl dd_X3_take (by decide) (by decide) (Nat.le_of_ble_eq_true rfl) (htX3_add (72, .invokevirtual 59, 3) (gx_m 38 rfl))) ?_
  refine gx_aload_n (pc := 75) (n := 0) (i := 0) rfl 1 rfl (htX3_add (75, .aload_n 0, 1) (gx_m 39 rfl)) ?_
  refine gx_dup (pc := 76) rfl (htX3_add (76, .dup, 1) (gx_m 40 rfl)) ?_
  refine gx_Jgi (pc := 77) (ci := 3) (kk := 3) (by decide) (Or.inl rfl) (by decide) (by decide) q196 (htX3_add (77, .getfield 38, 3) (gx_m 41 rfl)) (fun v5 hv5 => ?_)
  refine gx_iconst (pc := 80) (v := 1) (by decide) (htX3_add (80, .iconst 1, 1) (gx_m 42 rfl)) ?_
  refine gx_iadd (pc := 81) (htX3_add (81, .iadd, 1) (gx_m 43 rfl)) ?_
  refine gx_Jpi (pc := 82) (ci := 3) (kk := 3) (by decide) (Or.inl rfl) (by decide) rfl rfl q196 (Or.inl rfl) (htX3_add (82, .putfield 38, 3) (gx_m 44 rfl)) ?_
  refine gx_aload_n (pc := 85) (n := 0) (i := 0) rfl 1 rfl (htX3_add (85, .aload_n 0, 1) (gx_m 45 rfl)) ?_
  refine gx_Jgi (pc := 86) (ci := 3) (kk := 3) (by decide) (Or.inl rfl) (by decide) (by decide) q196 (htX3_add (86, .getfield 38, 3) (gx_m 46 rfl)) (fun v6 hv6 => ?_)
  refine gx_iconst (pc := 89) (v := 1) (by decide) (htX3_add (89, .iconst 1, 1) (gx_m 47 rfl)) ?_
  refine gx_isub (pc := 90) (htX3_add (90, .isub, 1) (gx_m 48 rfl)) ?_
  exact gx_Jiret (pc := 91) rfl (fun _ => trivial) (fun _ _ => rfl) (htX3_add (91, .ireturn, 1) (gx_m 49 rfl))
theorem ct_X6_add (Y : gx_Y) (x0 : gx_Nm) (x1 : Int32) (x2 : Int32) : gx_Ct Y yX6_add (ws_ yX6_add cX6_add 3 (some .int)) 2 122 [gx_r 7 (some x0), gx_i x1, gx_i x2] gx_Oi (f_X6_add x0 x1 x2) := by
  refine gx_start (lv := [(0, gx_r 7 (some x0)), (1, gx_i x1), (2, gx_i x2)]) gx_Oi_r pn_X6 (Nat.le_of_ble_eq_true rfl) rfl ?_
  unfold f_X6_add
  refine gx_aload_n (pc := 0) (n := 0) (i := 0) rfl 0 rfl (htX6_add (0, .aload_n 0, 1) (gx_m 0 rfl)) ?_
  refine gx_Jgs (pc := 1) (ci := 6) (kk := 0) (t2 := 6) (by decide) (by decide) rfl rfl rfl q217 (htX6_add (1, .getfield 12, 3) (gx_m 1 rfl)) ?_
  refine gx_iload_n (pc := 4) (n := 1) (i := 1) rfl 1 rfl (htX6_add (4, .iload_n 1, 1) (gx_m 2 rfl)) ?_
  refine gx_Jcv (pc := 5) (gx_hst (as := [gx_i x1]) (b := gx_r 6 (some (0 :: x0)))) (gx_runV (as := [gx_i x1]) (ci := 5) (ct_X5_add Y (0 :: x0) x1) (by decide) (Or.inl rfl) rfl rfl rfl rfl q1070 q642 q643 q105 q644 rfl dd_X5_add (by decide) (by decide) (Nat.le_of_ble_eq_true rfl) (htX6_add (5, .invokevirtual 24, 3) (gx_m 3 rfl))) ?_
  refine gx_aload_n (pc := 8) (n := 0) (i := 0) rfl 0 rfl (htX6_add (8, .aload_n 0, 1) (gx_m 4 rfl)) ?_
  refine gx_Jgs (pc := 9) (ci := 6) (kk := 1) (t2 := 6) (by decide) (by decide) rfl rfl rfl q220 (htX6_add (9, .getfield 18, 3) (gx_m 5 rfl)) ?_
  refine gx_iload_n (pc := 12) (n := 2) (i := 2) rfl 2 rfl (htX6_add (12, .iload_n 2, 1) (gx_m 6 rfl)) ?_
  refine gx_Jcv (pc := 13) (gx_hst (as := [gx_i x2]) (b := gx_r 6 (some (1 :: x0)))) (gx_runV (as := [gx_i x2]) (ci := 5) (ct_X5_add Y (1 :: x0) x2) (by decide) (Or.inl rfl) rfl rfl rfl rfl q1070 q642 q643 q105 q644 rfl dd_X5_add (by decide) (by decide) (Nat.le_of_ble_eq_true rfl) (htX6_add (13, .invokevirtual 24, 3) (gx_m 7 rfl))) ?_
  refine gx_aload_n (pc := 16) (n := 0) (i := 0) rfl 0 rfl (htX6_add (16, .aload_n 0, 1) (gx_m 8 rfl)) ?_
  refine gx_Jgs (pc := 17) (ci := 6) (kk := 0) (t2 := 6) (by decide) (by decide) rfl rfl rfl q217 (htX6_add (17, .getfield 12, 3) (gx_m 9 rfl)) ?_
  refine gx_Jgi (pc := 20) (ci := 5) (kk := 1) (by decide) (Or.inl rfl) (by decide) (by decide) q180 (htX6_add (20, .getfield 27, 3) (gx_m 10 rfl)) (fun v1 hv1 => ?_)
  refine gx_iconst (pc := 23) (v := 1) (by decide) (htX6_add (23, .iconst 1, 1) (gx_m 11 rfl)) ?_
  refine gx_isub (pc := 24) (htX6_add (24, .isub, 1) (gx_m 12 rfl)) ?_
  exact gx_Jiret (pc := 25) rfl (fun _ => trivial) (fun _ _ => rfl) (htX6_add (25, .ireturn, 1) (gx_m 13 rfl))
theorem ct_X15_last (Y : gx_Y) (x0 : gx_Nm) : gx_Ct Y yX15_last (ws_ yX15_last cX15_last 1 (some .int)) 1 100 [gx_r 16 (some x0)] gx_Oi (f_X15_last x0) := by
  refine gx_start (lv := [(0, gx_r 16 (some x0))]) gx_Oi_r pn_X15 (Nat.le_of_ble_eq_true rfl) rfl ?_
  unfold f_X15_last
  refine gx_aload_n (pc := 0) (n := 0) (i := 0) rfl 0 rfl (htX15_last (0, .aload_n 0, 1) (gx_m 0 rfl)) ?_
  refine gx_Jgi (pc := 1) (ci := 15) (kk := 1) (by decide) (Or.inl rfl) (by decide) (by decide) q506 (htX15_last (1, .getfield 22, 3) (gx_m 1 rfl)) (fun v1 hv1 => ?_)
  refine gx_aload_n (pc := 4) (n := 0) (i := 0) rfl 0 rfl (htX15_last (4, .aload_n 0, 1) (gx_m 2 rfl)) ?_
  refine gx_Jgs (pc := 5) (ci := 15) (kk := 4) (t2 := 6) (by decide) (by decide) rfl rfl rfl q513 (htX15_last (5, .getfield 12, 3) (gx_m 3 rfl)) ?_
  refine gx_Jgi (pc := 8) (ci := 5) (kk := 1) (by decide) (Or.inl rfl) (by decide) (by decide) q181 (htX15_last (8, .getfield 39, 3) (gx_m 4 rfl)) (fun v2 hv2 => ?_)
  refine gx_iadd (pc := 11) (htX15_last (11, .iadd, 1) (gx_m 5 rfl)) ?_
  exact gx_Jiret (pc := 12) rfl (fun _ => trivial) (fun _ _ => rfl) (htX15_last (12, .ireturn, 1) (gx_m 6 rfl))
theorem ct_X15_put (Y : gx_Y) (x0 : gx_Nm) (x1 : Int32) (x2 : Int32) : gx_Ct Y yX15_put (ws_ yX15_put cX15_put 3 none) 2 122 [gx_r 16 (some x0), gx_i x1, gx_i x2] gx_Ov (f_X15_put x0 x1 x2) := by
  refine gx_start (lv := [(0, gx_r 16 (some x0)), (1, gx_i x1), (2, gx_i x2)]) gx_Ov_r pn_X15 (Nat.le_of_ble_eq_true rfl) rfl ?_
  unfold f_X15_put
  refine gx_aload_n (pc := 0) (n := 0) (i := 0) rfl 0 rfl (htX15_put (0, .aload_n 0, 1) (gx_m 0 rfl)) ?_
  refine gx_Jgs (pc := 1) (ci := 15) (kk := 4) (t2 := 6) (by decide) (by decide) rfl rfl rfl q513 (htX15_put (1, .getfield 12, 3) (gx_m 1 rfl)) ?_
  refine gx_iload_n (pc := 4) (n := 1) (i := 1) rfl 1 rfl (htX15_put (4, .iload_n 1, 1) (gx_m 2 rfl)) ?_
  refine gx_aload_n (pc := 5) (n := 0) (i := 0) rfl 0 rfl (htX15_put (5, .aload_n 0, 1) (gx_m 3 rfl)) ?_
  refine gx_Jgi (pc := 6) (ci := 15) (kk := 1) (by decide) (Or.inl rfl) (by decide) (by decide) q506 (htX15_put (6, .getfield 22, 3) (gx_m 4 rfl)) (fun v1 hv1 => ?_)
  refine gx_isub (pc := 9) (htX15_put (9, .isub, 1) (gx_m 5 rfl)) ?_
  refine gx_iconst (pc := 10) (v := 1) (by decide) (htX15_put (10, .iconst 1, 1) (gx_m 6 rfl)) ?_
  refine gx_isub (pc := 11) (htX15_put (11, .isub, 1) (gx_m 7 rfl)) ?_
  refine gx_Jpi (pc := 12) (ci := 5) (kk := 1) (by decide) (Or.inl rfl) (by decide) rfl rfl q181 (Or.inl rfl) (htX15_put (12, .putfield 39, 3) (gx_m 8 rfl)) ?_
  refine gx_aload_n (pc := 15) (n := 0) (i := 0) rfl 0 rfl (htX15_put (15, .aload_n 0, 1) (gx_m 9 rfl)) ?_
  refine gx_Jgs (pc := 16) (ci := 15) (kk := 4) (t2 := 6) (by decide) (by decide) rfl rfl rfl q513 (htX15_put (16, .getfield 12, 3) (gx_m 10 rfl)) ?_
  refine gx_iload_n (pc := 19) (n := 2) (i := 2) rfl 2 rfl (htX15_put (19, .iload_n 2, 1) (gx_m 11 rfl)) ?_
  refine gx_Jcv (pc := 20) (gx_hst (as := [gx_i x2]) (b := gx_r 6 (some (4 :: x0)))) (gx_runV (as := [gx_i x2]) (ci := 5) (ct_X5_add Y (4 :: x0) x2) (by decide) (Or.inl rfl) rfl rfl rfl rfl q1083 q642 q643 q105 q644 rfl dd_X5_add (by decide) (by decide) (Nat.le_of_ble_eq_true rfl) (htX15_put (20, .invokevirtual 58, 3) (gx_m 12 rfl))) ?_
  exact gx_Jvret (pc := 23) rfl (fun _ => trivial) (fun _ _ => rfl) (htX15_put (23, .return_, 1) (gx_m 13 rfl))
theorem ct_X14_write (Y : gx_Y) (x0 : gx_Nm) (x1 : Int32) (x2 : Int32) (x3 : Int32) (x4 : Int32) : gx_Ct Y yX14_write (ws_ yX14_write cX14_write 5 none) 2 122 [gx_r 15 (some x0), gx_i x1, gx_i x2, gx_i x3, gx_i x4] gx_Ov (f_X14_write x0 x1 x2 x3 x4) := by
  refine gx_start (lv := [(0, gx_r 15 (some x0)), (1, gx_i x1), (2, gx_i x2), (3, gx_i x3), (4, gx_i x4)]) gx_Ov_r pn_X14 (Nat.le_of_ble_eq_true rfl) rfl ?_
  unfold f_X14_write
  refine gx_aload_n (pc := 0) (n := 0) (i := 0) rfl 0 rfl (htX14_write (0, .aload_n 0, 1) (gx_m 0 rfl)) ?_
  refine gx_Jgs (pc := 1) (ci := 14) (kk := 3) (t2 := 6) (by decide) (by decide) rfl rfl rfl q534 (htX14_write (1, .getfield 12, 3) (gx_m 1 rfl)) ?_
  refine gx_iload_n (pc := 4) (n := 1) (i := 1) rfl 1 rfl (htX14_write (4, .iload_n 1, 1) (gx_m 2 rfl)) ?_
  refine gx_Jcv (pc := 5) (gx_hst (as := [gx_i x1]) (b := gx_r 6 (some (3 :: x0)))) (gx_runV (as := [gx_i x1]) (ci := 5) (ct_X5_add Y (3 :: x0) x1) (by decide) (Or.inl rfl) rfl rfl rfl rfl q1092 q642 q643 q105 q644 rfl dd_X5_add (by decide) (by decide) (Nat.le_of_ble_eq_true rfl) (htX14_write (5, .invokevirtual 41, 3) (gx_m 3 rfl))) ?_
  refine gx_aload_n (pc := 8) (n := 0) (i := 0) rfl 0 rfl (htX14_write (8, .aload_n 0, 1) (gx_m 4 rfl)) ?_
  refine gx_Jgs (pc := 9) (ci := 14) (kk := 3) (t2 := 6) (by decide) (by decide) rfl rfl rfl q534 (htX14_write (9, .getfield 12, 3) (gx_m 5 rfl)) ?_
  refine gx_iload_n (pc := 12) (n := 2) (i := 2) rfl 2 rfl (htX14_write (12, .iload_n 2, 1) (gx_m 6 rfl)) ?_
  refine gx_Jcv (pc := 13) (gx_hst (as := [gx_i x2]) (b := gx_r 6 (some (3 :: x0)))) (gx_runV (as := [gx_i x2]) (ci := 5) (ct_X5_add Y (3 :: x0) x2) (by decide) (Or.inl rfl) rfl rfl rfl rfl q1092 q642 q643 q105 q644 rfl dd_X5_add (by decide) (by decide) (Nat.le_of_ble_eq_true rfl) (htX14_write (13, .invokevirtual 41, 3) (gx_m 7 rfl))) ?_
  refine gx_aload_n (pc := 16) (n := 0) (i := 0) rfl 0 rfl (htX14_write (16, .aload_n 0, 1) (gx_m 8 rfl)) ?_
  refine gx_Jgs (pc := 17) (ci := 14) (kk := 3) (t2 := 6) (by decide) (by decide) rfl rfl rfl q534 (htX14_write (17, .getfield 12, 3) (gx_m 9 rfl)) ?_
  refine gx_iload_n (pc := 20) (n := 3) (i := 3) rfl 3 rfl (htX14_write (20, .iload_n 3, 1) (gx_m 10 rfl)) ?_
  refine gx_Jcv (pc := 21) (gx_hst (as := [gx_i x3]) (b := gx_r 6 (some (3 :: x0)))) (gx_runV (as := [gx_i x3]) (ci := 5) (ct_X5_add Y (3 :: x0) x3) (by decide) (Or.inl rfl) rfl rfl rfl rfl q1092 q642 q643 q105 q644 rfl dd_X5_add (by decide) (by decide) (Nat.le_of_ble_eq_true rfl) (htX14_write (21, .invokevirtual 41, 3) (gx_m 11 rfl))) ?_
  refine gx_aload_n (pc := 24) (n := 0) (i := 0) rfl 0 rfl (htX14_write (24, .aload_n 0, 1) (gx_m 12 rfl)) ?_
  refine gx_Jgs (pc := 25) (ci := 14) (kk := 3) (t2 := 6) (by decide) (by decide) rfl rfl rfl q534 (htX14_write (25, .getfield 12, 3) (gx_m 13 rfl)) ?_
  refine gx_iload (pc := 28) (i := 4) 4 rfl (htX14_write (28, .iload 4, 2) (gx_m 14 rfl)) ?_
  refine gx_Jcv (pc := 30) (gx_hst (as := [gx_i x4]) (b := gx_r 6 (some (3 :: x0)))) (gx_runV (as := [gx_i x4]) (ci := 5) (ct_X5_add Y (3 :: x0) x4) (by decide) (Or.inl rfl) rfl rfl rfl rfl q1092 q642 q643 q105 q644 rfl dd_X5_add (by decide) (by decide) (Nat.le_of_ble_eq_true rfl) (htX14_write (30, .invokevirtual 41, 3) (gx_m 15 rfl))) ?_
  exact gx_Jvret (pc := 33) rfl (fun _ => trivial) (fun _ _ => rfl) (htX14_write (33, .return_, 1) (gx_m 16 rfl))
theorem ct_X14_writeEntry (Y : gx_Y) (x0 : gx_Nm) (x1 : Int32) (x2 : Int32) : gx_Ct Y yX14_writeEntry (ws_ yX14_writeEntry cX14_writeEntry 3 none) 3 146 [gx_r 15 (some x0), gx_i x1, gx_i x2] gx_Ov (f_X14_writeEntry x0 x1 x2) := by
  refine gx_start (lv := [(0, gx_r 15 (some x0)), (1, gx_i x1), (2, gx_i x2)]) gx_Ov_r pn_X14 (Nat.le_of_ble_eq_true rfl) rfl ?_
  unfold f_X14_writeEntry
  refine gx_aload_n (pc := 0) (n := 0) (i := 0) rfl 0 rfl (htX14_writeEntry (0, .aload_n 0, 1) (gx_m 0 rfl)) ?_
  refine gx_iconst (pc := 1) (v := 1) (by decide) (htX14_writeEntry (1, .iconst 1, 1) (gx_m 1 rfl)) ?_
  refine gx_iload_n (pc := 2) (n := 1) (i := 1) rfl 1 rfl (htX14_writeEntry (2, .iload_n 1, 1) (gx_m 2 rfl)) ?_
  refine gx_iload_n (pc := 3) (n := 2) (i := 2) rfl 2 rfl (htX14_writeEntry (3, .iload_n 2, 1) (gx_m 3 rfl)) ?_
  refine gx_iconst (pc := 4) (v := 0) (by decide) (htX14_writeEntry (4, .iconst 0, 1) (gx_m 4 rfl)) ?_
  refine gx_Jcv (pc := 5) (gx_hst (as := [gx_i 1, gx_i x1, gx_i x2, gx_i 0]) (b := gx_r 15 (some x0))) (gx_runV (as := [gx_i 1, gx_i x1, gx_i x2, gx_i 0]) (ci := 14) (ct_X14_write Y x0 1 x1 x2 0) (by decide) (Or.inl rfl) rfl rfl rfl rfl q1088 q1090 qs11 q114 q1091 rfl dd_X14_write (by decide) (by decide) (Nat.le_of_ble_eq_true rfl) (htX14_writeEntry (5, .invokevirtual 44, 3) (gx_m 5 rfl))) ?_
  exact gx_Jvret (pc := 8) rfl (fun _ => trivial) (fun _ _ => rfl) (htX14_writeEntry (8, .return_, 1) (gx_m 6 rfl))
theorem ct_X13_put (Y : gx_Y) (x0 : gx_Nm) (x1 : Int32) (x2 : Int32) : gx_Ct Y yX13_put (ws_ yX13_put cX13_put 3 none) 4 168 [gx_r 14 (some x0), gx_i x1, gx_i x2] gx_Ov (f_X13_put x0 x1 x2) := by
  refine gx_start (lv := [(0, gx_r 14 (some x0)), (1, gx_i x1), (2, gx_i x2)]) gx_Ov_r pn_X13 (Nat.le_of_ble_eq_true rfl) rfl ?_
  unfold f_X13_put
  refine gx_aload_n (pc := 0) (n := 0) (i := 0) rfl 0 rfl (htX13_put (0, .aload_n 0, 1) (gx_m 0 rfl)) ?_
  refine gx_Jgs (pc := 1) (ci := 13) (kk := 5) (t2 := 16) (by decide) (by decide) rfl rfl rfl q554 (htX13_put (1, .getfield 69, 3) (gx_m 1 rfl)) ?_
  refine gx_iload_n (pc := 4) (n := 1) (i := 1) rfl 1 rfl (htX13_put (4, .iload_n 1, 1) (gx_m 2 rfl)) ?_
  refine gx_iload_n (pc := 5) (n := 2) (i := 2) rfl 2 rfl (htX13_put (5, .iload_n 2, 1) (gx_m 3 rfl)) ?_
  refine gx_Jcv (pc := 6) (gx_hst (as := [gx_i x1, gx_i x2]) (b := gx_r 16 (some (5 :: x0)))) (gx_runV (as := [gx_i x1, gx_i x2]) (ci := 15) (ct_X15_put Y (5 :: x0) x1 x2) (by decide) (Or.inl rfl) rfl rfl rfl rfl q1079 q1080 q1081 q115 q1082 rfl dd_X15_put (by decide) (by decide) (Nat.le_of_ble_eq_true rfl) (htX13_put (6, .invokevirtual 257, 3) (gx_m 4 rfl))) ?_
  refine gx_aload_n (pc := 9) (n := 0) (i := 0) rfl 0 rfl (htX13_put (9, .aload_n 0, 1) (gx_m 5 rfl)) ?_
  refine gx_Jgs (pc := 10) (ci := 13) (kk := 2) (t2 := 15) (by decide) (by decide) rfl rfl rfl q548 (htX13_put (10, .getfield 62, 3) (gx_m 6 rfl)) ?_
  refine gx_iload_n (pc := 13) (n := 1) (i := 1) rfl 1 rfl (htX13_put (13, .iload_n 1, 1) (gx_m 7 rfl)) ?_
  refine gx_iload_n (pc := 14) (n := 2) (i := 2) rfl 2 rfl (htX13_put (14, .iload_n 2, 1) (gx_m 8 rfl)) ?_
  refine gx_Jcv (pc := 15) (gx_hst (as := [gx_i x1, gx_i x2]) (b := gx_r 15 (some (2 :: x0)))) (gx_runV (as := [gx_i x1, gx_i x2]) (ci := 14) (ct_X14_writeEntry Y (2 :: x0) x1 x2) (by decide) (Or.inl rfl) rfl rfl rfl rfl q1084 q1085 q1086 q114 q1087 rfl dd_X14_writeEntry (by decide) (by decide) (Nat.le_of_ble_eq_true rfl) (htX13_put (15, .invokevirtual 258, 3) (gx_m 9 rfl))) ?_
  exact gx_Jvret (pc := 18) rfl (fun _ => trivial) (fun _ _ => rfl) (htX13_put (18, .return_, 1) (gx_m 10 rfl))
theorem ct_X17_init (Y : gx_Y) (x0 : gx_Nm) : gx_Ct Y yX17_init (ws_ yX17_init cX17_init 1 none) 1 100 [gx_r 47 (some x0)] gx_Ov (f_X17_init x0) := by
  refine gx_start (lv := [(0, gx_r 47 (some x0))]) gx_Ov_r pn_X17 (Nat.le_of_ble_eq_true rfl) rfl ?_
  unfold f_X17_init
  refine gx_aload_n (pc := 0) (n := 0) (i := 0) rfl 0 rfl (htX17_init (0, .aload_n 0, 1) (gx_m 0 rfl)) ?_
  refine gx_Jobj (pc := 1) rfl q1114 q136 q137 (by decide) (Nat.le_of_ble_eq_true rfl) (htX17_init (1, .invokespecial 1, 3) (gx_m 1 rfl)) ?_
  refine gx_aload_n (pc := 4) (n := 0) (i := 0) rfl 0 rfl (htX17_init (4, .aload_n 0, 1) (gx_m 2 rfl)) ?_
  refine gx_iconst (pc := 5) (v := 4) (by decide) (htX17_init (5, .iconst 4, 1) (gx_m 3 rfl)) ?_
  refine gx_Jna (pc := 6) (t := 0) (by decide) rfl rfl q189 (htX17_init (6, .newarray .int, 2) (gx_m 4 rfl)) ?_
  refine gx_Jpr (pc := 8) (ci := 17) (kk := 10) (by decide) (Or.inr rfl) (by decide) rfl rfl (by decide) (fun _ h => (Option.some.inj h).symm) (Or.inr ⟨_, rfl⟩) q1134 (Or.inr ⟨rfl, rfl, rfl⟩) (htX17_init (8, .putfield 9, 3) (gx_m 5 rfl)) ?_
  exact gx_Jvret (pc := 11) rfl (fun _ => trivial) (fun _ _ => rfl) (htX17_init (11, .return_, 1) (gx_m 6 rfl))
theorem ct_X10_take (Y : gx_Y) (x0 : gx_Nm) : gx_Ct Y yX10_take (ws_ yX10_take cX10_take 1 (some (.object "CouncilStore$Message"))) 2 120 [gx_r 11 (some x0)] (gx_Or Y 18) (f_X10_take x0) := by
  refine gx_start (lv := [(0, gx_r 11 (some x0))]) gx_Or_r pn_X10 (Nat.le_of_ble_eq_true rfl) rfl ?_
  unfold f_X10_take
  refine gx_aload_n (pc := 0) (n := 0) (i := 0) rfl 0 rfl (htX10_take (0, .aload_n 0, 1) (gx_m 0 rfl)) ?_
  refine gx_Jgs (pc := 1) (ci := 10) (kk := 1) (t2 := 12) (by decide) (by decide) rfl rfl rfl q390 (htX10_take (1, .getfield 16, 3) (gx_m 1 rfl)) ?_
  refine gx_Jgi (pc := 4) (ci := 11) (kk := 1) (by decide) (Or.inl rfl) (by decide) (by decide) q379 (htX10_take (4, .getfield 19, 3) (gx_m 2 rfl)) (fun v1 hv1 => ?_)
  refine gx_Jjoin (pcJ := 27) (lvJ := fun (j4 : gx_Nm) => []) (stJ := fun (j4 : gx_Nm) => [gx_r 18 (some j4)]) (fun _ => True) (fun j4 hj4 => ?_) (fun kk1 hj1 => ?_)
  · exact gx_Jaret (pc := 27) rfl (Or.inl ⟨_, rfl⟩) (fun _ h => h) (fun _ _ => rfl) (htX10_take (27, .areturn, 1) (gx_m 11 rfl))
  · refine gx_if_ne (pc := 7) (y := 0) (tgt := 20) (by decide) (htX10_take (7, .ifCond .ne 13, 3) (gx_m 3 rfl)) (fun c2 => ?_) (fun c2 => ?_)
    · refine gx_Jpeek (fun S q h => by cases h; rfl) (fun v2 => ?_)
      refine gx_Jnw (pc := 10) (ci := 17) (by decide) rfl rfl rfl q1109 q1110 q127 (htX10_take (10, .new 34, 3) (gx_m 4 rfl)) ?_
      refine gx_dup (pc := 13) rfl (htX10_take (13, .dup, 1) (gx_m 5 rfl)) ?_
      refine gx_Jcv (pc := 14) (gx_hst (as := []) (b := gx_r 47 (some (v2 :: 90 :: x0)))) (gx_runIN (as := []) (ct_X17_init Y (v2 :: 90 :: x0)) rfl rfl rfl rfl q1111 q1112 q127 q1113 rfl dd_X17_init (by decide) (by decide) (Nat.le_of_ble_eq_true rfl) (htX10_take (14, .invokespecial 36, 3) (gx_m 6 rfl))) ?_
      refine gx_Jfu (ci := 17) (by decide) rfl rfl sn_17 ?_
      refine gx_goto (pc := 17) (tgt := 27) (by decide) (htX10_take (17, .goto 10, 3) (gx_m 7 rfl)) ?_
      refine gx_Jw (lv := []) [] rfl ?_
      exact hj1 ((v2 :: 90 :: x0) : gx_Nm) trivial
    · refine gx_aload_n (pc := 20) (n := 0) (i := 0) rfl 0 rfl (htX10_take (20, .aload_n 0, 1) (gx_m 8 rfl)) ?_
      refine gx_Jgs (pc := 21) (ci := 10) (kk := 1) (t2 := 12) (by decide) (by decide) rfl rfl rfl q390 (htX10_take (21, .getfield 16, 3) (gx_m 9 rfl)) ?_
      refine gx_Jcr (pc := 24) (t2 := 18) (gx_hst (as := []) (b := gx_r 12 (some (1 :: x0)))) (gx_runV (as := []) (ci := 11) (ct_X11_pop Y (1 :: x0)) (by decide) (Or.inl rfl) rfl rfl rfl rfl q679 q680 q681 q111 q682 rfl dd_X11_pop (by decide) (by decide) (Nat.le_of_ble_eq_true rfl) (htX10_take (24, .invokevirtual 23, 3) (gx_m 10 rfl))) (fun v3 => ?_)
      refine gx_Jw (lv := []) [] rfl ?_
      exact hj1 (v3 : gx_Nm) trivial
theorem ct_X13_message (Y : gx_Y) (x0 : gx_Nm) (x1 : Int32) (x2 : Int32) : gx_Ct Y yX13_message (ws_ yX13_message cX13_message 4 (some (.object "CouncilStore$Message"))) 3 140 [gx_r 14 (some x0), gx_i x1, gx_i x2] (gx_Or Y 18) (f_X13_message x0 x1 x2) := by
  refine gx_start (lv := [(0, gx_r 14 (some x0)), (1, gx_i x1), (2, gx_i x2)]) gx_Or_r pn_X13 (Nat.le_of_ble_eq_true rfl) rfl ?_
  unfold f_X13_message
  refine gx_aload_n (pc := 0) (n := 0) (i := 0) rfl 0 rfl (htX13_message (0, .aload_n 0, 1) (gx_m 0 rfl)) ?_
  refine gx_Jgs (pc := 1) (ci := 13) (kk := 0) (t2 := 3) (by decide) (by decide) rfl rfl rfl q546 (htX13_message (1, .getfield 43, 3) (gx_m 1 rfl)) ?_
  refine gx_Jgs (pc := 4) (ci := 2) (kk := 3) (t2 := 11) (by decide) (by decide) rfl rfl rfl q410 (htX13_message (4, .getfield 79, 3) (gx_m 2 rfl)) ?_
  refine gx_Jcr (pc := 7) (t2 := 18) (gx_hst (as := []) (b := gx_r 11 (some [3, 0, 1]))) (gx_runV (as := []) (ci := 10) (ct_X10_take Y [3, 0, 1]) (by decide) (Or.inl rfl) rfl rfl rfl rfl q1105 q1106 q1107 q110 q1108 rfl dd_X10_take (by decide) (by decide) (Nat.le_of_ble_eq_true rfl) (htX13_message (7, .invokevirtual 154, 3) (gx_m 3 rfl))) (fun v1 => ?_)
  refine gx_astore_n (pc := 10) (n := 3) (i := 3) (lv' := [(3, gx_r 18 (some v1)), (0, gx_r 14 (some x0)), (1, gx_i x1), (2, gx_i x2)]) rfl (by decide) rfl (htX13_message (10, .astore_n 3, 1) (gx_m 4 rfl)) ?_
  refine gx_aload_n (pc := 11) (n := 3) (i := 3) rfl 0 rfl (htX13_message (11, .aload_n 3, 1) (gx_m 5 rfl)) ?_
  refine gx_iload_n (pc := 12) (n := 1) (i := 1) rfl 2 rfl (htX13_message (12, .iload_n 1, 1) (gx_m 6 rfl)) ?_
  refine gx_Jpi (pc := 13) (ci := 17) (kk := 0) (by decide) (Or.inl rfl) (by decide) rfl rfl q1115 (Or.inl rfl) (htX13_message (13, .putfield 157, 3) (gx_m 7 rfl)) ?_
  refine gx_aload_n (pc := 16) (n := 3) (i := 3) rfl 0 rfl (htX13_message (16, .aload_n 3, 1) (gx_m 8 rfl)) ?_
  refine gx_aload_n (pc := 17) (n := 0) (i := 0) rfl 1 rfl (htX13_message (17, .aload_n 0, 1) (gx_m 9 rfl)) ?_
  refine gx_Jgi (pc := 18) (ci := 13) (kk := 1) (by decide) (Or.inl rfl) (by decide) (by decide) q547 (htX13_message (18, .getfield 47, 3) (gx_m 10 rfl)) (fun v2 hv2 => ?_)
  refine gx_Jpi (pc := 21) (ci := 17) (kk := 1) (by decide) (Or.inl rfl) (by decide) rfl rfl q1117 (Or.inl rfl) (htX13_message (21, .putfield 162, 3) (gx_m 11 rfl)) ?_
  refine gx_aload_n (pc := 24) (n := 3) (i := 3) rfl 0 rfl (htX13_message (24, .aload_n 3, 1) (gx_m 12 rfl)) ?_
  refine gx_iload_n (pc := 25) (n := 2) (i := 2) rfl 3 rfl (htX13_message (25, .iload_n 2, 1) (gx_m 13 rfl)) ?_
  refine gx_Jpi (pc := 26) (ci := 17) (kk := 2) (by decide) (Or.inl rfl) (by decide) rfl rfl q1119 (Or.inl rfl) (htX13_message (26, .putfield 165, 3) (gx_m 14 rfl)) ?_
  refine gx_aload_n (pc := 29) (n := 3) (i := 3) rfl 0 rfl (htX13_message (29, .aload_n 3, 1) (gx_m 15 rfl)) ?_
  refine gx_aload_n (pc := 30) (n := 0) (i := 0) rfl 1 rfl (htX13_message (30, .aload_n 0, 1) (gx_m 16 rfl)) ?_
  refine gx_Jgi (pc := 31) (ci := 13) (kk := 3) (by decide) (Or.inl rfl) (by decide) (by decide) q550 (htX13_message (31, .getfield 103, 3) (gx_m 17 rfl)) (fun v3 hv3 => ?_)
  refine gx_Jpi (pc := 34) (ci := 17) (kk := 3) (by decide) (Or.inl rfl) (by decide) rfl rfl q1121 (Or.inl rfl) (htX13_message (34, .putfield 168, 3) (gx_m 18 rfl)) ?_
  refine gx_aload_n (pc := 37) (n := 3) (i := 3) rfl 0 rfl (htX13_message (37, .aload_n 3, 1) (gx_m 19 rfl)) ?_
  refine gx_iconst (pc := 38) (v := 0) (by decide) (htX13_message (38, .iconst 0, 1) (gx_m 20 rfl)) ?_
  refine gx_Jpi (pc := 39) (ci := 17) (kk := 4) (by decide) (Or.inl rfl) (by decide) rfl rfl q1123 (Or.inl rfl) (htX13_message (39, .putfield 169, 3) (gx_m 21 rfl)) ?_
  refine gx_aload_n (pc := 42) (n := 3) (i := 3) rfl 0 rfl (htX13_message (42, .aload_n 3, 1) (gx_m 22 rfl)) ?_
  refine gx_iconst (pc := 43) (v := 0) (by decide) (htX13_message (43, .iconst 0, 1) (gx_m 23 rfl)) ?_
  refine gx_Jpi (pc := 44) (ci := 17) (kk := 5) (by decide) (Or.inl rfl) (by decide) rfl rfl q1125 (Or.inl rfl) (htX13_message (44, .putfield 172, 3) (gx_m 24 rfl)) ?_
  refine gx_aload_n (pc := 47) (n := 3) (i := 3) rfl 0 rfl (htX13_message (47, .aload_n 3, 1) (gx_m 25 rfl)) ?_
  refine gx_iconst (pc := 48) (v := 0) (by decide) (htX13_message (48, .iconst 0, 1) (gx_m 26 rfl)) ?_
  refine gx_Jpi (pc := 49) (ci := 17) (kk := 6) (by decide) (Or.inl rfl) (by decide) rfl rfl q1127 (Or.inl rfl) (htX13_message (49, .putfield 175, 3) (gx_m 27 rfl)) ?_
  refine gx_aload_n (pc := 52) (n := 3) (i := 3) rfl 0 rfl (htX13_message (52, .aload_n 3, 1) (gx_m 28 rfl)) ?_
  refine gx_iconst (pc := 53) (v := 0) (by decide) (htX13_message (53, .iconst 0, 1) (gx_m 29 rfl)) ?_
  refine gx_Jpi (pc := 54) (ci := 17) (kk := 7) (by decide) (Or.inl rfl) (by decide) rfl rfl q1129 (Or.inl rfl) (htX13_message (54, .putfield 176, 3) (gx_m 30 rfl)) ?_
  refine gx_aload_n (pc := 57) (n := 3) (i := 3) rfl 0 rfl (htX13_message (57, .aload_n 3, 1) (gx_m 31 rfl)) ?_
  refine gx_iconst (pc := 58) (v := 0) (by decide) (htX13_message (58, .iconst 0, 1) (gx_m 32 rfl)) ?_
  refine gx_Jpi (pc := 59) (ci := 17) (kk := 8) (by decide) (Or.inl rfl) (by decide) rfl rfl q1131 (Or.inl rfl) (htX13_message (59, .putfield 179, 3) (gx_m 33 rfl)) ?_
  refine gx_aload_n (pc := 62) (n := 3) (i := 3) rfl 0 rfl (htX13_message (62, .aload_n 3, 1) (gx_m 34 rfl)) ?_
  refine gx_iconst (pc := 63) (v := 0) (by decide) (htX13_message (63, .iconst 0, 1) (gx_m 35 rfl)) ?_
  refine gx_Jpi (pc := 64) (ci := 17) (kk := 9) (by decide) (Or.inl rfl) (by decide) rfl rfl q1132 (Or.inl rfl) (htX13_message (64, .putfield 180, 3) (gx_m 36 rfl)) ?_
  refine gx_aload_n (pc := 67) (n := 3) (i := 3) rfl 0 rfl (htX13_message (67, .aload_n 3, 1) (gx_m 37 rfl)) ?_
  exact gx_Jaret (pc := 68) rfl (Or.inl ⟨_, rfl⟩) (fun _ h => h) (fun _ _ => rfl) (htX13_message (68, .areturn, 1) (gx_m 38 rfl))
theorem ct_X14_unsynced (Y : gx_Y) (x0 : gx_Nm) : gx_Ct Y yX14_unsynced (ws_ yX14_unsynced cX14_unsynced 1 (some .int)) 1 100 [gx_r 15 (some x0)] gx_Oi (f_X14_unsynced x0) := by
  refine gx_start (lv := [(0, gx_r 15 (some x0))]) gx_Oi_r pn_X14 (Nat.le_of_ble_eq_true rfl) rfl ?_
  unfold f_X14_unsynced
  refine gx_aload_n (pc := 0) (n := 0) (i := 0) rfl 0 rfl (htX14_unsynced (0, .aload_n 0, 1) (gx_m 0 rfl)) ?_
  refine gx_Jgs (pc := 1) (ci := 14) (kk := 3) (t2 := 6) (by decide) (by decide) rfl rfl rfl q534 (htX14_unsynced (1, .getfield 12, 3) (gx_m 1 rfl)) ?_
  refine gx_Jgi (pc := 4) (ci := 5) (kk := 1) (by decide) (Or.inl rfl) (by decide) (by decide) q178 (htX14_unsynced (4, .getfield 38, 3) (gx_m 2 rfl)) (fun v1 hv1 => ?_)
  refine gx_iconst (pc := 7) (v := 4) (by decide) (htX14_unsynced (7, .iconst 4, 1) (gx_m 3 rfl)) ?_
  refine gx_idiv (pc := 8) (by decide) (htX14_unsynced (8, .idiv, 1) (gx_m 4 rfl)) ?_
  exact gx_Jiret (pc := 9) rfl (fun _ => trivial) (fun _ _ => rfl) (htX14_unsynced (9, .ireturn, 1) (gx_m 5 rfl))
theorem ct_X10_send (Y : gx_Y) (x0 : gx_Nm) (x1 : gx_Nm) : gx_Ct Y yX10_send (ws_ yX10_send cX10_send 2 (some .int)) 3 144 [gx_r 11 (some x0), gx_r 18 (some x1)] gx_Oi (f_X10_send x0 x1) := by
  refine gx_start (lv := [(0, gx_r 11 (some x0)), (1, gx_r 18 (some x1))]) gx_Oi_r pn_X10 (Nat.le_of_ble_eq_true rfl) rfl ?_
  unfold f_X10_send
  refine gx_aload_n (pc := 0) (n := 0) (i := 0) rfl 0 rfl (htX10_send (0, .aload_n 0, 1) (gx_m 0 rfl)) ?_
  refine gx_Jgs (pc := 1) (ci := 10) (kk := 0) (t2 := 12) (by decide) (by decide) rfl rfl rfl q388 (htX10_send (1, .getfield 10, 3) (gx_m 1 rfl)) ?_
  refine gx_Jgi (pc := 4) (ci := 11) (kk := 1) (by decide) (Or.inl rfl) (by decide) (by decide) q379 (htX10_send (4, .getfield 19, 3) (gx_m 2 rfl)) (fun v1 hv1 => ?_)
  refine gx_sipush (pc := 7) (v := 200) (by decide) (htX10_send (7, .sipush 200, 3) (gx_m 3 rfl)) ?_
  refine gx_icmp_ne (pc := 10) (tgt := 30) (by decide) (htX10_send (10, .if_icmp .ne 20, 3) (gx_m 4 rfl)) (fun c1 => ?_) (fun c1 => ?_)
  · refine gx_aload_n (pc := 13) (n := 0) (i := 0) rfl 0 rfl (htX10_send (13, .aload_n 0, 1) (gx_m 5 rfl)) ?_
    refine gx_dup (pc := 14) rfl (htX10_send (14, .dup, 1) (gx_m 6 rfl)) ?_
    refine gx_Jgi (pc := 15) (ci := 10) (kk := 2) (by decide) (Or.inl rfl) (by decide) (by decide) q391 (htX10_send (15, .getfield 31, 3) (gx_m 7 rfl)) (fun v2 hv2 => ?_)
    refine gx_iconst (pc := 18) (v := 1) (by decide) (htX10_send (18, .iconst 1, 1) (gx_m 8 rfl)) ?_
    refine gx_iadd (pc := 19) (htX10_send (19, .iadd, 1) (gx_m 9 rfl)) ?_
    refine gx_Jpi (pc := 20) (ci := 10) (kk := 2) (by decide) (Or.inl rfl) (by decide) rfl rfl q391 (Or.inl rfl) (htX10_send (20, .putfield 31, 3) (gx_m 10 rfl)) ?_
    refine gx_aload_n (pc := 23) (n := 0) (i := 0) rfl 0 rfl (htX10_send (23, .aload_n 0, 1) (gx_m 11 rfl)) ?_
    refine gx_aload_n (pc := 24) (n := 1) (i := 1) rfl 1 rfl (htX10_send (24, .aload_n 1, 1) (gx_m 12 rfl)) ?_
    refine gx_Jcv (pc := 25) (gx_hst (as := [gx_r 18 (some x1)]) (b := gx_r 11 (some x0))) (gx_runV (as := [gx_r 18 (some x1)]) (ci := 10) (ct_X10_leave Y x0 x1) (by decide) (Or.inl rfl) rfl rfl rfl rfl q1172 q844 q845 q110 q846 rfl dd_X10_leave (by decide) (by decide) (Nat.le_of_ble_eq_true rfl) (htX10_send (25, .invokevirtual 37, 3) (gx_m 13 rfl))) ?_
    refine gx_iconst (pc := 28) (v := 0) (by decide) (htX10_send (28, .iconst 0, 1) (gx_m 14 rfl)) ?_
    exact gx_Jiret (pc := 29) rfl (fun _ => trivial) (fun _ _ => rfl) (htX10_send (29, .ireturn, 1) (gx_m 15 rfl))
  · refine gx_aload_n (pc := 30) (n := 0) (i := 0) rfl 0 rfl (htX10_send (30, .aload_n 0, 1) (gx_m 16 rfl)) ?_
    refine gx_Jgs (pc := 31) (ci := 10) (kk := 0) (t2 := 12) (by decide) (by decide) rfl rfl rfl q388 (htX10_send (31, .getfield 10, 3) (gx_m 17 rfl)) ?_
    refine gx_aload_n (pc := 34) (n := 1) (i := 1) rfl 1 rfl (htX10_send (34, .aload_n 1, 1) (gx_m 18 rfl)) ?_
    refine gx_Jcv (pc := 35) (gx_hst (as := [gx_r 18 (some x1)]) (b := gx_r 12 (some (0 :: x0)))) (gx_runV (as := [gx_r 18 (some x1)]) (ci := 11) (ct_X11_add Y (0 :: x0) x1) (by decide) (Or.inl rfl) rfl rfl rfl rfl q683 q684 q685 q111 q686 rfl dd_X11_add (by decide) (by decide) (Nat.le_of_ble_eq_true rfl) (htX10_send (35, .invokevirtual 27, 3) (gx_m 19 rfl))) ?_
    refine gx_iconst (pc := 38) (v := 1) (by decide) (htX10_send (38, .iconst 1, 1) (gx_m 20 rfl)) ?_
    exact gx_Jiret (pc := 39) rfl (fun _ => trivial) (fun _ _ => rfl) (htX10_send (39, .ireturn, 1) (gx_m 21 rfl))
theorem ct_X13_send (Y : gx_Y) (x0 : gx_Nm) (x1 : gx_Nm) : gx_Ct Y yX13_send (ws_ yX13_send cX13_send 2 none) 4 165 [gx_r 14 (some x0), gx_r 18 (some x1)] gx_Ov (f_X13_send x0 x1) := by
  refine gx_start (lv := [(0, gx_r 14 (some x0)), (1, gx_r 18 (some x1))]) gx_Ov_r pn_X13 (Nat.le_of_ble_eq_true rfl) rfl ?_
  unfold f_X13_send
  refine gx_aload_n (pc := 0) (n := 0) (i := 0) rfl 0 rfl (htX13_send (0, .aload_n 0, 1) (gx_m 0 rfl)) ?_
  refine gx_Jgs (pc := 1) (ci := 13) (kk := 2) (t2 := 15) (by decide) (by decide) rfl rfl rfl q548 (htX13_send (1, .getfield 62, 3) (gx_m 1 rfl)) ?_
  refine gx_Jci (pc := 4) (gx_hst (as := []) (b := gx_r 15 (some (2 :: x0)))) (gx_runV (as := []) (ci := 14) (ct_X14_unsynced Y (2 :: x0)) (by decide) (Or.inl rfl) rfl rfl rfl rfl q1163 q1164 q1165 q114 q1166 rfl dd_X14_unsynced (by decide) (by decide) (Nat.le_of_ble_eq_true rfl) (htX13_send (4, .invokevirtual 183, 3) (gx_m 2 rfl))) (fun v1 => ?_)
  refine gx_Jjoin (pcJ := 33) (lvJ := fun (j_1 : Unit) => []) (stJ := fun (j_1 : Unit) => []) (fun _ => True) (fun j_1 hj_1 => ?_) (fun kk1 hj1 => ?_)
  · exact gx_Jvret (pc := 33) rfl (fun _ => trivial) (fun _ _ => rfl) (htX13_send (33, .return_, 1) (gx_m 15 rfl))
  · refine gx_if_le (pc := 7) (y := 0) (tgt := 21) (by decide) (htX13_send (7, .ifCond .le 14, 3) (gx_m 3 rfl)) (fun c2 => ?_) (fun c2 => ?_)
    · refine gx_aload_n (pc := 21) (n := 0) (i := 0) rfl 0 rfl (htX13_send (21, .aload_n 0, 1) (gx_m 9 rfl)) ?_
      refine gx_Jgs (pc := 22) (ci := 13) (kk := 0) (t2 := 3) (by decide) (by decide) rfl rfl rfl q546 (htX13_send (22, .getfield 43, 3) (gx_m 10 rfl)) ?_
      refine gx_Jgs (pc := 25) (ci := 2) (kk := 3) (t2 := 11) (by decide) (by decide) rfl rfl rfl q410 (htX13_send (25, .getfield 79, 3) (gx_m 11 rfl)) ?_
      refine gx_aload_n (pc := 28) (n := 1) (i := 1) rfl 1 rfl (htX13_send (28, .aload_n 1, 1) (gx_m 12 rfl)) ?_
      refine gx_Jci (pc := 29) (gx_hst (as := [gx_r 18 (some x1)]) (b := gx_r 11 (some [3, 0, 1]))) (gx_runV (as := [gx_r 18 (some x1)]) (ci := 10) (ct_X10_send Y [3, 0, 1] x1) (by decide) (Or.inl rfl) rfl rfl rfl rfl q1168 q1169 q1170 q110 q1171 rfl dd_X10_send (by decide) (by decide) (Nat.le_of_ble_eq_true rfl) (htX13_send (29, .invokevirtual 190, 3) (gx_m 13 rfl))) (fun v2 => ?_)
      refine gx_pop (pc := 32) rfl (htX13_send (32, .pop, 1) (gx_m 14 rfl)) ?_
      refine gx_Jw (lv := []) [] rfl ?_
      exact hj1 () trivial
    · refine gx_aload_n (pc := 10) (n := 0) (i := 0) rfl 0 rfl (htX13_send (10, .aload_n 0, 1) (gx_m 4 rfl)) ?_
      refine gx_Jgs (pc := 11) (ci := 13) (kk := 6) (t2 := 12) (by decide) (by decide) rfl rfl rfl q556 (htX13_send (11, .getfield 12, 3) (gx_m 5 rfl)) ?_
      refine gx_aload_n (pc := 14) (n := 1) (i := 1) rfl 1 rfl (htX13_send (14, .aload_n 1, 1) (gx_m 6 rfl)) ?_
      refine gx_Jcv (pc := 15) (gx_hst (as := [gx_r 18 (some x1)]) (b := gx_r 12 (some (6 :: x0)))) (gx_runV (as := [gx_r 18 (some x1)]) (ci := 11) (ct_X11_add Y (6 :: x0) x1) (by decide) (Or.inl rfl) rfl rfl rfl rfl q1167 q684 q685 q111 q686 rfl dd_X11_add (by decide) (by decide) (Nat.le_of_ble_eq_true rfl) (htX13_send (15, .invokevirtual 187, 3) (gx_m 7 rfl))) ?_
      refine gx_goto (pc := 18) (tgt := 33) (by decide) (htX13_send (18, .goto 15, 3) (gx_m 8 rfl)) ?_
      refine gx_Jw (lv := []) [] rfl ?_
      exact hj1 () trivial
theorem ct_X15_term (Y : gx_Y) (x0 : gx_Nm) (x1 : Int32) : gx_Ct Y yX15_term (ws_ yX15_term cX15_term 2 (some .int)) 2 121 [gx_r 16 (some x0), gx_i x1] gx_Oi (f_X15_term x0 x1) := by
  refine gx_start (lv := [(0, gx_r 16 (some x0)), (1, gx_i x1)]) gx_Oi_r pn_X15 (Nat.le_of_ble_eq_true rfl) rfl ?_
  unfold f_X15_term
  refine gx_iload_n (pc := 0) (n := 1) (i := 1) rfl 1 rfl (htX15_term (0, .iload_n 1, 1) (gx_m 0 rfl)) ?_
  refine gx_aload_n (pc := 1) (n := 0) (i := 0) rfl 0 rfl (htX15_term (1, .aload_n 0, 1) (gx_m 1 rfl)) ?_
  refine gx_Jgi (pc := 2) (ci := 15) (kk := 1) (by decide) (Or.inl rfl) (by decide) (by decide) q506 (htX15_term (2, .getfield 22, 3) (gx_m 2 rfl)) (fun v1 hv1 => ?_)
  refine gx_Jjoin (pcJ := 40) (lvJ := fun (j6 : Int32) => []) (stJ := fun (j6 : Int32) => [gx_i j6]) (fun _ => True) (fun j6 hj6 => ?_) (fun kk1 hj1 => ?_)
  · exact gx_Jiret (pc := 40) rfl (fun _ => trivial) (fun _ _ => rfl) (htX15_term (40, .ireturn, 1) (gx_m 20 rfl))
  · refine gx_icmp_ne (pc := 5) (tgt := 15) (by decide) (htX15_term (5, .if_icmp .ne 10, 3) (gx_m 3 rfl)) (fun c2 => ?_) (fun c2 => ?_)
    · refine gx_aload_n (pc := 8) (n := 0) (i := 0) rfl 0 rfl (htX15_term (8, .aload_n 0, 1) (gx_m 4 rfl)) ?_
      refine gx_Jgi (pc := 9) (ci := 15) (kk := 2) (by decide) (Or.inl rfl) (by decide) (by decide) q509 (htX15_term (9, .getfield 26, 3) (gx_m 5 rfl)) (fun v2 hv2 => ?_)
      refine gx_goto (pc := 12) (tgt := 40) (by decide) (htX15_term (12, .goto 28, 3) (gx_m 6 rfl)) ?_
      refine gx_Jw (lv := []) [] rfl ?_
      exact hj1 (v2 : Int32) trivial
    · refine gx_aload_n (pc := 15) (n := 0) (i := 0) rfl 0 rfl (htX15_term (15, .aload_n 0, 1) (gx_m 7 rfl)) ?_
      refine gx_Jgs (pc := 16) (ci := 15) (kk := 0) (t2 := 7) (by decide) (by decide) rfl rfl rfl q505 (htX15_term (16, .getfield 18, 3) (gx_m 8 rfl)) ?_
      refine gx_Jgs (pc := 19) (ci := 6) (kk := 0) (t2 := 6) (by decide) (by decide) rfl rfl rfl q218 (htX15_term (19, .getfield 42, 3) (gx_m 9 rfl)) ?_
      refine gx_aload_n (pc := 22) (n := 0) (i := 0) rfl 0 rfl (htX15_term (22, .aload_n 0, 1) (gx_m 10 rfl)) ?_
      refine gx_Jgs (pc := 23) (ci := 15) (kk := 4) (t2 := 6) (by decide) (by decide) rfl rfl rfl q513 (htX15_term (23, .getfield 12, 3) (gx_m 11 rfl)) ?_
      refine gx_iload_n (pc := 26) (n := 1) (i := 1) rfl 1 rfl (htX15_term (26, .iload_n 1, 1) (gx_m 12 rfl)) ?_
      refine gx_aload_n (pc := 27) (n := 0) (i := 0) rfl 0 rfl (htX15_term (27, .aload_n 0, 1) (gx_m 13 rfl)) ?_
      refine gx_Jgi (pc := 28) (ci := 15) (kk := 1) (by decide) (Or.inl rfl) (by decide) (by decide) q506 (htX15_term (28, .getfield 22, 3) (gx_m 14 rfl)) (fun v3 hv3 => ?_)
      refine gx_isub (pc := 31) (htX15_term (31, .isub, 1) (gx_m 15 rfl)) ?_
      refine gx_iconst (pc := 32) (v := 1) (by decide) (htX15_term (32, .iconst 1, 1) (gx_m 16 rfl)) ?_
      refine gx_isub (pc := 33) (htX15_term (33, .isub, 1) (gx_m 17 rfl)) ?_
      refine gx_Jci (pc := 34) (gx_hst (as := [gx_i ((x1 - v3) - 1)]) (b := gx_r 6 (some (4 :: x0)))) (gx_runV (as := [gx_i ((x1 - v3) - 1)]) (ci := 5) (ct_X5_get Y (4 :: x0) ((x1 - v3) - 1)) (by decide) (Or.inl rfl) rfl rfl rfl rfl q1177 q668 q669 q105 q670 rfl dd_X5_get (by decide) (by decide) (Nat.le_of_ble_eq_true rfl) (htX15_term (34, .invokevirtual 47, 3) (gx_m 18 rfl))) (fun v4 => ?_)
      refine gx_Jci (pc := 37) (gx_hst (as := [gx_i v4]) (b := gx_r 6 (some [0, 1, 0, 1]))) (gx_runV (as := [gx_i v4]) (ci := 5) (ct_X5_get Y [0, 1, 0, 1] v4) (by decide) (Or.inl rfl) rfl rfl rfl rfl q1177 q668 q669 q105 q670 rfl dd_X5_get (by decide) (by decide) (Nat.le_of_ble_eq_true rfl) (htX15_term (37, .invokevirtual 47, 3) (gx_m 19 rfl))) (fun v5 => ?_)
      refine gx_Jw (lv := []) [] rfl ?_
      exact hj1 (v5 : Int32) trivial
theorem ct_X15_entry (Y : gx_Y) (x0 : gx_Nm) (x1 : Int32) : gx_Ct Y yX15_entry (ws_ yX15_entry cX15_entry 2 (some .int)) 2 121 [gx_r 16 (some x0), gx_i x1] gx_Oi (f_X15_entry x0 x1) := by
  refine gx_start (lv := [(0, gx_r 16 (some x0)), (1, gx_i x1)]) gx_Oi_r pn_X15 (Nat.le_of_ble_eq_true rfl) rfl ?_
  unfold f_X15_entry
  refine gx_aload_n (pc := 0) (n := 0) (i := 0) rfl 0 rfl (htX15_entry (0, .aload_n 0, 1) (gx_m 0 rfl)) ?_
  refine gx_Jgs (pc := 1) (ci := 15) (kk := 4) (t2 := 6) (by decide) (by decide) rfl rfl rfl q513 (htX15_entry (1, .getfield 12, 3) (gx_m 1 rfl)) ?_
  refine gx_iload_n (pc := 4) (n := 1) (i := 1) rfl 1 rfl (htX15_entry (4, .iload_n 1, 1) (gx_m 2 rfl)) ?_
  refine gx_aload_n (pc := 5) (n := 0) (i := 0) rfl 0 rfl (htX15_entry (5, .aload_n 0, 1) (gx_m 3 rfl)) ?_
  refine gx_Jgi (pc := 6) (ci := 15) (kk := 1) (by decide) (Or.inl rfl) (by decide) (by decide) q506 (htX15_entry (6, .getfield 22, 3) (gx_m 4 rfl)) (fun v1 hv1 => ?_)
  refine gx_isub (pc := 9) (htX15_entry (9, .isub, 1) (gx_m 5 rfl)) ?_
  refine gx_iconst (pc := 10) (v := 1) (by decide) (htX15_entry (10, .iconst 1, 1) (gx_m 6 rfl)) ?_
  refine gx_isub (pc := 11) (htX15_entry (11, .isub, 1) (gx_m 7 rfl)) ?_
  refine gx_Jci (pc := 12) (gx_hst (as := [gx_i ((x1 - v1) - 1)]) (b := gx_r 6 (some (4 :: x0)))) (gx_runV (as := [gx_i ((x1 - v1) - 1)]) (ci := 5) (ct_X5_get Y (4 :: x0) ((x1 - v1) - 1)) (by decide) (Or.inl rfl) rfl rfl rfl rfl q1177 q668 q669 q105 q670 rfl dd_X5_get (by decide) (by decide) (Nat.le_of_ble_eq_true rfl) (htX15_entry (12, .invokevirtual 47, 3) (gx_m 8 rfl))) (fun v2 => ?_)
  exact gx_Jiret (pc := 15) rfl (fun _ => trivial) (fun _ _ => rfl) (htX15_entry (15, .ireturn, 1) (gx_m 9 rfl))
theorem ct_X13_tell (Y : gx_Y) (x0 : gx_Nm) (x1 : Int32) : gx_Ct Y yX13_tell (ws_ yX13_tell cX13_tell 5 none) 5 186 [gx_r 14 (some x0), gx_i x1] gx_Ov (f_X13_tell x0 x1) := by
  refine gx_start (lv := [(0, gx_r 14 (some x0)), (1, gx_i x1)]) gx_Ov_r pn_X13 (Nat.le_of_ble_eq_true rfl) rfl ?_
  unfold f_X13_tell
  refine gx_aload_n (pc := 0) (n := 0) (i := 0) rfl 0 rfl (htX13_tell (0, .aload_n 0, 1) (gx_m 0 rfl)) ?_
  refine gx_Jgs (pc := 1) (ci := 13) (kk := 17) (t2 := 100) (by decide) (by decide) rfl rfl rfl q572 (htX13_tell (1, .getfield 27, 3) (gx_m 1 rfl)) ?_
  refine gx_iload_n (pc := 4) (n := 1) (i := 1) rfl 1 rfl (htX13_tell (4, .iload_n 1, 1) (gx_m 2 rfl)) ?_
  refine gx_Jia (pc := 5) (htX13_tell (5, .iaload, 1) (gx_m 3 rfl)) (fun v1 => ?_)
  refine gx_istore_n (pc := 6) (n := 2) (i := 2) (lv' := [(2, gx_i v1), (0, gx_r 14 (some x0)), (1, gx_i x1)]) rfl (by decide) rfl (htX13_tell (6, .istore_n 2, 1) (gx_m 4 rfl)) ?_
  refine gx_iload_n (pc := 7) (n := 2) (i := 2) rfl 0 rfl (htX13_tell (7, .iload_n 2, 1) (gx_m 5 rfl)) ?_
  refine gx_aload_n (pc := 8) (n := 0) (i := 0) rfl 1 rfl (htX13_tell (8, .aload_n 0, 1) (gx_m 6 rfl)) ?_
  refine gx_Jgs (pc := 9) (ci := 13) (kk := 5) (t2 := 16) (by decide) (by decide) rfl rfl rfl q554 (htX13_tell (9, .getfield 69, 3) (gx_m 7 rfl)) ?_
  refine gx_Jgi (pc := 12) (ci := 15) (kk := 1) (by decide) (Or.inl rfl) (by decide) (by decide) q507 (htX13_tell (12, .getfield 128, 3) (gx_m 8 rfl)) (fun v2 hv2 => ?_)
  refine gx_icmp_gt (pc := 15) (tgt := 72) (by decide) (htX13_tell (15, .if_icmp .gt 57, 3) (gx_m 9 rfl)) (fun c1 => ?_) (fun c1 => ?_)
  · refine gx_aload_n (pc := 72) (n := 0) (i := 0) rfl 1 rfl (htX13_tell (72, .aload_n 0, 1) (gx_m 38 rfl)) ?_
    refine gx_iconst (pc := 73) (v := 3) (by decide) (htX13_tell (73, .iconst 3, 1) (gx_m 39 rfl)) ?_
    refine gx_iload_n (pc := 74) (n := 1) (i := 1) rfl 2 rfl (htX13_tell (74, .iload_n 1, 1) (gx_m 40 rfl)) ?_
    refine gx_Jcr (pc := 75) (t2 := 18) (gx_hst (as := [gx_i 3, gx_i x1]) (b := gx_r 14 (some x0))) (gx_runV (as := [gx_i 3, gx_i x1]) (ci := 13) (ct_X13_message Y x0 3 x1) (by decide) (Or.inl rfl) rfl rfl rfl rfl q1101 q1103 qs13 q113 q1104 rfl dd_X13_message (by decide) (by decide) (Nat.le_of_ble_eq_true rfl) (htX13_tell (75, .invokevirtual 214, 3) (gx_m 41 rfl))) (fun v3 => ?_)
    refine gx_astore_n (pc := 78) (n := 3) (i := 3) (lv' := [(3, gx_r 18 (some v3)), (2, gx_i v1), (0, gx_r 14 (some x0)), (1, gx_i x1)]) rfl (by decide) rfl (htX13_tell (78, .astore_n 3, 1) (gx_m 42 rfl)) ?_
    refine gx_aload_n (pc := 79) (n := 3) (i := 3) rfl 0 rfl (htX13_tell (79, .aload_n 3, 1) (gx_m 43 rfl)) ?_
    refine gx_iload_n (pc := 80) (n := 2) (i := 2) rfl 1 rfl (htX13_tell (80, .iload_n 2, 1) (gx_m 44 rfl)) ?_
    refine gx_iconst (pc := 81) (v := 1) (by decide) (htX13_tell (81, .iconst 1, 1) (gx_m 45 rfl)) ?_
    refine gx_isub (pc := 82) (htX13_tell (82, .isub, 1) (gx_m 46 rfl)) ?_
    refine gx_Jpi (pc := 83) (ci := 17) (kk := 4) (by decide) (Or.inl rfl) (by decide) rfl rfl q1123 (Or.inl rfl) (htX13_tell (83, .putfield 169, 3) (gx_m 47 rfl)) ?_
    refine gx_aload_n (pc := 86) (n := 3) (i := 3) rfl 0 rfl (htX13_tell (86, .aload_n 3, 1) (gx_m 48 rfl)) ?_
    refine gx_aload_n (pc := 87) (n := 0) (i := 0) rfl 2 rfl (htX13_tell (87, .aload_n 0, 1) (gx_m 49 rfl)) ?_
    refine gx_Jgs (pc := 88) (ci := 13) (kk := 5) (t2 := 16) (by decide) (by decide) rfl rfl rfl q554 (htX13_tell (88, .getfield 69, 3) (gx_m 50 rfl)) ?_
    refine gx_iload_n (pc := 91) (n := 2) (i := 2) rfl 1 rfl (htX13_tell (91, .iload_n 2, 1) (gx_m 51 rfl)) ?_
    refine gx_iconst (pc := 92) (v := 1) (by decide) (htX13_tell (92, .iconst 1, 1) (gx_m 52 rfl)) ?_
    refine gx_isub (pc := 93) (htX13_tell (93, .isub, 1) (gx_m 53 rfl)) ?_
    refine gx_Jci (pc := 94) (gx_hst (as := [gx_i (v1 - 1)]) (b := gx_r 16 (some (5 :: x0)))) (gx_runV (as := [gx_i (v1 - 1)]) (ci := 15) (ct_X15_term Y (5 :: x0) (v1 - 1)) (by decide) (Or.inl rfl) rfl rfl rfl rfl q1173 q1174 q1175 q115 q1176 rfl dd_X15_term (by decide) (by decide) (Nat.le_of_ble_eq_true rfl) (htX13_tell (94, .invokevirtual 267, 3) (gx_m 54 rfl))) (fun v4 => ?_)
    refine gx_Jpi (pc := 97) (ci := 17) (kk := 5) (by decide) (Or.inl rfl) (by decide) rfl rfl q1125 (Or.inl rfl) (htX13_tell (97, .putfield 172, 3) (gx_m 55 rfl)) ?_
    refine gx_aload_n (pc := 100) (n := 3) (i := 3) rfl 0 rfl (htX13_tell (100, .aload_n 3, 1) (gx_m 56 rfl)) ?_
    refine gx_aload_n (pc := 101) (n := 0) (i := 0) rfl 2 rfl (htX13_tell (101, .aload_n 0, 1) (gx_m 57 rfl)) ?_
    refine gx_Jgi (pc := 102) (ci := 13) (kk := 10) (by decide) (Or.inl rfl) (by decide) (by decide) q563 (htX13_tell (102, .getfield 131, 3) (gx_m 58 rfl)) (fun v5 hv5 => ?_)
    refine gx_Jpi (pc := 105) (ci := 17) (kk := 6) (by decide) (Or.inl rfl) (by decide) rfl rfl q1127 (Or.inl rfl) (htX13_tell (105, .putfield 175, 3) (gx_m 59 rfl)) ?_
    refine gx_aload_n (pc := 108) (n := 3) (i := 3) rfl 0 rfl (htX13_tell (108, .aload_n 3, 1) (gx_m 60 rfl)) ?_
    refine gx_aload_n (pc := 109) (n := 0) (i := 0) rfl 2 rfl (htX13_tell (109, .aload_n 0, 1) (gx_m 61 rfl)) ?_
    refine gx_Jgi (pc := 110) (ci := 13) (kk := 16) (by decide) (Or.inl rfl) (by decide) (by decide) q571 (htX13_tell (110, .getfield 233, 3) (gx_m 62 rfl)) (fun v6 hv6 => ?_)
    refine gx_Jpi (pc := 113) (ci := 17) (kk := 7) (by decide) (Or.inl rfl) (by decide) rfl rfl q1129 (Or.inl rfl) (htX13_tell (113, .putfield 176, 3) (gx_m 63 rfl)) ?_
    refine gx_iload_n (pc := 116) (n := 2) (i := 2) rfl 1 rfl (htX13_tell (116, .iload_n 2, 1) (gx_m 64 rfl)) ?_
    refine gx_istore (pc := 117) (i := 4) (lv' := [(4, gx_i v1), (3, gx_r 18 (some v3)), (2, gx_i v1), (0, gx_r 14 (some x0)), (1, gx_i x1)]) (by decide) rfl (htX13_tell (117, .istore 4, 2) (gx_m 65 rfl)) ?_
    refine gx_Jjoin (pcJ := 173) (lvJ := fun (j_2 : Unit) => [(0, gx_r 14 (some x0)), (3, gx_r 18 (some v3))]) (stJ := fun (j_2 : Unit) => []) (fun _ => True) (fun j_2 _ => ?_) (fun kk2 hj2 => ?_)
    · refine gx_aload_n (pc := 173) (n := 0) (i := 0) rfl 0 rfl (htX13_tell (173, .aload_n 0, 1) (gx_m 92 rfl)) ?_
      refine gx_aload_n (pc := 174) (n := 3) (i := 3) rfl 1 rfl (htX13_tell (174, .aload_n 3, 1) (gx_m 93 rfl)) ?_
      refine gx_Jcv (pc := 175) (gx_hst (as := [gx_r 18 (some v3)]) (b := gx_r 14 (some x0))) (gx_runV (as := [gx_r 18 (some v3)]) (ci := 13) (ct_X13_send Y x0 v3) (by decide) (Or.inl rfl) rfl rfl rfl rfl q1159 q1161 qs14 q113 q1162 rfl dd_X13_send (by decide) (by decide) (Nat.le_of_ble_eq_true rfl) (htX13_tell (175, .invokevirtual 221, 3) (gx_m 94 rfl))) ?_
      exact gx_Jvret (pc := 178) rfl (fun _ => trivial) (fun _ _ => rfl) (htX13_tell (178, .return_, 1) (gx_m 95 rfl))
    · refine gx_Jw (lv := [(0, gx_r 14 (some x0)), (3, gx_r 18 (some v3)), (4, gx_i v1)]) [3, 1, 0] rfl ?_
      refine gx_Jlp (pc := 119) (lvh := fun (s7 : Int32) => [(0, gx_r 14 (some x0)), (3, gx_r 18 (some v3)), (4, gx_i s7)]) (fun s7 kl2 ha2 hb2 => ?_) _
      unfold lb_X13_tell_1
      refine gx_iload (pc := 119) (i := 4) 2 rfl (htX13_tell (119, .iload 4, 2) (gx_m 66 rfl)) ?_
      refine gx_aload_n (pc := 121) (n := 0) (i := 0) rfl 0 rfl (htX13_tell (121, .aload_n 0, 1) (gx_m 67 rfl)) ?_
      refine gx_Jgs (pc := 122) (ci := 13) (kk := 5) (t2 := 16) (by decide) (by decide) rfl rfl rfl q554 (htX13_tell (122, .getfield 69, 3) (gx_m 68 rfl)) ?_
      refine gx_Jci (pc := 125) (gx_hst (as := []) (b := gx_r 16 (some (5 :: x0)))) (gx_runV (as := []) (ci := 15) (ct_X15_last Y (5 :: x0)) (by decide) (Or.inl rfl) rfl rfl rfl rfl q1071 q1072 q1073 q115 q1074 rfl dd_X15_last (by decide) (by decide) (Nat.le_of_ble_eq_true rfl) (htX13_tell (125, .invokevirtual 198, 3) (gx_m 69 rfl))) (fun v8 => ?_)
      refine gx_icmp_gt (pc := 128) (tgt := 173) (by decide) (htX13_tell (128, .if_icmp .gt 45, 3) (gx_m 70 rfl)) (fun c3 => ?_) (fun c3 => ?_)
      · refine gx_Jw (lv := [(0, gx_r 14 (some x0)), (3, gx_r 18 (some v3))]) [0, 1] rfl ?_
        exact gx_Jout hb2 (hj2 () trivial)
      · refine gx_aload_n (pc := 131) (n := 3) (i := 3) rfl 1 rfl (htX13_tell (131, .aload_n 3, 1) (gx_m 71 rfl)) ?_
        refine gx_Jgi (pc := 132) (ci := 17) (kk := 9) (by decide) (Or.inl rfl) (by decide) (by decide) q1132 (htX13_tell (132, .getfield 180, 3) (gx_m 72 rfl)) (fun v9 hv9 => ?_)
        refine gx_iconst (pc := 135) (v := 4) (by decide) (htX13_tell (135, .iconst 4, 1) (gx_m 73 rfl)) ?_
        refine gx_icmp_ge (pc := 136) (tgt := 173) (by decide) (htX13_tell (136, .if_icmp .ge 37, 3) (gx_m 74 rfl)) (fun c4 => ?_) (fun c4 => ?_)
        · refine gx_Jw (lv := [(0, gx_r 14 (some x0)), (3, gx_r 18 (some v3))]) [0, 1] rfl ?_
          exact gx_Jout hb2 (hj2 () trivial)
        · refine gx_aload_n (pc := 139) (n := 3) (i := 3) rfl 1 rfl (htX13_tell (139, .aload_n 3, 1) (gx_m 75 rfl)) ?_
          refine gx_Jgs (pc := 140) (ci := 17) (kk := 10) (t2 := 100) (by decide) (by decide) rfl rfl rfl q1135 (htX13_tell (140, .getfield 269, 3) (gx_m 76 rfl)) ?_
          refine gx_aload_n (pc := 143) (n := 3) (i := 3) rfl 1 rfl (htX13_tell (143, .aload_n 3, 1) (gx_m 77 rfl)) ?_
          refine gx_Jgi (pc := 144) (ci := 17) (kk := 9) (by decide) (Or.inl rfl) (by decide) (by decide) q1132 (htX13_tell (144, .getfield 180, 3) (gx_m 78 rfl)) (fun v10 hv10 => ?_)
          refine gx_aload_n (pc := 147) (n := 0) (i := 0) rfl 0 rfl (htX13_tell (147, .aload_n 0, 1) (gx_m 79 rfl)) ?_
          refine gx_Jgs (pc := 148) (ci := 13) (kk := 5) (t2 := 16) (by decide) (by decide) rfl rfl rfl q554 (htX13_tell (148, .getfield 69, 3) (gx_m 80 rfl)) ?_
          refine gx_iload (pc := 151) (i := 4) 2 rfl (htX13_tell (151, .iload 4, 2) (gx_m 81 rfl)) ?_
          refine gx_Jci (pc := 153) (gx_hst (as := [gx_i s7]) (b := gx_r 16 (some (5 :: x0)))) (gx_runV (as := [gx_i s7]) (ci := 15) (ct_X15_entry Y (5 :: x0) s7) (by decide) (Or.inl rfl) rfl rfl rfl rfl q1178 q1179 q1180 q115 q1181 rfl dd_X15_entry (by decide) (by decide) (Nat.le_of_ble_eq_true rfl) (htX13_tell (153, .invokevirtual 271, 3) (gx_m 82 rfl))) (fun v11 => ?_)
          refine gx_Jis (pc := 156) (htX13_tell (156, .iastore, 1) (gx_m 83 rfl)) ?_
          refine gx_aload_n (pc := 157) (n := 3) (i := 3) rfl 1 rfl (htX13_tell (157, .aload_n 3, 1) (gx_m 84 rfl)) ?_
          refine gx_dup (pc := 158) rfl (htX13_tell (158, .dup, 1) (gx_m 85 rfl)) ?_
          refine gx_Jgi (pc := 159) (ci := 17) (kk := 9) (by decide) (Or.inl rfl) (by decide) (by decide) q1132 (htX13_tell (159, .getfield 180, 3) (gx_m 86 rfl)) (fun v12 hv12 => ?_)
          refine gx_iconst (pc := 162) (v := 1) (by decide) (htX13_tell (162, .iconst 1, 1) (gx_m 87 rfl)) ?_
          refine gx_iadd (pc := 163) (htX13_tell (163, .iadd, 1) (gx_m 88 rfl)) ?_
          refine gx_Jpi (pc := 164) (ci := 17) (kk := 9) (by decide) (Or.inl rfl) (by decide) rfl rfl q1132 (Or.inl rfl) (htX13_tell (164, .putfield 180, 3) (gx_m 89 rfl)) ?_
          refine gx_iinc (pc := 167) (i := 4) (j := 2) (v := (s7 + 1)) (lv' := [(4, gx_i (s7 + 1)), (0, gx_r 14 (some x0)), (3, gx_r 18 (some v3))]) rfl (gx_iv (by decide)) (by decide) rfl (htX13_tell (167, .iinc 4 1, 3) (gx_m 90 rfl)) ?_
          refine gx_goto (pc := 170) (tgt := 119) (by decide) (htX13_tell (170, .goto (-51), 3) (gx_m 91 rfl)) ?_
          refine gx_Jw (lv := [(0, gx_r 14 (some x0)), (3, gx_r 18 (some v3)), (4, gx_i (s7 + 1))]) [1, 2, 0] rfl ?_
          exact ha2 ((s7 + 1) : Int32)
  · refine gx_aload_n (pc := 18) (n := 0) (i := 0) rfl 1 rfl (htX13_tell (18, .aload_n 0, 1) (gx_m 10 rfl)) ?_
    refine gx_iconst (pc := 19) (v := 5) (by decide) (htX13_tell (19, .iconst 5, 1) (gx_m 11 rfl)) ?_
    refine gx_iload_n (pc := 20) (n := 1) (i := 1) rfl 2 rfl (htX13_tell (20, .iload_n 1, 1) (gx_m 12 rfl)) ?_
    refine gx_Jcr (pc := 21) (t2 := 18) (gx_hst (as := [gx_i 5, gx_i x1]) (b := gx_r 14 (some x0))) (gx_runV (as := [gx_i 5, gx_i x1]) (ci := 13) (ct_X13_message Y x0 5 x1) (by decide) (Or.inl rfl) rfl rfl rfl rfl q1101 q1103 qs13 q113 q1104 rfl dd_X13_message (by decide) (by decide) (Nat.le_of_ble_eq_true rfl) (htX13_tell (21, .invokevirtual 214, 3) (gx_m 13 rfl))) (fun v13 => ?_)
    refine gx_astore_n (pc := 24) (n := 3) (i := 3) (lv' := [(3, gx_r 18 (some v13)), (2, gx_i v1), (0, gx_r 14 (some x0)), (1, gx_i x1)]) rfl (by decide) rfl (htX13_tell (24, .astore_n 3, 1) (gx_m 14 rfl)) ?_
    refine gx_aload_n (pc := 25) (n := 3) (i := 3) rfl 0 rfl (htX13_tell (25, .aload_n 3, 1) (gx_m 15 rfl)) ?_
    refine gx_aload_n (pc := 26) (n := 0) (i := 0) rfl 2 rfl (htX13_tell (26, .aload_n 0, 1) (gx_m 16 rfl)) ?_
    refine gx_Jgs (pc := 27) (ci := 13) (kk := 5) (t2 := 16) (by decide) (by decide) rfl rfl rfl q554 (htX13_tell (27, .getfield 69, 3) (gx_m 17 rfl)) ?_
    refine gx_Jgi (pc := 30) (ci := 15) (kk := 1) (by decide) (Or.inl rfl) (by decide) (by decide) q507 (htX13_tell (30, .getfield 128, 3) (gx_m 18 rfl)) (fun v14 hv14 => ?_)
    refine gx_Jpi (pc := 33) (ci := 17) (kk := 4) (by decide) (Or.inl rfl) (by decide) rfl rfl q1123 (Or.inl rfl) (htX13_tell (33, .putfield 169, 3) (gx_m 19 rfl)) ?_
    refine gx_aload_n (pc := 36) (n := 3) (i := 3) rfl 0 rfl (htX13_tell (36, .aload_n 3, 1) (gx_m 20 rfl)) ?_
    refine gx_aload_n (pc := 37) (n := 0) (i := 0) rfl 2 rfl (htX13_tell (37, .aload_n 0, 1) (gx_m 21 rfl)) ?_
    refine gx_Jgs (pc := 38) (ci := 13) (kk := 5) (t2 := 16) (by decide) (by decide) rfl rfl rfl q554 (htX13_tell (38, .getfield 69, 3) (gx_m 22 rfl)) ?_
    refine gx_Jgi (pc := 41) (ci := 15) (kk := 2) (by decide) (Or.inl rfl) (by decide) (by decide) q510 (htX13_tell (41, .getfield 264, 3) (gx_m 23 rfl)) (fun v15 hv15 => ?_)
    refine gx_Jpi (pc := 44) (ci := 17) (kk := 5) (by decide) (Or.inl rfl) (by decide) rfl rfl q1125 (Or.inl rfl) (htX13_tell (44, .putfield 172, 3) (gx_m 24 rfl)) ?_
    refine gx_aload_n (pc := 47) (n := 3) (i := 3) rfl 0 rfl (htX13_tell (47, .aload_n 3, 1) (gx_m 25 rfl)) ?_
    refine gx_aload_n (pc := 48) (n := 0) (i := 0) rfl 2 rfl (htX13_tell (48, .aload_n 0, 1) (gx_m 26 rfl)) ?_
    refine gx_Jgs (pc := 49) (ci := 13) (kk := 5) (t2 := 16) (by decide) (by decide) rfl rfl rfl q554 (htX13_tell (49, .getfield 69, 3) (gx_m 27 rfl)) ?_
    refine gx_Jgi (pc := 52) (ci := 15) (kk := 3) (by decide) (Or.inl rfl) (by decide) (by decide) q512 (htX13_tell (52, .getfield 134, 3) (gx_m 28 rfl)) (fun v16 hv16 => ?_)
    refine gx_Jpi (pc := 55) (ci := 17) (kk := 8) (by decide) (Or.inl rfl) (by decide) rfl rfl q1131 (Or.inl rfl) (htX13_tell (55, .putfield 179, 3) (gx_m 29 rfl)) ?_
    refine gx_aload_n (pc := 58) (n := 3) (i := 3) rfl 0 rfl (htX13_tell (58, .aload_n 3, 1) (gx_m 30 rfl)) ?_
    refine gx_aload_n (pc := 59) (n := 0) (i := 0) rfl 2 rfl (htX13_tell (59, .aload_n 0, 1) (gx_m 31 rfl)) ?_
    refine gx_Jgi (pc := 60) (ci := 13) (kk := 16) (by decide) (Or.inl rfl) (by decide) (by decide) q571 (htX13_tell (60, .getfield 233, 3) (gx_m 32 rfl)) (fun v17 hv17 => ?_)
    refine gx_Jpi (pc := 63) (ci := 17) (kk := 7) (by decide) (Or.inl rfl) (by decide) rfl rfl q1129 (Or.inl rfl) (htX13_tell (63, .putfield 176, 3) (gx_m 33 rfl)) ?_
    refine gx_aload_n (pc := 66) (n := 0) (i := 0) rfl 2 rfl (htX13_tell (66, .aload_n 0, 1) (gx_m 34 rfl)) ?_
    refine gx_aload_n (pc := 67) (n := 3) (i := 3) rfl 0 rfl (htX13_tell (67, .aload_n 3, 1) (gx_m 35 rfl)) ?_
    refine gx_Jcv (pc := 68) (gx_hst (as := [gx_r 18 (some v13)]) (b := gx_r 14 (some x0))) (gx_runV (as := [gx_r 18 (some v13)]) (ci := 13) (ct_X13_send Y x0 v13) (by decide) (Or.inl rfl) rfl rfl rfl rfl q1159 q1161 qs14 q113 q1162 rfl dd_X13_send (by decide) (by decide) (Nat.le_of_ble_eq_true rfl) (htX13_tell (68, .invokevirtual 221, 3) (gx_m 36 rfl))) ?_
    exact gx_Jvret (pc := 71) rfl (fun _ => trivial) (fun _ _ => rfl) (htX13_tell (71, .return_, 1) (gx_m 37 rfl))
theorem ct_X13_tellAll (Y : gx_Y) (x0 : gx_Nm) : gx_Ct Y yX13_tellAll (ws_ yX13_tellAll cX13_tellAll 2 none) 6 210 [gx_r 14 (some x0)] gx_Ov (f_X13_tellAll x0) := by
  refine gx_start (lv := [(0, gx_r 14 (some x0))]) gx_Ov_r pn_X13 (Nat.le_of_ble_eq_true rfl) rfl ?_
  unfold f_X13_tellAll
  refine gx_iconst (pc := 0) (v := 0) (by decide) (htX13_tellAll (0, .iconst 0, 1) (gx_m 0 rfl)) ?_
  refine gx_istore_n (pc := 1) (n := 1) (i := 1) (lv' := [(1, gx_i 0), (0, gx_r 14 (some x0))]) rfl (by decide) rfl (htX13_tellAll (1, .istore_n 1, 1) (gx_m 1 rfl)) ?_
  refine gx_Jjoin (pcJ := 32) (lvJ := fun (j_1 : Unit) => []) (stJ := fun (j_1 : Unit) => []) (fun _ => True) (fun j_1 _ => ?_) (fun kk1 hj1 => ?_)
  · exact gx_Jvret (pc := 32) rfl (fun _ => trivial) (fun _ _ => rfl) (htX13_tellAll (32, .return_, 1) (gx_m 16 rfl))
  · refine gx_Jw (lv := [(0, gx_r 14 (some x0)), (1, gx_i 0)]) [1, 0] rfl ?_
    refine gx_Jlp (pc := 2) (lvh := fun (s1 : Int32) => [(0, gx_r 14 (some x0)), (1, gx_i s1)]) (fun s1 kl1 ha1 hb1 => ?_) _
    unfold lb_X13_tellAll_1
    refine gx_iload_n (pc := 2) (n := 1) (i := 1) rfl 1 rfl (htX13_tellAll (2, .iload_n 1, 1) (gx_m 2 rfl)) ?_
    refine gx_aload_n (pc := 3) (n := 0) (i := 0) rfl 0 rfl (htX13_tellAll (3, .aload_n 0, 1) (gx_m 3 rfl)) ?_
    refine gx_Jgs (pc := 4) (ci := 13) (kk := 0) (t2 := 3) (by decide) (by decide) rfl rfl rfl q546 (htX13_tellAll (4, .getfield 43, 3) (gx_m 4 rfl)) ?_
    refine gx_Jgi (pc := 7) (ci := 2) (kk := 4) (by decide) (Or.inl rfl) (by decide) (by decide) q414 (htX13_tellAll (7, .getfield 211, 3) (gx_m 5 rfl)) (fun v2 hv2 => ?_)
    refine gx_icmp_ge (pc := 10) (tgt := 32) (by decide) (htX13_tellAll (10, .if_icmp .ge 22, 3) (gx_m 6 rfl)) (fun c2 => ?_) (fun c2 => ?_)
    · refine gx_Jw (lv := []) [] rfl ?_
      exact gx_Jout hb1 (hj1 () trivial)
    · refine gx_iload_n (pc := 13) (n := 1) (i := 1) rfl 1 rfl (htX13_tellAll (13, .iload_n 1, 1) (gx_m 7 rfl)) ?_
      refine gx_aload_n (pc := 14) (n := 0) (i := 0) rfl 0 rfl (htX13_tellAll (14, .aload_n 0, 1) (gx_m 8 rfl)) ?_
      refine gx_Jgi (pc := 15) (ci := 13) (kk := 1) (by decide) (Or.inl rfl) (by decide) (by decide) q547 (htX13_tellAll (15, .getfield 47, 3) (gx_m 9 rfl)) (fun v3 hv3 => ?_)
      refine gx_Jjoin (pcJ := 26) (lvJ := fun (j_3 : Unit) => [(0, gx_r 14 (some x0)), (1, gx_i s1)]) (stJ := fun (j_3 : Unit) => []) (fun _ => True) (fun j_3 hj_3 => ?_) (fun kk3 hj3 => ?_)
      · refine gx_iinc (pc := 26) (i := 1) (j := 1) (v := (s1 + 1)) (lv' := [(1, gx_i (s1 + 1)), (0, gx_r 14 (some x0))]) rfl (gx_iv (by decide)) (by decide) rfl (htX13_tellAll (26, .iinc 1 1, 3) (gx_m 14 rfl)) ?_
        refine gx_goto (pc := 29) (tgt := 2) (by decide) (htX13_tellAll (29, .goto (-27), 3) (gx_m 15 rfl)) ?_
        refine gx_Jw (lv := [(0, gx_r 14 (some x0)), (1, gx_i (s1 + 1))]) [1, 0] rfl ?_
        exact ha1 ((s1 + 1) : Int32)
      · refine gx_icmp_eq (pc := 18) (tgt := 26) (by decide) (htX13_tellAll (18, .if_icmp .eq 8, 3) (gx_m 10 rfl)) (fun c4 => ?_) (fun c4 => ?_)
        · exact hj3 () trivial
        · refine gx_aload_n (pc := 21) (n := 0) (i := 0) rfl 0 rfl (htX13_tellAll (21, .aload_n 0, 1) (gx_m 11 rfl)) ?_
          refine gx_iload_n (pc := 22) (n := 1) (i := 1) rfl 1 rfl (htX13_tellAll (22, .iload_n 1, 1) (gx_m 12 rfl)) ?_
          refine gx_Jcv (pc := 23) (gx_hst (as := [gx_i s1]) (b := gx_r 14 (some x0))) (gx_runV (as := [gx_i s1]) (ci := 13) (ct_X13_tell Y x0 s1) (by decide) (Or.inl rfl) rfl rfl rfl rfl q1097 q1099 qs12 q113 q1100 rfl dd_X13_tell (by decide) (by decide) (Nat.le_of_ble_eq_true rfl) (htX13_tellAll (23, .invokevirtual 261, 3) (gx_m 13 rfl))) ?_
          exact hj3 () trivial
theorem ct_X13_add (Y : gx_Y) (x0 : gx_Nm) (x1 : Int32) : gx_Ct Y yX13_add (ws_ yX13_add cX13_add 4 (some .int)) 7 231 [gx_r 14 (some x0), gx_i x1] gx_Oi (f_X13_add x0 x1) := by
  refine gx_start (lv := [(0, gx_r 14 (some x0)), (1, gx_i x1)]) gx_Oi_r pn_X13 (Nat.le_of_ble_eq_true rfl) rfl ?_
  unfold f_X13_add
  refine gx_aload_n (pc := 0) (n := 0) (i := 0) rfl 0 rfl (htX13_add (0, .aload_n 0, 1) (gx_m 0 rfl)) ?_
  refine gx_Jgs (pc := 1) (ci := 13) (kk := 0) (t2 := 3) (by decide) (by decide) rfl rfl rfl q546 (htX13_add (1, .getfield 43, 3) (gx_m 1 rfl)) ?_
  refine gx_Jgs (pc := 4) (ci := 2) (kk := 1) (t2 := 7) (by decide) (by decide) rfl rfl rfl q405 (htX13_add (4, .getfield 53, 3) (gx_m 2 rfl)) ?_
  refine gx_aload_n (pc := 7) (n := 0) (i := 0) rfl 0 rfl (htX13_add (7, .aload_n 0, 1) (gx_m 3 rfl)) ?_
  refine gx_Jgi (pc := 8) (ci := 13) (kk := 3) (by decide) (Or.inl rfl) (by decide) (by decide) q550 (htX13_add (8, .getfield 103, 3) (gx_m 4 rfl)) (fun v1 hv1 => ?_)
  refine gx_iload_n (pc := 11) (n := 1) (i := 1) rfl 1 rfl (htX13_add (11, .iload_n 1, 1) (gx_m 5 rfl)) ?_
  refine gx_Jci (pc := 12) (gx_hst (as := [gx_i v1, gx_i x1]) (b := gx_r 7 (some [1, 0, 1]))) (gx_runV (as := [gx_i v1, gx_i x1]) (ci := 6) (ct_X6_add Y [1, 0, 1] v1 x1) (by decide) (Or.inl rfl) rfl rfl rfl rfl q1066 q1067 q1068 q106 q1069 rfl dd_X6_add (by decide) (by decide) (Nat.le_of_ble_eq_true rfl) (htX13_add (12, .invokevirtual 246, 3) (gx_m 6 rfl))) (fun v2 => ?_)
  refine gx_istore_n (pc := 15) (n := 2) (i := 2) (lv' := [(2, gx_i v2), (0, gx_r 14 (some x0)), (1, gx_i x1)]) rfl (by decide) rfl (htX13_add (15, .istore_n 2, 1) (gx_m 7 rfl)) ?_
  refine gx_aload_n (pc := 16) (n := 0) (i := 0) rfl 1 rfl (htX13_add (16, .aload_n 0, 1) (gx_m 8 rfl)) ?_
  refine gx_Jgs (pc := 17) (ci := 13) (kk := 5) (t2 := 16) (by decide) (by decide) rfl rfl rfl q554 (htX13_add (17, .getfield 69, 3) (gx_m 9 rfl)) ?_
  refine gx_Jci (pc := 20) (gx_hst (as := []) (b := gx_r 16 (some (5 :: x0)))) (gx_runV (as := []) (ci := 15) (ct_X15_last Y (5 :: x0)) (by decide) (Or.inl rfl) rfl rfl rfl rfl q1071 q1072 q1073 q115 q1074 rfl dd_X15_last (by decide) (by decide) (Nat.le_of_ble_eq_true rfl) (htX13_add (20, .invokevirtual 198, 3) (gx_m 10 rfl))) (fun v3 => ?_)
  refine gx_iconst (pc := 23) (v := 1) (by decide) (htX13_add (23, .iconst 1, 1) (gx_m 11 rfl)) ?_
  refine gx_iadd (pc := 24) (htX13_add (24, .iadd, 1) (gx_m 12 rfl)) ?_
  refine gx_istore_n (pc := 25) (n := 3) (i := 3) (lv' := [(3, gx_i (v3 + 1)), (2, gx_i v2), (0, gx_r 14 (some x0)), (1, gx_i x1)]) rfl (by decide) rfl (htX13_add (25, .istore_n 3, 1) (gx_m 13 rfl)) ?_
  refine gx_aload_n (pc := 26) (n := 0) (i := 0) rfl 2 rfl (htX13_add (26, .aload_n 0, 1) (gx_m 14 rfl)) ?_
  refine gx_iload_n (pc := 27) (n := 3) (i := 3) rfl 0 rfl (htX13_add (27, .iload_n 3, 1) (gx_m 15 rfl)) ?_
  refine gx_iload_n (pc := 28) (n := 2) (i := 2) rfl 1 rfl (htX13_add (28, .iload_n 2, 1) (gx_m 16 rfl)) ?_
  refine gx_Jcv (pc := 29) (gx_hst (as := [gx_i (v3 + 1), gx_i v2]) (b := gx_r 14 (some x0))) (gx_runV (as := [gx_i (v3 + 1), gx_i v2]) (ci := 13) (ct_X13_put Y x0 (v3 + 1) v2) (by decide) (Or.inl rfl) rfl rfl rfl rfl q1075 q1077 qs10 q113 q1078 rfl dd_X13_put (by decide) (by decide) (Nat.le_of_ble_eq_true rfl) (htX13_add (29, .invokevirtual 251, 3) (gx_m 17 rfl))) ?_
  refine gx_aload_n (pc := 32) (n := 0) (i := 0) rfl 2 rfl (htX13_add (32, .aload_n 0, 1) (gx_m 18 rfl)) ?_
  refine gx_Jcv (pc := 33) (gx_hst (as := []) (b := gx_r 14 (some x0))) (gx_runV (as := []) (ci := 13) (ct_X13_tellAll Y x0) (by decide) (Or.inl rfl) rfl rfl rfl rfl q1093 q1094 q1095 q113 q1096 rfl dd_X13_tellAll (by decide) (by decide) (Nat.le_of_ble_eq_true rfl) (htX13_add (33, .invokevirtual 254, 3) (gx_m 19 rfl))) ?_
  refine gx_iload_n (pc := 36) (n := 3) (i := 3) rfl 0 rfl (htX13_add (36, .iload_n 3, 1) (gx_m 20 rfl)) ?_
  exact gx_Jiret (pc := 37) rfl (fun _ => trivial) (fun _ _ => rfl) (htX13_add (37, .ireturn, 1) (gx_m 21 rfl))
theorem ct_X14_writeTerm (Y : gx_Y) (x0 : gx_Nm) (x1 : Int32) (x2 : Int32) : gx_Ct Y yX14_writeTerm (ws_ yX14_writeTerm cX14_writeTerm 3 none) 3 146 [gx_r 15 (some x0), gx_i x1, gx_i x2] gx_Ov (f_X14_writeTerm x0 x1 x2) := by
  refine gx_start (lv := [(0, gx_r 15 (some x0)), (1, gx_i x1), (2, gx_i x2)]) gx_Ov_r pn_X14 (Nat.le_of_ble_eq_true rfl) rfl ?_
  unfold f_X14_writeTerm
  refine gx_aload_n (pc := 0) (n := 0) (i := 0) rfl 0 rfl (htX14_writeTerm (0, .aload_n 0, 1) (gx_m 0 rfl)) ?_
  refine gx_iconst (pc := 1) (v := 0) (by decide) (htX14_writeTerm (1, .iconst 0, 1) (gx_m 1 rfl)) ?_
  refine gx_iload_n (pc := 2) (n := 1) (i := 1) rfl 1 rfl (htX14_writeTerm (2, .iload_n 1, 1) (gx_m 2 rfl)) ?_
  refine gx_iload_n (pc := 3) (n := 2) (i := 2) rfl 2 rfl (htX14_writeTerm (3, .iload_n 2, 1) (gx_m 3 rfl)) ?_
  refine gx_iconst (pc := 4) (v := 0) (by decide) (htX14_writeTerm (4, .iconst 0, 1) (gx_m 4 rfl)) ?_
  refine gx_Jcv (pc := 5) (gx_hst (as := [gx_i 0, gx_i x1, gx_i x2, gx_i 0]) (b := gx_r 15 (some x0))) (gx_runV (as := [gx_i 0, gx_i x1, gx_i x2, gx_i 0]) (ci := 14) (ct_X14_write Y x0 0 x1 x2 0) (by decide) (Or.inl rfl) rfl rfl rfl rfl q1088 q1090 qs11 q114 q1091 rfl dd_X14_write (by decide) (by decide) (Nat.le_of_ble_eq_true rfl) (htX14_writeTerm (5, .invokevirtual 44, 3) (gx_m 5 rfl))) ?_
  exact gx_Jvret (pc := 8) rfl (fun _ => trivial) (fun _ _ => rfl) (htX14_writeTerm (8, .return_, 1) (gx_m 6 rfl))
theorem ct_X13_setTerm (Y : gx_Y) (x0 : gx_Nm) (x1 : Int32) (x2 : Int32) : gx_Ct Y yX13_setTerm (ws_ yX13_setTerm cX13_setTerm 3 none) 4 168 [gx_r 14 (some x0), gx_i x1, gx_i x2] gx_Ov (f_X13_setTerm x0 x1 x2) := by
  refine gx_start (lv := [(0, gx_r 14 (some x0)), (1, gx_i x1), (2, gx_i x2)]) gx_Ov_r pn_X13 (Nat.le_of_ble_eq_true rfl) rfl ?_
  unfold f_X13_setTerm
  refine gx_aload_n (pc := 0) (n := 0) (i := 0) rfl 0 rfl (htX13_setTerm (0, .aload_n 0, 1) (gx_m 0 rfl)) ?_
  refine gx_iload_n (pc := 1) (n := 1) (i := 1) rfl 1 rfl (htX13_setTerm (1, .iload_n 1, 1) (gx_m 1 rfl)) ?_
  refine gx_Jpi (pc := 2) (ci := 13) (kk := 3) (by decide) (Or.inl rfl) (by decide) rfl rfl q550 (Or.inl rfl) (htX13_setTerm (2, .putfield 103, 3) (gx_m 2 rfl)) ?_
  refine gx_aload_n (pc := 5) (n := 0) (i := 0) rfl 0 rfl (htX13_setTerm (5, .aload_n 0, 1) (gx_m 3 rfl)) ?_
  refine gx_iload_n (pc := 6) (n := 2) (i := 2) rfl 2 rfl (htX13_setTerm (6, .iload_n 2, 1) (gx_m 4 rfl)) ?_
  refine gx_Jpi (pc := 7) (ci := 13) (kk := 4) (by decide) (Or.inl rfl) (by decide) rfl rfl q552 (Or.inl rfl) (htX13_setTerm (7, .putfield 107, 3) (gx_m 5 rfl)) ?_
  refine gx_aload_n (pc := 10) (n := 0) (i := 0) rfl 0 rfl (htX13_setTerm (10, .aload_n 0, 1) (gx_m 6 rfl)) ?_
  refine gx_Jgs (pc := 11) (ci := 13) (kk := 2) (t2 := 15) (by decide) (by decide) rfl rfl rfl q548 (htX13_setTerm (11, .getfield 62, 3) (gx_m 7 rfl)) ?_
  refine gx_iload_n (pc := 14) (n := 1) (i := 1) rfl 1 rfl (htX13_setTerm (14, .iload_n 1, 1) (gx_m 8 rfl)) ?_
  refine gx_iload_n (pc := 15) (n := 2) (i := 2) rfl 2 rfl (htX13_setTerm (15, .iload_n 2, 1) (gx_m 9 rfl)) ?_
  refine gx_Jcv (pc := 16) (gx_hst (as := [gx_i x1, gx_i x2]) (b := gx_r 15 (some (2 :: x0)))) (gx_runV (as := [gx_i x1, gx_i x2]) (ci := 14) (ct_X14_writeTerm Y (2 :: x0) x1 x2) (by decide) (Or.inl rfl) rfl rfl rfl rfl q1197 q1198 q1199 q114 q1200 rfl dd_X14_writeTerm (by decide) (by decide) (Nat.le_of_ble_eq_true rfl) (htX13_setTerm (16, .invokevirtual 204, 3) (gx_m 10 rfl))) ?_
  exact gx_Jvret (pc := 19) rfl (fun _ => trivial) (fun _ _ => rfl) (htX13_setTerm (19, .return_, 1) (gx_m 11 rfl))
theorem ct_X15_lastTerm (Y : gx_Y) (x0 : gx_Nm) : gx_Ct Y yX15_lastTerm (ws_ yX15_lastTerm cX15_lastTerm 1 (some .int)) 3 142 [gx_r 16 (some x0)] gx_Oi (f_X15_lastTerm x0) := by
  refine gx_start (lv := [(0, gx_r 16 (some x0))]) gx_Oi_r pn_X15 (Nat.le_of_ble_eq_true rfl) rfl ?_
  unfold f_X15_lastTerm
  refine gx_aload_n (pc := 0) (n := 0) (i := 0) rfl 0 rfl (htX15_lastTerm (0, .aload_n 0, 1) (gx_m 0 rfl)) ?_
  refine gx_aload_n (pc := 1) (n := 0) (i := 0) rfl 0 rfl (htX15_lastTerm (1, .aload_n 0, 1) (gx_m 1 rfl)) ?_
  refine gx_Jci (pc := 2) (gx_hst (as := []) (b := gx_r 16 (some x0))) (gx_runV (as := []) (ci := 15) (ct_X15_last Y x0) (by decide) (Or.inl rfl) rfl rfl rfl rfl q1205 q1072 q1073 q115 q1074 rfl dd_X15_last (by decide) (by decide) (Nat.le_of_ble_eq_true rfl) (htX15_lastTerm (2, .invokevirtual 51, 3) (gx_m 2 rfl))) (fun v1 => ?_)
  refine gx_Jci (pc := 5) (gx_hst (as := [gx_i v1]) (b := gx_r 16 (some x0))) (gx_runV (as := [gx_i v1]) (ci := 15) (ct_X15_term Y x0 v1) (by decide) (Or.inl rfl) rfl rfl rfl rfl q1206 q1174 q1175 q115 q1176 rfl dd_X15_term (by decide) (by decide) (Nat.le_of_ble_eq_true rfl) (htX15_lastTerm (5, .invokevirtual 55, 3) (gx_m 3 rfl))) (fun v2 => ?_)
  exact gx_Jiret (pc := 8) rfl (fun _ => trivial) (fun _ _ => rfl) (htX15_lastTerm (8, .ireturn, 1) (gx_m 4 rfl))
theorem ct_X13_isMajority (Y : gx_Y) (x0 : gx_Nm) (x1 : Int32) : gx_Ct Y yX13_isMajority (ws_ yX13_isMajority cX13_isMajority 4 (some .boolean)) 1 100 [gx_r 14 (some x0), gx_i x1] gx_Oz (f_X13_isMajority x0 x1) := by
  refine gx_start (lv := [(0, gx_r 14 (some x0)), (1, gx_i x1)]) gx_Oz_r pn_X13 (Nat.le_of_ble_eq_true rfl) rfl ?_
  unfold f_X13_isMajority
  refine gx_iconst (pc := 0) (v := 0) (by decide) (htX13_isMajority (0, .iconst 0, 1) (gx_m 0 rfl)) ?_
  refine gx_istore_n (pc := 1) (n := 2) (i := 2) (lv' := [(2, gx_i 0), (0, gx_r 14 (some x0)), (1, gx_i x1)]) rfl (by decide) rfl (htX13_isMajority (1, .istore_n 2, 1) (gx_m 1 rfl)) ?_
  refine gx_iload_n (pc := 2) (n := 1) (i := 1) rfl 2 rfl (htX13_isMajority (2, .iload_n 1, 1) (gx_m 2 rfl)) ?_
  refine gx_istore_n (pc := 3) (n := 3) (i := 3) (lv' := [(3, gx_i x1), (2, gx_i 0), (0, gx_r 14 (some x0)), (1, gx_i x1)]) rfl (by decide) rfl (htX13_isMajority (3, .istore_n 3, 1) (gx_m 3 rfl)) ?_
  refine gx_Jjoin (pcJ := 20) (lvJ := fun (j2 : Int32) => [(0, gx_r 14 (some x0)), (2, gx_i j2)]) (stJ := fun (j2 : Int32) => []) (fun _ => True) (fun j2 _ => ?_) (fun kk1 hj1 => ?_)
  · refine gx_iload_n (pc := 20) (n := 2) (i := 2) rfl 1 rfl (htX13_isMajority (20, .iload_n 2, 1) (gx_m 14 rfl)) ?_
    refine gx_aload_n (pc := 21) (n := 0) (i := 0) rfl 0 rfl (htX13_isMajority (21, .aload_n 0, 1) (gx_m 15 rfl)) ?_
    refine gx_Jgs (pc := 22) (ci := 13) (kk := 0) (t2 := 3) (by decide) (by decide) rfl rfl rfl q546 (htX13_isMajority (22, .getfield 43, 3) (gx_m 16 rfl)) ?_
    refine gx_Jgi (pc := 25) (ci := 2) (kk := 4) (by decide) (Or.inl rfl) (by decide) (by decide) q414 (htX13_isMajority (25, .getfield 211, 3) (gx_m 17 rfl)) (fun v3 hv3 => ?_)
    refine gx_iconst (pc := 28) (v := 2) (by decide) (htX13_isMajority (28, .iconst 2, 1) (gx_m 18 rfl)) ?_
    refine gx_idiv (pc := 29) (by decide) (htX13_isMajority (29, .idiv, 1) (gx_m 19 rfl)) ?_
    refine gx_Jjoin (pcJ := 38) (lvJ := fun (j4 : Int32) => []) (stJ := fun (j4 : Int32) => [gx_i j4]) (fun (j4 : Int32) => j4 &&& 1 = j4) (fun j4 hj4 => ?_) (fun kk2 hj2 => ?_)
    · exact gx_Jzret (pc := 38) rfl hj4 (fun _ => hj4) (fun _ _ => rfl) (htX13_isMajority (38, .ireturn, 1) (gx_m 24 rfl))
    · refine gx_icmp_le (pc := 30) (tgt := 37) (by decide) (htX13_isMajority (30, .if_icmp .le 7, 3) (gx_m 20 rfl)) (fun c3 => ?_) (fun c3 => ?_)
      · refine gx_iconst (pc := 37) (v := 0) (by decide) (htX13_isMajority (37, .iconst 0, 1) (gx_m 23 rfl)) ?_
        refine gx_Jw (lv := []) [] rfl ?_
        exact hj2 (0 : Int32) gx_b0
      · refine gx_iconst (pc := 33) (v := 1) (by decide) (htX13_isMajority (33, .iconst 1, 1) (gx_m 21 rfl)) ?_
        refine gx_goto (pc := 34) (tgt := 38) (by decide) (htX13_isMajority (34, .goto 4, 3) (gx_m 22 rfl)) ?_
        refine gx_Jw (lv := []) [] rfl ?_
        exact hj2 (1 : Int32) gx_b1
  · refine gx_Jw (lv := [(0, gx_r 14 (some x0)), (2, gx_i 0), (3, gx_i x1)]) [2, 1, 0] rfl ?_
    refine gx_Jlp (pc := 4) (lvh := fun (s1 : Int32 × Int32) => [(0, gx_r 14 (some x0)), (2, gx_i s1.1), (3, gx_i s1.2)]) (fun s1 kl1 ha1 hb1 => ?_) _
    unfold lb_X13_isMajority_1
    refine gx_iload_n (pc := 4) (n := 3) (i := 3) rfl 2 rfl (htX13_isMajority (4, .iload_n 3, 1) (gx_m 4 rfl)) ?_
    refine gx_if_eq (pc := 5) (y := 0) (tgt := 20) (by decide) (htX13_isMajority (5, .ifCond .eq 15, 3) (gx_m 5 rfl)) (fun c4 => ?_) (fun c4 => ?_)
    · refine gx_Jw (lv := [(0, gx_r 14 (some x0)), (2, gx_i s1.1)]) [0, 1] rfl ?_
      exact gx_Jout hb1 (hj1 (s1.1 : Int32) trivial)
    · refine gx_iinc (pc := 8) (i := 2) (j := 1) (v := (s1.1 + 1)) (lv' := [(2, gx_i (s1.1 + 1)), (0, gx_r 14 (some x0)), (3, gx_i s1.2)]) rfl (gx_iv (by decide)) (by decide) rfl (htX13_isMajority (8, .iinc 2 1, 3) (gx_m 6 rfl)) ?_
      refine gx_iload_n (pc := 11) (n := 3) (i := 3) rfl 2 rfl (htX13_isMajority (11, .iload_n 3, 1) (gx_m 7 rfl)) ?_
      refine gx_iload_n (pc := 12) (n := 3) (i := 3) rfl 2 rfl (htX13_isMajority (12, .iload_n 3, 1) (gx_m 8 rfl)) ?_
      refine gx_iconst (pc := 13) (v := 1) (by decide) (htX13_isMajority (13, .iconst 1, 1) (gx_m 9 rfl)) ?_
      refine gx_isub (pc := 14) (htX13_isMajority (14, .isub, 1) (gx_m 10 rfl)) ?_
      refine gx_iand (pc := 15) (htX13_isMajority (15, .iand, 1) (gx_m 11 rfl)) ?_
      refine gx_istore_n (pc := 16) (n := 3) (i := 3) (lv' := [(3, gx_i (s1.2 &&& (s1.2 - 1))), (2, gx_i (s1.1 + 1)), (0, gx_r 14 (some x0))]) rfl (by decide) rfl (htX13_isMajority (16, .istore_n 3, 1) (gx_m 12 rfl)) ?_
      refine gx_goto (pc := 17) (tgt := 4) (by decide) (htX13_isMajority (17, .goto (-13), 3) (gx_m 13 rfl)) ?_
      refine gx_Jw (lv := [(0, gx_r 14 (some x0)), (2, gx_i (s1.1 + 1)), (3, gx_i (s1.2 &&& (s1.2 - 1)))]) [2, 1, 0] rfl ?_
      exact ha1 (((s1.1 + 1) : Int32), ((s1.2 &&& (s1.2 - 1)) : Int32))
theorem ct_X5_fit (Y : gx_Y) (x0 : gx_Nm) (x1 : Int32) (x2 : Int32) : gx_Ct Y yX5_fit (ws_ yX5_fit cX5_fit 3 none) 2 122 [gx_r 6 (some x0), gx_i x1, gx_i x2] gx_Ov (f_X5_fit x0 x1 x2) := by
  refine gx_start (lv := [(0, gx_r 6 (some x0)), (1, gx_i x1), (2, gx_i x2)]) gx_Ov_r pn_X5 (Nat.le_of_ble_eq_true rfl) rfl ?_
  unfold f_X5_fit
  refine gx_Jjoin (pcJ := 16) (lvJ := fun (j_1 : Unit) => []) (stJ := fun (j_1 : Unit) => []) (fun _ => True) (fun j_1 _ => ?_) (fun kk1 hj1 => ?_)
  · exact gx_Jvret (pc := 16) rfl (fun _ => trivial) (fun _ _ => rfl) (htX5_fit (16, .return_, 1) (gx_m 8 rfl))
  · refine gx_Jlp (pc := 0) (lvh := fun (s1 : Unit) => [(0, gx_r 6 (some x0)), (1, gx_i x1), (2, gx_i x2)]) (fun s1 kl1 ha1 hb1 => ?_) _
    unfold lb_X5_fit_1
    refine gx_aload_n (pc := 0) (n := 0) (i := 0) rfl 0 rfl (htX5_fit (0, .aload_n 0, 1) (gx_m 0 rfl)) ?_
    refine gx_Jgi (pc := 1) (ci := 5) (kk := 1) (by decide) (Or.inl rfl) (by decide) (by decide) q176 (htX5_fit (1, .getfield 13, 3) (gx_m 1 rfl)) (fun v2 hv2 => ?_)
    refine gx_iload_n (pc := 4) (n := 1) (i := 1) rfl 1 rfl (htX5_fit (4, .iload_n 1, 1) (gx_m 2 rfl)) ?_
    refine gx_icmp_ge (pc := 5) (tgt := 16) (by decide) (htX5_fit (5, .if_icmp .ge 11, 3) (gx_m 3 rfl)) (fun c2 => ?_) (fun c2 => ?_)
    · refine gx_Jw (lv := []) [] rfl ?_
      exact gx_Jout hb1 (hj1 () trivial)
    · refine gx_aload_n (pc := 8) (n := 0) (i := 0) rfl 0 rfl (htX5_fit (8, .aload_n 0, 1) (gx_m 4 rfl)) ?_
      refine gx_iload_n (pc := 9) (n := 2) (i := 2) rfl 2 rfl (htX5_fit (9, .iload_n 2, 1) (gx_m 5 rfl)) ?_
      refine gx_Jcv (pc := 10) (gx_hst (as := [gx_i x2]) (b := gx_r 6 (some x0))) (gx_runV (as := [gx_i x2]) (ci := 5) (ct_X5_add Y x0 x2) (by decide) (Or.inl rfl) rfl rfl rfl rfl q860 q642 q643 q105 q644 rfl dd_X5_add (by decide) (by decide) (Nat.le_of_ble_eq_true rfl) (htX5_fit (10, .invokevirtual 23, 3) (gx_m 6 rfl))) ?_
      refine gx_goto (pc := 13) (tgt := 0) (by decide) (htX5_fit (13, .goto (-13), 3) (gx_m 7 rfl)) ?_
      exact ha1 ()
theorem ct_X2_leads (Y : gx_Y) (x0 : gx_Nm) (x1 : Int32) (x2 : Int32) : gx_Ct Y yX2_leads (ws_ yX2_leads cX2_leads 3 none) 3 144 [gx_r 3 (some x0), gx_i x1, gx_i x2] gx_Ov (f_X2_leads x0 x1 x2) := by
  refine gx_start (lv := [(0, gx_r 3 (some x0)), (1, gx_i x1), (2, gx_i x2)]) gx_Ov_r pn_X2 (Nat.le_of_ble_eq_true rfl) rfl ?_
  unfold f_X2_leads
  refine gx_aload_n (pc := 0) (n := 0) (i := 0) rfl 0 rfl (htX2_leads (0, .aload_n 0, 1) (gx_m 0 rfl)) ?_
  refine gx_Jgs (pc := 1) (ci := 2) (kk := 7) (t2 := 6) (by decide) (by decide) rfl rfl rfl q420 (htX2_leads (1, .getfield 44, 3) (gx_m 1 rfl)) ?_
  refine gx_iload_n (pc := 4) (n := 2) (i := 2) rfl 2 rfl (htX2_leads (4, .iload_n 2, 1) (gx_m 2 rfl)) ?_
  refine gx_iconst (pc := 5) (v := 1) (by decide) (htX2_leads (5, .iconst 1, 1) (gx_m 3 rfl)) ?_
  refine gx_iadd (pc := 6) (htX2_leads (6, .iadd, 1) (gx_m 4 rfl)) ?_
  refine gx_iconst (pc := 7) (v := (-1)) (by decide) (htX2_leads (7, .iconst (-1), 1) (gx_m 5 rfl)) ?_
  refine gx_Jcv (pc := 8) (gx_hst (as := [gx_i (x2 + 1), gx_i (-1)]) (b := gx_r 6 (some (7 :: x0)))) (gx_runV (as := [gx_i (x2 + 1), gx_i (-1)]) (ci := 5) (ct_X5_fit Y (7 :: x0) (x2 + 1) (-1)) (by decide) (Or.inl rfl) rfl rfl rfl rfl q1219 q1220 q1221 q105 q1222 rfl dd_X5_fit (by decide) (by decide) (Nat.le_of_ble_eq_true rfl) (htX2_leads (8, .invokevirtual 83, 3) (gx_m 6 rfl))) ?_
  refine gx_aload_n (pc := 11) (n := 0) (i := 0) rfl 0 rfl (htX2_leads (11, .aload_n 0, 1) (gx_m 7 rfl)) ?_
  refine gx_Jgs (pc := 12) (ci := 2) (kk := 7) (t2 := 6) (by decide) (by decide) rfl rfl rfl q420 (htX2_leads (12, .getfield 44, 3) (gx_m 8 rfl)) ?_
  refine gx_iload_n (pc := 15) (n := 2) (i := 2) rfl 2 rfl (htX2_leads (15, .iload_n 2, 1) (gx_m 9 rfl)) ?_
  refine gx_Jci (pc := 16) (gx_hst (as := [gx_i x2]) (b := gx_r 6 (some (7 :: x0)))) (gx_runV (as := [gx_i x2]) (ci := 5) (ct_X5_get Y (7 :: x0) x2) (by decide) (Or.inl rfl) rfl rfl rfl rfl q1223 q668 q669 q105 q670 rfl dd_X5_get (by decide) (by decide) (Nat.le_of_ble_eq_true rfl) (htX2_leads (16, .invokevirtual 87, 3) (gx_m 10 rfl))) (fun v1 => ?_)
  refine gx_Jjoin (pcJ := 56) (lvJ := fun (j_1 : Unit) => []) (stJ := fun (j_1 : Unit) => []) (fun _ => True) (fun j_1 hj_1 => ?_) (fun kk1 hj1 => ?_)
  · exact gx_Jvret (pc := 56) rfl (fun _ => trivial) (fun _ _ => rfl) (htX2_leads (56, .return_, 1) (gx_m 30 rfl))
  · refine gx_if_ge (pc := 19) (y := 0) (tgt := 34) (by decide) (htX2_leads (19, .ifCond .ge 15, 3) (gx_m 11 rfl)) (fun c2 => ?_) (fun c2 => ?_)
    · refine gx_aload_n (pc := 34) (n := 0) (i := 0) rfl 0 rfl (htX2_leads (34, .aload_n 0, 1) (gx_m 18 rfl)) ?_
      refine gx_Jgs (pc := 35) (ci := 2) (kk := 7) (t2 := 6) (by decide) (by decide) rfl rfl rfl q420 (htX2_leads (35, .getfield 44, 3) (gx_m 19 rfl)) ?_
      refine gx_iload_n (pc := 38) (n := 2) (i := 2) rfl 2 rfl (htX2_leads (38, .iload_n 2, 1) (gx_m 20 rfl)) ?_
      refine gx_Jci (pc := 39) (gx_hst (as := [gx_i x2]) (b := gx_r 6 (some (7 :: x0)))) (gx_runV (as := [gx_i x2]) (ci := 5) (ct_X5_get Y (7 :: x0) x2) (by decide) (Or.inl rfl) rfl rfl rfl rfl q1223 q668 q669 q105 q670 rfl dd_X5_get (by decide) (by decide) (Nat.le_of_ble_eq_true rfl) (htX2_leads (39, .invokevirtual 87, 3) (gx_m 21 rfl))) (fun v2 => ?_)
      refine gx_iload_n (pc := 42) (n := 1) (i := 1) rfl 1 rfl (htX2_leads (42, .iload_n 1, 1) (gx_m 22 rfl)) ?_
      refine gx_icmp_eq (pc := 43) (tgt := 56) (by decide) (htX2_leads (43, .if_icmp .eq 13, 3) (gx_m 23 rfl)) (fun c3 => ?_) (fun c3 => ?_)
      · refine gx_Jw (lv := []) [] rfl ?_
        exact hj1 () trivial
      · refine gx_aload_n (pc := 46) (n := 0) (i := 0) rfl 0 rfl (htX2_leads (46, .aload_n 0, 1) (gx_m 24 rfl)) ?_
        refine gx_dup (pc := 47) rfl (htX2_leads (47, .dup, 1) (gx_m 25 rfl)) ?_
        refine gx_Jgi (pc := 48) (ci := 2) (kk := 5) (by decide) (Or.inl rfl) (by decide) (by decide) q415 (htX2_leads (48, .getfield 55, 3) (gx_m 26 rfl)) (fun v3 hv3 => ?_)
        refine gx_iconst (pc := 51) (v := 1) (by decide) (htX2_leads (51, .iconst 1, 1) (gx_m 27 rfl)) ?_
        refine gx_iadd (pc := 52) (htX2_leads (52, .iadd, 1) (gx_m 28 rfl)) ?_
        refine gx_Jpi (pc := 53) (ci := 2) (kk := 5) (by decide) (Or.inl rfl) (by decide) rfl rfl q415 (Or.inl rfl) (htX2_leads (53, .putfield 55, 3) (gx_m 29 rfl)) ?_
        refine gx_Jw (lv := []) [] rfl ?_
        exact hj1 () trivial
    · refine gx_aload_n (pc := 22) (n := 0) (i := 0) rfl 0 rfl (htX2_leads (22, .aload_n 0, 1) (gx_m 12 rfl)) ?_
      refine gx_Jgs (pc := 23) (ci := 2) (kk := 7) (t2 := 6) (by decide) (by decide) rfl rfl rfl q420 (htX2_leads (23, .getfield 44, 3) (gx_m 13 rfl)) ?_
      refine gx_iload_n (pc := 26) (n := 2) (i := 2) rfl 2 rfl (htX2_leads (26, .iload_n 2, 1) (gx_m 14 rfl)) ?_
      refine gx_iload_n (pc := 27) (n := 1) (i := 1) rfl 1 rfl (htX2_leads (27, .iload_n 1, 1) (gx_m 15 rfl)) ?_
      refine gx_Jcv (pc := 28) (gx_hst (as := [gx_i x2, gx_i x1]) (b := gx_r 6 (some (7 :: x0)))) (gx_runV (as := [gx_i x2, gx_i x1]) (ci := 5) (ct_X5_set Y (7 :: x0) x2 x1) (by decide) (Or.inl rfl) rfl rfl rfl rfl q1224 q672 q673 q105 q674 rfl dd_X5_set (by decide) (by decide) (Nat.le_of_ble_eq_true rfl) (htX2_leads (28, .invokevirtual 91, 3) (gx_m 16 rfl))) ?_
      refine gx_goto (pc := 31) (tgt := 56) (by decide) (htX2_leads (31, .goto 25, 3) (gx_m 17 rfl)) ?_
      refine gx_Jw (lv := []) [] rfl ?_
      exact hj1 () trivial
theorem ct_X3_empty (Y : gx_Y) (x0 : gx_Nm) : gx_Ct Y yX3_empty (ws_ yX3_empty cX3_empty 2 (some .int)) 2 122 [gx_r 4 (some x0)] gx_Oi (f_X3_empty x0) := by
  refine gx_start (lv := [(0, gx_r 4 (some x0))]) gx_Oi_r pn_X3 (Nat.le_of_ble_eq_true rfl) rfl ?_
  unfold f_X3_empty
  refine gx_iconst (pc := 0) (v := 0) (by decide) (htX3_empty (0, .iconst 0, 1) (gx_m 0 rfl)) ?_
  refine gx_istore_n (pc := 1) (n := 1) (i := 1) (lv' := [(1, gx_i 0), (0, gx_r 4 (some x0))]) rfl (by decide) rfl (htX3_empty (1, .istore_n 1, 1) (gx_m 1 rfl)) ?_
  refine gx_Jjoin (pcJ := 27) (lvJ := fun (j_1 : Unit) => [(0, gx_r 4 (some x0))]) (stJ := fun (j_1 : Unit) => []) (fun _ => True) (fun j_1 _ => ?_) (fun kk1 hj1 => ?_)
  · refine gx_aload_n (pc := 27) (n := 0) (i := 0) rfl 0 rfl (htX3_empty (27, .aload_n 0, 1) (gx_m 13 rfl)) ?_
    refine gx_dup (pc := 28) rfl (htX3_empty (28, .dup, 1) (gx_m 14 rfl)) ?_
    refine gx_Jgi (pc := 29) (ci := 3) (kk := 3) (by decide) (Or.inl rfl) (by decide) (by decide) q196 (htX3_empty (29, .getfield 38, 3) (gx_m 15 rfl)) (fun v3 hv3 => ?_)
    refine gx_iconst (pc := 32) (v := 1) (by decide) (htX3_empty (32, .iconst 1, 1) (gx_m 16 rfl)) ?_
    refine gx_iadd (pc := 33) (htX3_empty (33, .iadd, 1) (gx_m 17 rfl)) ?_
    refine gx_Jpi (pc := 34) (ci := 3) (kk := 3) (by decide) (Or.inl rfl) (by decide) rfl rfl q196 (Or.inl rfl) (htX3_empty (34, .putfield 38, 3) (gx_m 18 rfl)) ?_
    refine gx_aload_n (pc := 37) (n := 0) (i := 0) rfl 0 rfl (htX3_empty (37, .aload_n 0, 1) (gx_m 19 rfl)) ?_
    refine gx_Jgi (pc := 38) (ci := 3) (kk := 3) (by decide) (Or.inl rfl) (by decide) (by decide) q196 (htX3_empty (38, .getfield 38, 3) (gx_m 20 rfl)) (fun v4 hv4 => ?_)
    refine gx_iconst (pc := 41) (v := 1) (by decide) (htX3_empty (41, .iconst 1, 1) (gx_m 21 rfl)) ?_
    refine gx_isub (pc := 42) (htX3_empty (42, .isub, 1) (gx_m 22 rfl)) ?_
    exact gx_Jiret (pc := 43) rfl (fun _ => trivial) (fun _ _ => rfl) (htX3_empty (43, .ireturn, 1) (gx_m 23 rfl))
  · refine gx_Jw (lv := [(0, gx_r 4 (some x0)), (1, gx_i 0)]) [1, 0] rfl ?_
    refine gx_Jlp (pc := 2) (lvh := fun (s1 : Int32) => [(0, gx_r 4 (some x0)), (1, gx_i s1)]) (fun s1 kl1 ha1 hb1 => ?_) _
    unfold lb_X3_empty_1
    refine gx_iload_n (pc := 2) (n := 1) (i := 1) rfl 1 rfl (htX3_empty (2, .iload_n 1, 1) (gx_m 2 rfl)) ?_
    refine gx_iconst (pc := 3) (v := 3) (by decide) (htX3_empty (3, .iconst 3, 1) (gx_m 3 rfl)) ?_
    refine gx_icmp_ge (pc := 4) (tgt := 27) (by decide) (htX3_empty (4, .if_icmp .ge 23, 3) (gx_m 4 rfl)) (fun c2 => ?_) (fun c2 => ?_)
    · refine gx_Jw (lv := [(0, gx_r 4 (some x0))]) [0] rfl ?_
      exact gx_Jout hb1 (hj1 () trivial)
    · refine gx_aload_n (pc := 7) (n := 0) (i := 0) rfl 0 rfl (htX3_empty (7, .aload_n 0, 1) (gx_m 5 rfl)) ?_
      refine gx_Jgs (pc := 8) (ci := 3) (kk := 1) (t2 := 6) (by decide) (by decide) rfl rfl rfl q194 (htX3_empty (8, .getfield 23, 3) (gx_m 6 rfl)) ?_
      refine gx_aload_n (pc := 11) (n := 0) (i := 0) rfl 0 rfl (htX3_empty (11, .aload_n 0, 1) (gx_m 7 rfl)) ?_
      refine gx_Jgs (pc := 12) (ci := 3) (kk := 2) (t2 := 6) (by decide) (by decide) rfl rfl rfl q195 (htX3_empty (12, .getfield 27, 3) (gx_m 8 rfl)) ?_
      refine gx_Jgi (pc := 15) (ci := 5) (kk := 1) (by decide) (Or.inl rfl) (by decide) (by decide) q182 (htX3_empty (15, .getfield 45, 3) (gx_m 9 rfl)) (fun v2 hv2 => ?_)
      refine gx_Jcv (pc := 18) (gx_hst (as := [gx_i v2]) (b := gx_r 6 (some (1 :: x0)))) (gx_runV (as := [gx_i v2]) (ci := 5) (ct_X5_add Y (1 :: x0) v2) (by decide) (Or.inl rfl) rfl rfl rfl rfl q641 q642 q643 q105 q644 rfl dd_X5_add (by decide) (by decide) (Nat.le_of_ble_eq_true rfl) (htX3_empty (18, .invokevirtual 41, 3) (gx_m 10 rfl))) ?_
      refine gx_iinc (pc := 21) (i := 1) (j := 1) (v := (s1 + 1)) (lv' := [(1, gx_i (s1 + 1)), (0, gx_r 4 (some x0))]) rfl (gx_iv (by decide)) (by decide) rfl (htX3_empty (21, .iinc 1 1, 3) (gx_m 11 rfl)) ?_
      refine gx_goto (pc := 24) (tgt := 2) (by decide) (htX3_empty (24, .goto (-22), 3) (gx_m 12 rfl)) ?_
      refine gx_Jw (lv := [(0, gx_r 4 (some x0)), (1, gx_i (s1 + 1))]) [1, 0] rfl ?_
      exact ha1 ((s1 + 1) : Int32)
theorem ct_X13_lead (Y : gx_Y) (x0 : gx_Nm) : gx_Ct Y yX13_lead (ws_ yX13_lead cX13_lead 2 none) 8 254 [gx_r 14 (some x0)] gx_Ov (f_X13_lead x0) := by
  refine gx_start (lv := [(0, gx_r 14 (some x0))]) gx_Ov_r pn_X13 (Nat.le_of_ble_eq_true rfl) rfl ?_
  unfold f_X13_lead
  refine gx_aload_n (pc := 0) (n := 0) (i := 0) rfl 0 rfl (htX13_lead (0, .aload_n 0, 1) (gx_m 0 rfl)) ?_
  refine gx_iconst (pc := 1) (v := 2) (by decide) (htX13_lead (1, .iconst 2, 1) (gx_m 1 rfl)) ?_
  refine gx_Jpi (pc := 2) (ci := 13) (kk := 8) (by decide) (Or.inl rfl) (by decide) rfl rfl q559 (Or.inl rfl) (htX13_lead (2, .putfield 113, 3) (gx_m 2 rfl)) ?_
  refine gx_aload_n (pc := 5) (n := 0) (i := 0) rfl 0 rfl (htX13_lead (5, .aload_n 0, 1) (gx_m 3 rfl)) ?_
  refine gx_aload_n (pc := 6) (n := 0) (i := 0) rfl 0 rfl (htX13_lead (6, .aload_n 0, 1) (gx_m 4 rfl)) ?_
  refine gx_Jgi (pc := 7) (ci := 13) (kk := 1) (by decide) (Or.inl rfl) (by decide) (by decide) q547 (htX13_lead (7, .getfield 47, 3) (gx_m 5 rfl)) (fun v1 hv1 => ?_)
  refine gx_Jpi (pc := 10) (ci := 13) (kk := 9) (by decide) (Or.inl rfl) (by decide) rfl rfl q561 (Or.inl rfl) (htX13_lead (10, .putfield 116, 3) (gx_m 6 rfl)) ?_
  refine gx_aload_n (pc := 13) (n := 0) (i := 0) rfl 0 rfl (htX13_lead (13, .aload_n 0, 1) (gx_m 7 rfl)) ?_
  refine gx_Jgs (pc := 14) (ci := 13) (kk := 0) (t2 := 3) (by decide) (by decide) rfl rfl rfl q546 (htX13_lead (14, .getfield 43, 3) (gx_m 8 rfl)) ?_
  refine gx_aload_n (pc := 17) (n := 0) (i := 0) rfl 0 rfl (htX13_lead (17, .aload_n 0, 1) (gx_m 9 rfl)) ?_
  refine gx_Jgi (pc := 18) (ci := 13) (kk := 1) (by decide) (Or.inl rfl) (by decide) (by decide) q547 (htX13_lead (18, .getfield 47, 3) (gx_m 10 rfl)) (fun v2 hv2 => ?_)
  refine gx_aload_n (pc := 21) (n := 0) (i := 0) rfl 0 rfl (htX13_lead (21, .aload_n 0, 1) (gx_m 11 rfl)) ?_
  refine gx_Jgi (pc := 22) (ci := 13) (kk := 3) (by decide) (Or.inl rfl) (by decide) (by decide) q550 (htX13_lead (22, .getfield 103, 3) (gx_m 12 rfl)) (fun v3 hv3 => ?_)
  refine gx_Jcv (pc := 25) (gx_hst (as := [gx_i v2, gx_i v3]) (b := gx_r 3 (some [0, 1]))) (gx_runV (as := [gx_i v2, gx_i v3]) (ci := 2) (ct_X2_leads Y [0, 1] v2 v3) (by decide) (Or.inl rfl) rfl rfl rfl rfl q1215 q1216 q1217 q102 q1218 rfl dd_X2_leads (by decide) (by decide) (Nat.le_of_ble_eq_true rfl) (htX13_lead (25, .invokevirtual 230, 3) (gx_m 13 rfl))) ?_
  refine gx_iconst (pc := 28) (v := 0) (by decide) (htX13_lead (28, .iconst 0, 1) (gx_m 14 rfl)) ?_
  refine gx_istore_n (pc := 29) (n := 1) (i := 1) (lv' := [(1, gx_i 0), (0, gx_r 14 (some x0))]) rfl (by decide) rfl (htX13_lead (29, .istore_n 1, 1) (gx_m 15 rfl)) ?_
  refine gx_Jjoin (pcJ := 76) (lvJ := fun (j_1 : Unit) => [(0, gx_r 14 (some x0))]) (stJ := fun (j_1 : Unit) => []) (fun _ => True) (fun j_1 _ => ?_) (fun kk1 hj1 => ?_)
  · refine gx_aload_n (pc := 76) (n := 0) (i := 0) rfl 0 rfl (htX13_lead (76, .aload_n 0, 1) (gx_m 42 rfl)) ?_
    refine gx_iconst (pc := 77) (v := 0) (by decide) (htX13_lead (77, .iconst 0, 1) (gx_m 43 rfl)) ?_
    refine gx_Jpi (pc := 78) (ci := 13) (kk := 16) (by decide) (Or.inl rfl) (by decide) rfl rfl q571 (Or.inl rfl) (htX13_lead (78, .putfield 233, 3) (gx_m 44 rfl)) ?_
    refine gx_aload_n (pc := 81) (n := 0) (i := 0) rfl 0 rfl (htX13_lead (81, .aload_n 0, 1) (gx_m 45 rfl)) ?_
    refine gx_Jcv (pc := 82) (gx_hst (as := []) (b := gx_r 14 (some x0))) (gx_runV (as := []) (ci := 13) (ct_X13_forgetReads Y x0) (by decide) (Or.inl rfl) rfl rfl rfl rfl q866 q868 qs3 q113 q869 rfl dd_X13_forgetReads (by decide) (by decide) (Nat.le_of_ble_eq_true rfl) (htX13_lead (82, .invokevirtual 125, 3) (gx_m 46 rfl))) ?_
    refine gx_aload_n (pc := 85) (n := 0) (i := 0) rfl 0 rfl (htX13_lead (85, .aload_n 0, 1) (gx_m 47 rfl)) ?_
    refine gx_aload_n (pc := 86) (n := 0) (i := 0) rfl 0 rfl (htX13_lead (86, .aload_n 0, 1) (gx_m 48 rfl)) ?_
    refine gx_Jgs (pc := 87) (ci := 13) (kk := 0) (t2 := 3) (by decide) (by decide) rfl rfl rfl q546 (htX13_lead (87, .getfield 43, 3) (gx_m 49 rfl)) ?_
    refine gx_Jgs (pc := 90) (ci := 2) (kk := 0) (t2 := 4) (by decide) (by decide) rfl rfl rfl q402 (htX13_lead (90, .getfield 234, 3) (gx_m 50 rfl)) ?_
    refine gx_Jci (pc := 93) (gx_hst (as := []) (b := gx_r 4 (some [0, 0, 1]))) (gx_runV (as := []) (ci := 3) (ct_X3_empty Y [0, 0, 1]) (by decide) (Or.inl rfl) rfl rfl rfl rfl q1225 q1226 q1227 q103 q1228 rfl dd_X3_empty (by decide) (by decide) (Nat.le_of_ble_eq_true rfl) (htX13_lead (93, .invokevirtual 238, 3) (gx_m 51 rfl))) (fun v7 => ?_)
    refine gx_Jci (pc := 96) (gx_hst (as := [gx_i v7]) (b := gx_r 14 (some x0))) (gx_runV (as := [gx_i v7]) (ci := 13) (ct_X13_add Y x0 v7) (by decide) (Or.inl rfl) rfl rfl rfl rfl q1229 q1063 q1064 q113 q1065 rfl dd_X13_add (by decide) (by decide) (Nat.le_of_ble_eq_true rfl) (htX13_lead (96, .invokevirtual 243, 3) (gx_m 52 rfl))) (fun v8 => ?_)
    refine gx_pop (pc := 99) rfl (htX13_lead (99, .pop, 1) (gx_m 53 rfl)) ?_
    exact gx_Jvret (pc := 100) rfl (fun _ => trivial) (fun _ _ => rfl) (htX13_lead (100, .return_, 1) (gx_m 54 rfl))
  · refine gx_Jw (lv := [(0, gx_r 14 (some x0)), (1, gx_i 0)]) [1, 0] rfl ?_
    refine gx_Jlp (pc := 30) (lvh := fun (s4 : Int32) => [(0, gx_r 14 (some x0)), (1, gx_i s4)]) (fun s4 kl1 ha1 hb1 => ?_) _
    unfold lb_X13_lead_1
    refine gx_iload_n (pc := 30) (n := 1) (i := 1) rfl 1 rfl (htX13_lead (30, .iload_n 1, 1) (gx_m 16 rfl)) ?_
    refine gx_aload_n (pc := 31) (n := 0) (i := 0) rfl 0 rfl (htX13_lead (31, .aload_n 0, 1) (gx_m 17 rfl)) ?_
    refine gx_Jgs (pc := 32) (ci := 13) (kk := 0) (t2 := 3) (by decide) (by decide) rfl rfl rfl q546 (htX13_lead (32, .getfield 43, 3) (gx_m 18 rfl)) ?_
    refine gx_Jgi (pc := 35) (ci := 2) (kk := 4) (by decide) (Or.inl rfl) (by decide) (by decide) q414 (htX13_lead (35, .getfield 211, 3) (gx_m 19 rfl)) (fun v5 hv5 => ?_)
    refine gx_icmp_ge (pc := 38) (tgt := 76) (by decide) (htX13_lead (38, .if_icmp .ge 38, 3) (gx_m 20 rfl)) (fun c2 => ?_) (fun c2 => ?_)
    · refine gx_Jw (lv := [(0, gx_r 14 (some x0))]) [0] rfl ?_
      exact gx_Jout hb1 (hj1 () trivial)
    · refine gx_aload_n (pc := 41) (n := 0) (i := 0) rfl 0 rfl (htX13_lead (41, .aload_n 0, 1) (gx_m 21 rfl)) ?_
      refine gx_Jgs (pc := 42) (ci := 13) (kk := 17) (t2 := 100) (by decide) (by decide) rfl rfl rfl q572 (htX13_lead (42, .getfield 27, 3) (gx_m 22 rfl)) ?_
      refine gx_iload_n (pc := 45) (n := 1) (i := 1) rfl 1 rfl (htX13_lead (45, .iload_n 1, 1) (gx_m 23 rfl)) ?_
      refine gx_aload_n (pc := 46) (n := 0) (i := 0) rfl 0 rfl (htX13_lead (46, .aload_n 0, 1) (gx_m 24 rfl)) ?_
      refine gx_Jgs (pc := 47) (ci := 13) (kk := 5) (t2 := 16) (by decide) (by decide) rfl rfl rfl q554 (htX13_lead (47, .getfield 69, 3) (gx_m 25 rfl)) ?_
      refine gx_Jci (pc := 50) (gx_hst (as := []) (b := gx_r 16 (some (5 :: x0)))) (gx_runV (as := []) (ci := 15) (ct_X15_last Y (5 :: x0)) (by decide) (Or.inl rfl) rfl rfl rfl rfl q1071 q1072 q1073 q115 q1074 rfl dd_X15_last (by decide) (by decide) (Nat.le_of_ble_eq_true rfl) (htX13_lead (50, .invokevirtual 198, 3) (gx_m 26 rfl))) (fun v6 => ?_)
      refine gx_iconst (pc := 53) (v := 1) (by decide) (htX13_lead (53, .iconst 1, 1) (gx_m 27 rfl)) ?_
      refine gx_iadd (pc := 54) (htX13_lead (54, .iadd, 1) (gx_m 28 rfl)) ?_
      refine gx_Jis (pc := 55) (htX13_lead (55, .iastore, 1) (gx_m 29 rfl)) ?_
      refine gx_aload_n (pc := 56) (n := 0) (i := 0) rfl 0 rfl (htX13_lead (56, .aload_n 0, 1) (gx_m 30 rfl)) ?_
      refine gx_Jgs (pc := 57) (ci := 13) (kk := 18) (t2 := 100) (by decide) (by decide) rfl rfl rfl q573 (htX13_lead (57, .getfield 31, 3) (gx_m 31 rfl)) ?_
      refine gx_iload_n (pc := 60) (n := 1) (i := 1) rfl 1 rfl (htX13_lead (60, .iload_n 1, 1) (gx_m 32 rfl)) ?_
      refine gx_iconst (pc := 61) (v := 0) (by decide) (htX13_lead (61, .iconst 0, 1) (gx_m 33 rfl)) ?_
      refine gx_Jis (pc := 62) (htX13_lead (62, .iastore, 1) (gx_m 34 rfl)) ?_
      refine gx_aload_n (pc := 63) (n := 0) (i := 0) rfl 0 rfl (htX13_lead (63, .aload_n 0, 1) (gx_m 35 rfl)) ?_
      refine gx_Jgs (pc := 64) (ci := 13) (kk := 19) (t2 := 100) (by decide) (by decide) rfl rfl rfl q574 (htX13_lead (64, .getfield 34, 3) (gx_m 36 rfl)) ?_
      refine gx_iload_n (pc := 67) (n := 1) (i := 1) rfl 1 rfl (htX13_lead (67, .iload_n 1, 1) (gx_m 37 rfl)) ?_
      refine gx_iconst (pc := 68) (v := 0) (by decide) (htX13_lead (68, .iconst 0, 1) (gx_m 38 rfl)) ?_
      refine gx_Jis (pc := 69) (htX13_lead (69, .iastore, 1) (gx_m 39 rfl)) ?_
      refine gx_iinc (pc := 70) (i := 1) (j := 1) (v := (s4 + 1)) (lv' := [(1, gx_i (s4 + 1)), (0, gx_r 14 (some x0))]) rfl (gx_iv (by decide)) (by decide) rfl (htX13_lead (70, .iinc 1 1, 3) (gx_m 40 rfl)) ?_
      refine gx_goto (pc := 73) (tgt := 30) (by decide) (htX13_lead (73, .goto (-43), 3) (gx_m 41 rfl)) ?_
      refine gx_Jw (lv := [(0, gx_r 14 (some x0)), (1, gx_i (s4 + 1))]) [1, 0] rfl ?_
      exact ha1 ((s4 + 1) : Int32)
theorem ct_X13_stand (Y : gx_Y) (x0 : gx_Nm) : gx_Ct Y yX13_stand (ws_ yX13_stand cX13_stand 3 none) 9 275 [gx_r 14 (some x0)] gx_Ov (f_X13_stand x0) := by
  refine gx_start (lv := [(0, gx_r 14 (some x0))]) gx_Ov_r pn_X13 (Nat.le_of_ble_eq_true rfl) rfl ?_
  unfold f_X13_stand
  refine gx_aload_n (pc := 0) (n := 0) (i := 0) rfl 0 rfl (htX13_stand (0, .aload_n 0, 1) (gx_m 0 rfl)) ?_
  refine gx_aload_n (pc := 1) (n := 0) (i := 0) rfl 0 rfl (htX13_stand (1, .aload_n 0, 1) (gx_m 1 rfl)) ?_
  refine gx_Jgi (pc := 2) (ci := 13) (kk := 3) (by decide) (Or.inl rfl) (by decide) (by decide) q550 (htX13_stand (2, .getfield 103, 3) (gx_m 2 rfl)) (fun v1 hv1 => ?_)
  refine gx_iconst (pc := 5) (v := 1) (by decide) (htX13_stand (5, .iconst 1, 1) (gx_m 3 rfl)) ?_
  refine gx_iadd (pc := 6) (htX13_stand (6, .iadd, 1) (gx_m 4 rfl)) ?_
  refine gx_aload_n (pc := 7) (n := 0) (i := 0) rfl 0 rfl (htX13_stand (7, .aload_n 0, 1) (gx_m 5 rfl)) ?_
  refine gx_Jgi (pc := 8) (ci := 13) (kk := 1) (by decide) (Or.inl rfl) (by decide) (by decide) q547 (htX13_stand (8, .getfield 47, 3) (gx_m 6 rfl)) (fun v2 hv2 => ?_)
  refine gx_Jcv (pc := 11) (gx_hst (as := [gx_i (v1 + 1), gx_i v2]) (b := gx_r 14 (some x0))) (gx_runV (as := [gx_i (v1 + 1), gx_i v2]) (ci := 13) (ct_X13_setTerm Y x0 (v1 + 1) v2) (by decide) (Or.inl rfl) rfl rfl rfl rfl q1193 q1195 qs15 q113 q1196 rfl dd_X13_setTerm (by decide) (by decide) (Nat.le_of_ble_eq_true rfl) (htX13_stand (11, .invokevirtual 208, 3) (gx_m 7 rfl))) ?_
  refine gx_aload_n (pc := 14) (n := 0) (i := 0) rfl 0 rfl (htX13_stand (14, .aload_n 0, 1) (gx_m 8 rfl)) ?_
  refine gx_iconst (pc := 15) (v := 1) (by decide) (htX13_stand (15, .iconst 1, 1) (gx_m 9 rfl)) ?_
  refine gx_Jpi (pc := 16) (ci := 13) (kk := 8) (by decide) (Or.inl rfl) (by decide) rfl rfl q559 (Or.inl rfl) (htX13_stand (16, .putfield 113, 3) (gx_m 10 rfl)) ?_
  refine gx_aload_n (pc := 19) (n := 0) (i := 0) rfl 0 rfl (htX13_stand (19, .aload_n 0, 1) (gx_m 11 rfl)) ?_
  refine gx_iconst (pc := 20) (v := (-1)) (by decide) (htX13_stand (20, .iconst (-1), 1) (gx_m 12 rfl)) ?_
  refine gx_Jpi (pc := 21) (ci := 13) (kk := 9) (by decide) (Or.inl rfl) (by decide) rfl rfl q561 (Or.inl rfl) (htX13_stand (21, .putfield 116, 3) (gx_m 13 rfl)) ?_
  refine gx_aload_n (pc := 24) (n := 0) (i := 0) rfl 0 rfl (htX13_stand (24, .aload_n 0, 1) (gx_m 14 rfl)) ?_
  refine gx_iconst (pc := 25) (v := 1) (by decide) (htX13_stand (25, .iconst 1, 1) (gx_m 15 rfl)) ?_
  refine gx_aload_n (pc := 26) (n := 0) (i := 0) rfl 0 rfl (htX13_stand (26, .aload_n 0, 1) (gx_m 16 rfl)) ?_
  refine gx_Jgi (pc := 27) (ci := 13) (kk := 1) (by decide) (Or.inl rfl) (by decide) (by decide) q547 (htX13_stand (27, .getfield 47, 3) (gx_m 17 rfl)) (fun v3 hv3 => ?_)
  refine gx_ishl (pc := 30) (htX13_stand (30, .ishl, 1) (gx_m 18 rfl)) ?_
  refine gx_Jpi (pc := 31) (ci := 13) (kk := 15) (by decide) (Or.inl rfl) (by decide) rfl rfl q570 (Or.inl rfl) (htX13_stand (31, .putfield 122, 3) (gx_m 19 rfl)) ?_
  refine gx_iconst (pc := 34) (v := 0) (by decide) (htX13_stand (34, .iconst 0, 1) (gx_m 20 rfl)) ?_
  refine gx_istore_n (pc := 35) (n := 1) (i := 1) (lv' := [(1, gx_i 0), (0, gx_r 14 (some x0))]) rfl (by decide) rfl (htX13_stand (35, .istore_n 1, 1) (gx_m 21 rfl)) ?_
  refine gx_Jjoin (pcJ := 98) (lvJ := fun (j_1 : Unit) => [(0, gx_r 14 (some x0))]) (stJ := fun (j_1 : Unit) => []) (fun _ => True) (fun j_1 _ => ?_) (fun kk1 hj1 => ?_)
  · refine gx_aload_n (pc := 98) (n := 0) (i := 0) rfl 0 rfl (htX13_stand (98, .aload_n 0, 1) (gx_m 52 rfl)) ?_
    refine gx_aload_n (pc := 99) (n := 0) (i := 0) rfl 0 rfl (htX13_stand (99, .aload_n 0, 1) (gx_m 53 rfl)) ?_
    refine gx_Jgi (pc := 100) (ci := 13) (kk := 15) (by decide) (Or.inl rfl) (by decide) (by decide) q570 (htX13_stand (100, .getfield 122, 3) (gx_m 54 rfl)) (fun v10 hv10 => ?_)
    refine gx_Jcz (pc := 103) (gx_hst (as := [gx_i v10]) (b := gx_r 14 (some x0))) (gx_runV (as := [gx_i v10]) (ci := 13) (ct_X13_isMajority Y x0 v10) (by decide) (Or.inl rfl) rfl rfl rfl rfl q1207 q1209 qs16 q113 q1210 rfl dd_X13_isMajority (by decide) (by decide) (Nat.le_of_ble_eq_true rfl) (htX13_stand (103, .invokevirtual 223, 3) (gx_m 55 rfl))) (fun v11 hv11 => ?_)
    refine gx_Jjoin (pcJ := 113) (lvJ := fun (j_2 : Unit) => []) (stJ := fun (j_2 : Unit) => []) (fun _ => True) (fun j_2 hj_2 => ?_) (fun kk2 hj2 => ?_)
    · exact gx_Jvret (pc := 113) rfl (fun _ => trivial) (fun _ _ => rfl) (htX13_stand (113, .return_, 1) (gx_m 59 rfl))
    · refine gx_if_eq (pc := 106) (y := 0) (tgt := 113) (by decide) (htX13_stand (106, .ifCond .eq 7, 3) (gx_m 56 rfl)) (fun c3 => ?_) (fun c3 => ?_)
      · refine gx_Jw (lv := []) [] rfl ?_
        exact hj2 () trivial
      · refine gx_aload_n (pc := 109) (n := 0) (i := 0) rfl 0 rfl (htX13_stand (109, .aload_n 0, 1) (gx_m 57 rfl)) ?_
        refine gx_Jcv (pc := 110) (gx_hst (as := []) (b := gx_r 14 (some x0))) (gx_runV (as := []) (ci := 13) (ct_X13_lead Y x0) (by decide) (Or.inl rfl) rfl rfl rfl rfl q1211 q1213 qs17 q113 q1214 rfl dd_X13_lead (by decide) (by decide) (Nat.le_of_ble_eq_true rfl) (htX13_stand (110, .invokevirtual 227, 3) (gx_m 58 rfl))) ?_
        refine gx_Jw (lv := []) [] rfl ?_
        exact hj2 () trivial
  · refine gx_Jw (lv := [(0, gx_r 14 (some x0)), (1, gx_i 0)]) [1, 0] rfl ?_
    refine gx_Jlp (pc := 36) (lvh := fun (s4 : Int32) => [(0, gx_r 14 (some x0)), (1, gx_i s4)]) (fun s4 kl1 ha1 hb1 => ?_) _
    unfold lb_X13_stand_1
    refine gx_iload_n (pc := 36) (n := 1) (i := 1) rfl 1 rfl (htX13_stand (36, .iload_n 1, 1) (gx_m 22 rfl)) ?_
    refine gx_aload_n (pc := 37) (n := 0) (i := 0) rfl 0 rfl (htX13_stand (37, .aload_n 0, 1) (gx_m 23 rfl)) ?_
    refine gx_Jgs (pc := 38) (ci := 13) (kk := 0) (t2 := 3) (by decide) (by decide) rfl rfl rfl q546 (htX13_stand (38, .getfield 43, 3) (gx_m 24 rfl)) ?_
    refine gx_Jgi (pc := 41) (ci := 2) (kk := 4) (by decide) (Or.inl rfl) (by decide) (by decide) q414 (htX13_stand (41, .getfield 211, 3) (gx_m 25 rfl)) (fun v5 hv5 => ?_)
    refine gx_icmp_ge (pc := 44) (tgt := 98) (by decide) (htX13_stand (44, .if_icmp .ge 54, 3) (gx_m 26 rfl)) (fun c4 => ?_) (fun c4 => ?_)
    · refine gx_Jw (lv := [(0, gx_r 14 (some x0))]) [0] rfl ?_
      exact gx_Jout hb1 (hj1 () trivial)
    · refine gx_iload_n (pc := 47) (n := 1) (i := 1) rfl 1 rfl (htX13_stand (47, .iload_n 1, 1) (gx_m 27 rfl)) ?_
      refine gx_aload_n (pc := 48) (n := 0) (i := 0) rfl 0 rfl (htX13_stand (48, .aload_n 0, 1) (gx_m 28 rfl)) ?_
      refine gx_Jgi (pc := 49) (ci := 13) (kk := 1) (by decide) (Or.inl rfl) (by decide) (by decide) q547 (htX13_stand (49, .getfield 47, 3) (gx_m 29 rfl)) (fun v6 hv6 => ?_)
      refine gx_Jjoin (pcJ := 92) (lvJ := fun (j_5 : Unit) => [(0, gx_r 14 (some x0)), (1, gx_i s4)]) (stJ := fun (j_5 : Unit) => []) (fun _ => True) (fun j_5 hj_5 => ?_) (fun kk5 hj5 => ?_)
      · refine gx_iinc (pc := 92) (i := 1) (j := 1) (v := (s4 + 1)) (lv' := [(1, gx_i (s4 + 1)), (0, gx_r 14 (some x0))]) rfl (gx_iv (by decide)) (by decide) rfl (htX13_stand (92, .iinc 1 1, 3) (gx_m 50 rfl)) ?_
        refine gx_goto (pc := 95) (tgt := 36) (by decide) (htX13_stand (95, .goto (-59), 3) (gx_m 51 rfl)) ?_
        refine gx_Jw (lv := [(0, gx_r 14 (some x0)), (1, gx_i (s4 + 1))]) [1, 0] rfl ?_
        exact ha1 ((s4 + 1) : Int32)
      · refine gx_icmp_ne (pc := 52) (tgt := 58) (by decide) (htX13_stand (52, .if_icmp .ne 6, 3) (gx_m 30 rfl)) (fun c6 => ?_) (fun c6 => ?_)
        · refine gx_goto (pc := 55) (tgt := 92) (by decide) (htX13_stand (55, .goto 37, 3) (gx_m 31 rfl)) ?_
          exact hj5 () trivial
        · refine gx_aload_n (pc := 58) (n := 0) (i := 0) rfl 0 rfl (htX13_stand (58, .aload_n 0, 1) (gx_m 32 rfl)) ?_
          refine gx_iconst (pc := 59) (v := 1) (by decide) (htX13_stand (59, .iconst 1, 1) (gx_m 33 rfl)) ?_
          refine gx_iload_n (pc := 60) (n := 1) (i := 1) rfl 1 rfl (htX13_stand (60, .iload_n 1, 1) (gx_m 34 rfl)) ?_
          refine gx_Jcr (pc := 61) (t2 := 18) (gx_hst (as := [gx_i 1, gx_i s4]) (b := gx_r 14 (some x0))) (gx_runV (as := [gx_i 1, gx_i s4]) (ci := 13) (ct_X13_message Y x0 1 s4) (by decide) (Or.inl rfl) rfl rfl rfl rfl q1101 q1103 qs13 q113 q1104 rfl dd_X13_message (by decide) (by decide) (Nat.le_of_ble_eq_true rfl) (htX13_stand (61, .invokevirtual 214, 3) (gx_m 35 rfl))) (fun v7 => ?_)
          refine gx_astore_n (pc := 64) (n := 2) (i := 2) (lv' := [(2, gx_r 18 (some v7)), (0, gx_r 14 (some x0)), (1, gx_i s4)]) rfl (by decide) rfl (htX13_stand (64, .astore_n 2, 1) (gx_m 36 rfl)) ?_
          refine gx_aload_n (pc := 65) (n := 2) (i := 2) rfl 0 rfl (htX13_stand (65, .aload_n 2, 1) (gx_m 37 rfl)) ?_
          refine gx_aload_n (pc := 66) (n := 0) (i := 0) rfl 1 rfl (htX13_stand (66, .aload_n 0, 1) (gx_m 38 rfl)) ?_
          refine gx_Jgs (pc := 67) (ci := 13) (kk := 5) (t2 := 16) (by decide) (by decide) rfl rfl rfl q554 (htX13_stand (67, .getfield 69, 3) (gx_m 39 rfl)) ?_
          refine gx_Jci (pc := 70) (gx_hst (as := []) (b := gx_r 16 (some (5 :: x0)))) (gx_runV (as := []) (ci := 15) (ct_X15_last Y (5 :: x0)) (by decide) (Or.inl rfl) rfl rfl rfl rfl q1071 q1072 q1073 q115 q1074 rfl dd_X15_last (by decide) (by decide) (Nat.le_of_ble_eq_true rfl) (htX13_stand (70, .invokevirtual 198, 3) (gx_m 40 rfl))) (fun v8 => ?_)
          refine gx_Jpi (pc := 73) (ci := 17) (kk := 4) (by decide) (Or.inl rfl) (by decide) rfl rfl q1123 (Or.inl rfl) (htX13_stand (73, .putfield 169, 3) (gx_m 41 rfl)) ?_
          refine gx_aload_n (pc := 76) (n := 2) (i := 2) rfl 0 rfl (htX13_stand (76, .aload_n 2, 1) (gx_m 42 rfl)) ?_
          refine gx_aload_n (pc := 77) (n := 0) (i := 0) rfl 1 rfl (htX13_stand (77, .aload_n 0, 1) (gx_m 43 rfl)) ?_
          refine gx_Jgs (pc := 78) (ci := 13) (kk := 5) (t2 := 16) (by decide) (by decide) rfl rfl rfl q554 (htX13_stand (78, .getfield 69, 3) (gx_m 44 rfl)) ?_
          refine gx_Jci (pc := 81) (gx_hst (as := []) (b := gx_r 16 (some (5 :: x0)))) (gx_runV (as := []) (ci := 15) (ct_X15_lastTerm Y (5 :: x0)) (by decide) (Or.inl rfl) rfl rfl rfl rfl q1201 q1202 q1203 q115 q1204 rfl dd_X15_lastTerm (by decide) (by decide) (Nat.le_of_ble_eq_true rfl) (htX13_stand (81, .invokevirtual 218, 3) (gx_m 45 rfl))) (fun v9 => ?_)
          refine gx_Jpi (pc := 84) (ci := 17) (kk := 5) (by decide) (Or.inl rfl) (by decide) rfl rfl q1125 (Or.inl rfl) (htX13_stand (84, .putfield 172, 3) (gx_m 46 rfl)) ?_
          refine gx_aload_n (pc := 87) (n := 0) (i := 0) rfl 1 rfl (htX13_stand (87, .aload_n 0, 1) (gx_m 47 rfl)) ?_
          refine gx_aload_n (pc := 88) (n := 2) (i := 2) rfl 0 rfl (htX13_stand (88, .aload_n 2, 1) (gx_m 48 rfl)) ?_
          refine gx_Jcv (pc := 89) (gx_hst (as := [gx_r 18 (some v7)]) (b := gx_r 14 (some x0))) (gx_runV (as := [gx_r 18 (some v7)]) (ci := 13) (ct_X13_send Y x0 v7) (by decide) (Or.inl rfl) rfl rfl rfl rfl q1159 q1161 qs14 q113 q1162 rfl dd_X13_send (by decide) (by decide) (Nat.le_of_ble_eq_true rfl) (htX13_stand (89, .invokevirtual 221, 3) (gx_m 49 rfl))) ?_
          refine gx_Jw (lv := [(0, gx_r 14 (some x0)), (1, gx_i s4)]) [1, 2] rfl ?_
          exact hj5 () trivial
theorem ct_X5_shift (Y : gx_Y) (x0 : gx_Nm) (x1 : Int32) : gx_Ct Y yX5_shift (ws_ yX5_shift cX5_shift 3 none) 1 100 [gx_r 6 (some x0), gx_i x1] gx_Ov (f_X5_shift x0 x1) := by
  refine gx_start (lv := [(0, gx_r 6 (some x0)), (1, gx_i x1)]) gx_Ov_r pn_X5 (Nat.le_of_ble_eq_true rfl) rfl ?_
  unfold f_X5_shift
  refine gx_iload_n (pc := 0) (n := 1) (i := 1) rfl 1 rfl (htX5_shift (0, .iload_n 1, 1) (gx_m 0 rfl)) ?_
  refine gx_istore_n (pc := 1) (n := 2) (i := 2) (lv' := [(2, gx_i x1), (0, gx_r 6 (some x0)), (1, gx_i x1)]) rfl (by decide) rfl (htX5_shift (1, .istore_n 2, 1) (gx_m 1 rfl)) ?_
  refine gx_Jjoin (pcJ := 30) (lvJ := fun (j_1 : Unit) => [(0, gx_r 6 (some x0)), (1, gx_i x1)]) (stJ := fun (j_1 : Unit) => []) (fun _ => True) (fun j_1 _ => ?_) (fun kk1 hj1 => ?_)
  · refine gx_aload_n (pc := 30) (n := 0) (i := 0) rfl 0 rfl (htX5_shift (30, .aload_n 0, 1) (gx_m 18 rfl)) ?_
    refine gx_dup (pc := 31) rfl (htX5_shift (31, .dup, 1) (gx_m 19 rfl)) ?_
    refine gx_Jgi (pc := 32) (ci := 5) (kk := 1) (by decide) (Or.inl rfl) (by decide) (by decide) q176 (htX5_shift (32, .getfield 13, 3) (gx_m 20 rfl)) (fun v6 hv6 => ?_)
    refine gx_iload_n (pc := 35) (n := 1) (i := 1) rfl 1 rfl (htX5_shift (35, .iload_n 1, 1) (gx_m 21 rfl)) ?_
    refine gx_isub (pc := 36) (htX5_shift (36, .isub, 1) (gx_m 22 rfl)) ?_
    refine gx_Jpi (pc := 37) (ci := 5) (kk := 1) (by decide) (Or.inl rfl) (by decide) rfl rfl q176 (Or.inl rfl) (htX5_shift (37, .putfield 13, 3) (gx_m 23 rfl)) ?_
    exact gx_Jvret (pc := 40) rfl (fun _ => trivial) (fun _ _ => rfl) (htX5_shift (40, .return_, 1) (gx_m 24 rfl))
  · refine gx_Jw (lv := [(0, gx_r 6 (some x0)), (1, gx_i x1), (2, gx_i x1)]) [1, 2, 0] rfl ?_
    refine gx_Jlp (pc := 2) (lvh := fun (s1 : Int32) => [(0, gx_r 6 (some x0)), (1, gx_i x1), (2, gx_i s1)]) (fun s1 kl1 ha1 hb1 => ?_) _
    unfold lb_X5_shift_1
    refine gx_iload_n (pc := 2) (n := 2) (i := 2) rfl 2 rfl (htX5_shift (2, .iload_n 2, 1) (gx_m 2 rfl)) ?_
    refine gx_aload_n (pc := 3) (n := 0) (i := 0) rfl 0 rfl (htX5_shift (3, .aload_n 0, 1) (gx_m 3 rfl)) ?_
    refine gx_Jgi (pc := 4) (ci := 5) (kk := 1) (by decide) (Or.inl rfl) (by decide) (by decide) q176 (htX5_shift (4, .getfield 13, 3) (gx_m 4 rfl)) (fun v2 hv2 => ?_)
    refine gx_icmp_ge (pc := 7) (tgt := 30) (by decide) (htX5_shift (7, .if_icmp .ge 23, 3) (gx_m 5 rfl)) (fun c2 => ?_) (fun c2 => ?_)
    · refine gx_Jw (lv := [(0, gx_r 6 (some x0)), (1, gx_i x1)]) [0, 1] rfl ?_
      exact gx_Jout hb1 (hj1 () trivial)
    · refine gx_aload_n (pc := 10) (n := 0) (i := 0) rfl 0 rfl (htX5_shift (10, .aload_n 0, 1) (gx_m 6 rfl)) ?_
      refine gx_Jgr (pc := 11) (ci := 5) (kk := 0) (t2 := 100) (by decide) (Or.inl rfl) (by decide) rfl rfl q175 (htX5_shift (11, .getfield 7, 3) (gx_m 7 rfl)) (fun v3 => ?_)
      refine gx_iload_n (pc := 14) (n := 2) (i := 2) rfl 2 rfl (htX5_shift (14, .iload_n 2, 1) (gx_m 8 rfl)) ?_
      refine gx_iload_n (pc := 15) (n := 1) (i := 1) rfl 1 rfl (htX5_shift (15, .iload_n 1, 1) (gx_m 9 rfl)) ?_
      refine gx_isub (pc := 16) (htX5_shift (16, .isub, 1) (gx_m 10 rfl)) ?_
      refine gx_aload_n (pc := 17) (n := 0) (i := 0) rfl 0 rfl (htX5_shift (17, .aload_n 0, 1) (gx_m 11 rfl)) ?_
      refine gx_Jgr (pc := 18) (ci := 5) (kk := 0) (t2 := 100) (by decide) (Or.inl rfl) (by decide) rfl rfl q175 (htX5_shift (18, .getfield 7, 3) (gx_m 12 rfl)) (fun v4 => ?_)
      refine gx_iload_n (pc := 21) (n := 2) (i := 2) rfl 2 rfl (htX5_shift (21, .iload_n 2, 1) (gx_m 13 rfl)) ?_
      refine gx_Jia (pc := 22) (htX5_shift (22, .iaload, 1) (gx_m 14 rfl)) (fun v5 => ?_)
      refine gx_Jis (pc := 23) (htX5_shift (23, .iastore, 1) (gx_m 15 rfl)) ?_
      refine gx_iinc (pc := 24) (i := 2) (j := 2) (v := (s1 + 1)) (lv' := [(2, gx_i (s1 + 1)), (0, gx_r 6 (some x0)), (1, gx_i x1)]) rfl (gx_iv (by decide)) (by decide) rfl (htX5_shift (24, .iinc 2 1, 3) (gx_m 16 rfl)) ?_
      refine gx_goto (pc := 27) (tgt := 2) (by decide) (htX5_shift (27, .goto (-25), 3) (gx_m 17 rfl)) ?_
      refine gx_Jw (lv := [(0, gx_r 6 (some x0)), (1, gx_i x1), (2, gx_i (s1 + 1))]) [1, 2, 0] rfl ?_
      exact ha1 ((s1 + 1) : Int32)
theorem ct_X15_snapshot (Y : gx_Y) (x0 : gx_Nm) (x1 : Int32) (x2 : Int32) (x3 : Int32) : gx_Ct Y yX15_snapshot (ws_ yX15_snapshot cX15_snapshot 4 none) 3 142 [gx_r 16 (some x0), gx_i x1, gx_i x2, gx_i x3] gx_Ov (f_X15_snapshot x0 x1 x2 x3) := by
  refine gx_start (lv := [(0, gx_r 16 (some x0)), (1, gx_i x1), (2, gx_i x2), (3, gx_i x3)]) gx_Ov_r pn_X15 (Nat.le_of_ble_eq_true rfl) rfl ?_
  unfold f_X15_snapshot
  refine gx_iload_n (pc := 0) (n := 1) (i := 1) rfl 1 rfl (htX15_snapshot (0, .iload_n 1, 1) (gx_m 0 rfl)) ?_
  refine gx_aload_n (pc := 1) (n := 0) (i := 0) rfl 0 rfl (htX15_snapshot (1, .aload_n 0, 1) (gx_m 1 rfl)) ?_
  refine gx_Jgi (pc := 2) (ci := 15) (kk := 1) (by decide) (Or.inl rfl) (by decide) (by decide) q506 (htX15_snapshot (2, .getfield 22, 3) (gx_m 2 rfl)) (fun v1 hv1 => ?_)
  refine gx_Jjoin (pcJ := 48) (lvJ := fun (j_1 : Unit) => [(0, gx_r 16 (some x0)), (1, gx_i x1), (2, gx_i x2), (3, gx_i x3)]) (stJ := fun (j_1 : Unit) => []) (fun _ => True) (fun j_1 hj_1 => ?_) (fun kk1 hj1 => ?_)
  · refine gx_aload_n (pc := 48) (n := 0) (i := 0) rfl 0 rfl (htX15_snapshot (48, .aload_n 0, 1) (gx_m 24 rfl)) ?_
    refine gx_iload_n (pc := 49) (n := 1) (i := 1) rfl 1 rfl (htX15_snapshot (49, .iload_n 1, 1) (gx_m 25 rfl)) ?_
    refine gx_Jpi (pc := 50) (ci := 15) (kk := 1) (by decide) (Or.inl rfl) (by decide) rfl rfl q506 (Or.inl rfl) (htX15_snapshot (50, .putfield 22, 3) (gx_m 26 rfl)) ?_
    refine gx_aload_n (pc := 53) (n := 0) (i := 0) rfl 0 rfl (htX15_snapshot (53, .aload_n 0, 1) (gx_m 27 rfl)) ?_
    refine gx_iload_n (pc := 54) (n := 2) (i := 2) rfl 2 rfl (htX15_snapshot (54, .iload_n 2, 1) (gx_m 28 rfl)) ?_
    refine gx_Jpi (pc := 55) (ci := 15) (kk := 2) (by decide) (Or.inl rfl) (by decide) rfl rfl q509 (Or.inl rfl) (htX15_snapshot (55, .putfield 26, 3) (gx_m 29 rfl)) ?_
    refine gx_aload_n (pc := 58) (n := 0) (i := 0) rfl 0 rfl (htX15_snapshot (58, .aload_n 0, 1) (gx_m 30 rfl)) ?_
    refine gx_iload_n (pc := 59) (n := 3) (i := 3) rfl 3 rfl (htX15_snapshot (59, .iload_n 3, 1) (gx_m 31 rfl)) ?_
    refine gx_Jpi (pc := 60) (ci := 15) (kk := 3) (by decide) (Or.inl rfl) (by decide) rfl rfl q511 (Or.inl rfl) (htX15_snapshot (60, .putfield 29, 3) (gx_m 32 rfl)) ?_
    exact gx_Jvret (pc := 63) rfl (fun _ => trivial) (fun _ _ => rfl) (htX15_snapshot (63, .return_, 1) (gx_m 33 rfl))
  · refine gx_Jcond (pcT := 25) (pcE := 41) (lv2 := [(0, gx_r 16 (some x0)), (1, gx_i x1), (2, gx_i x2), (3, gx_i x3)]) (st2 := []) ?_ ?_ (fun kk2 hT2 hE2 => ?_)
    · refine gx_aload_n (pc := 25) (n := 0) (i := 0) rfl 0 rfl (htX15_snapshot (25, .aload_n 0, 1) (gx_m 13 rfl)) ?_
      refine gx_Jgs (pc := 26) (ci := 15) (kk := 4) (t2 := 6) (by decide) (by decide) rfl rfl rfl q513 (htX15_snapshot (26, .getfield 12, 3) (gx_m 14 rfl)) ?_
      refine gx_iload_n (pc := 29) (n := 1) (i := 1) rfl 1 rfl (htX15_snapshot (29, .iload_n 1, 1) (gx_m 15 rfl)) ?_
      refine gx_aload_n (pc := 30) (n := 0) (i := 0) rfl 0 rfl (htX15_snapshot (30, .aload_n 0, 1) (gx_m 16 rfl)) ?_
      refine gx_Jgi (pc := 31) (ci := 15) (kk := 1) (by decide) (Or.inl rfl) (by decide) (by decide) q506 (htX15_snapshot (31, .getfield 22, 3) (gx_m 17 rfl)) (fun v5 hv5 => ?_)
      refine gx_isub (pc := 34) (htX15_snapshot (34, .isub, 1) (gx_m 18 rfl)) ?_
      refine gx_Jcv (pc := 35) (gx_hst (as := [gx_i (x1 - v5)]) (b := gx_r 6 (some (4 :: x0)))) (gx_runV (as := [gx_i (x1 - v5)]) (ci := 5) (ct_X5_shift Y (4 :: x0) (x1 - v5)) (by decide) (Or.inl rfl) rfl rfl rfl rfl q1259 q1260 q1261 q105 q1262 rfl dd_X5_shift (by decide) (by decide) (Nat.le_of_ble_eq_true rfl) (htX15_snapshot (35, .invokevirtual 61, 3) (gx_m 19 rfl))) ?_
      refine gx_goto (pc := 38) (tgt := 48) (by decide) (htX15_snapshot (38, .goto 10, 3) (gx_m 20 rfl)) ?_
      exact hj1 () trivial
    · refine gx_aload_n (pc := 41) (n := 0) (i := 0) rfl 0 rfl (htX15_snapshot (41, .aload_n 0, 1) (gx_m 21 rfl)) ?_
      refine gx_Jgs (pc := 42) (ci := 15) (kk := 4) (t2 := 6) (by decide) (by decide) rfl rfl rfl q513 (htX15_snapshot (42, .getfield 12, 3) (gx_m 22 rfl)) ?_
      refine gx_Jcv (pc := 45) (gx_hst (as := []) (b := gx_r 6 (some (4 :: x0)))) (gx_runV (as := []) (ci := 5) (ct_X5_clear Y (4 :: x0)) (by decide) (Or.inl rfl) rfl rfl rfl rfl q840 q638 q639 q105 q640 rfl dd_X5_clear (by decide) (by decide) (Nat.le_of_ble_eq_true rfl) (htX15_snapshot (45, .invokevirtual 32, 3) (gx_m 23 rfl))) ?_
      exact hj1 () trivial
    · refine gx_icmp_le (pc := 5) (tgt := 41) (by decide) (htX15_snapshot (5, .if_icmp .le 36, 3) (gx_m 3 rfl)) (fun c3 => ?_) (fun c3 => ?_)
      · exact hE2
      · refine gx_iload_n (pc := 8) (n := 1) (i := 1) rfl 1 rfl (htX15_snapshot (8, .iload_n 1, 1) (gx_m 4 rfl)) ?_
        refine gx_aload_n (pc := 9) (n := 0) (i := 0) rfl 0 rfl (htX15_snapshot (9, .aload_n 0, 1) (gx_m 5 rfl)) ?_
        refine gx_Jci (pc := 10) (gx_hst (as := []) (b := gx_r 16 (some x0))) (gx_runV (as := []) (ci := 15) (ct_X15_last Y x0) (by decide) (Or.inl rfl) rfl rfl rfl rfl q1205 q1072 q1073 q115 q1074 rfl dd_X15_last (by decide) (by decide) (Nat.le_of_ble_eq_true rfl) (htX15_snapshot (10, .invokevirtual 51, 3) (gx_m 6 rfl))) (fun v2 => ?_)
        refine gx_icmp_gt (pc := 13) (tgt := 41) (by decide) (htX15_snapshot (13, .if_icmp .gt 28, 3) (gx_m 7 rfl)) (fun c4 => ?_) (fun c4 => ?_)
        · exact hE2
        · refine gx_aload_n (pc := 16) (n := 0) (i := 0) rfl 0 rfl (htX15_snapshot (16, .aload_n 0, 1) (gx_m 8 rfl)) ?_
          refine gx_iload_n (pc := 17) (n := 1) (i := 1) rfl 1 rfl (htX15_snapshot (17, .iload_n 1, 1) (gx_m 9 rfl)) ?_
          refine gx_Jci (pc := 18) (gx_hst (as := [gx_i x1]) (b := gx_r 16 (some x0))) (gx_runV (as := [gx_i x1]) (ci := 15) (ct_X15_term Y x0 x1) (by decide) (Or.inl rfl) rfl rfl rfl rfl q1206 q1174 q1175 q115 q1176 rfl dd_X15_term (by decide) (by decide) (Nat.le_of_ble_eq_true rfl) (htX15_snapshot (18, .invokevirtual 55, 3) (gx_m 10 rfl))) (fun v3 => ?_)
          refine gx_iload_n (pc := 21) (n := 2) (i := 2) rfl 2 rfl (htX15_snapshot (21, .iload_n 2, 1) (gx_m 11 rfl)) ?_
          refine gx_icmp_ne (pc := 22) (tgt := 41) (by decide) (htX15_snapshot (22, .if_icmp .ne 19, 3) (gx_m 12 rfl)) (fun c5 => ?_) (fun c5 => ?_)
          · exact hT2
          · exact hE2
theorem ct_X14_keep (Y : gx_Y) (x0 : gx_Nm) (x1 : Int32) : gx_Ct Y yX14_keep (ws_ yX14_keep cX14_keep 5 none) 4 165 [gx_r 15 (some x0), gx_i x1] gx_Ov (f_X14_keep x0 x1) := by
  refine gx_start (lv := [(0, gx_r 15 (some x0)), (1, gx_i x1)]) gx_Ov_r pn_X14 (Nat.le_of_ble_eq_true rfl) rfl ?_
  unfold f_X14_keep
  refine gx_iconst (pc := 0) (v := 0) (by decide) (htX14_keep (0, .iconst 0, 1) (gx_m 0 rfl)) ?_
  refine gx_istore_n (pc := 1) (n := 2) (i := 2) (lv' := [(2, gx_i 0), (0, gx_r 15 (some x0)), (1, gx_i x1)]) rfl (by decide) rfl (htX14_keep (1, .istore_n 2, 1) (gx_m 1 rfl)) ?_
  refine gx_Jjoin (pcJ := 121) (lvJ := fun (j_1 : Unit) => [(0, gx_r 15 (some x0))]) (stJ := fun (j_1 : Unit) => []) (fun _ => True) (fun j_1 _ => ?_) (fun kk1 hj1 => ?_)
  · refine gx_aload_n (pc := 121) (n := 0) (i := 0) rfl 0 rfl (htX14_keep (121, .aload_n 0, 1) (gx_m 52 rfl)) ?_
    refine gx_Jgs (pc := 122) (ci := 14) (kk := 3) (t2 := 6) (by decide) (by decide) rfl rfl rfl q534 (htX14_keep (122, .getfield 12, 3) (gx_m 53 rfl)) ?_
    refine gx_Jcv (pc := 125) (gx_hst (as := []) (b := gx_r 6 (some (3 :: x0)))) (gx_runV (as := []) (ci := 5) (ct_X5_clear Y (3 :: x0)) (by decide) (Or.inl rfl) rfl rfl rfl rfl q841 q638 q639 q105 q640 rfl dd_X5_clear (by decide) (by decide) (Nat.le_of_ble_eq_true rfl) (htX14_keep (125, .invokevirtual 37, 3) (gx_m 54 rfl))) ?_
    exact gx_Jvret (pc := 128) rfl (fun _ => trivial) (fun _ _ => rfl) (htX14_keep (128, .return_, 1) (gx_m 55 rfl))
  · refine gx_Jw (lv := [(0, gx_r 15 (some x0)), (1, gx_i x1), (2, gx_i 0)]) [1, 2, 0] rfl ?_
    refine gx_Jlp (pc := 2) (lvh := fun (s1 : Int32) => [(0, gx_r 15 (some x0)), (1, gx_i x1), (2, gx_i s1)]) (fun s1 kl1 ha1 hb1 => ?_) _
    unfold lb_X14_keep_1
    refine gx_iload_n (pc := 2) (n := 2) (i := 2) rfl 2 rfl (htX14_keep (2, .iload_n 2, 1) (gx_m 2 rfl)) ?_
    refine gx_iload_n (pc := 3) (n := 1) (i := 1) rfl 1 rfl (htX14_keep (3, .iload_n 1, 1) (gx_m 3 rfl)) ?_
    refine gx_iconst (pc := 4) (v := 4) (by decide) (htX14_keep (4, .iconst 4, 1) (gx_m 4 rfl)) ?_
    refine gx_imul (pc := 5) (htX14_keep (5, .imul, 1) (gx_m 5 rfl)) ?_
    refine gx_icmp_ge (pc := 6) (tgt := 121) (by decide) (htX14_keep (6, .if_icmp .ge 115, 3) (gx_m 6 rfl)) (fun c2 => ?_) (fun c2 => ?_)
    · refine gx_Jw (lv := [(0, gx_r 15 (some x0))]) [0] rfl ?_
      exact gx_Jout hb1 (hj1 () trivial)
    · refine gx_aload_n (pc := 9) (n := 0) (i := 0) rfl 0 rfl (htX14_keep (9, .aload_n 0, 1) (gx_m 7 rfl)) ?_
      refine gx_Jgs (pc := 10) (ci := 14) (kk := 3) (t2 := 6) (by decide) (by decide) rfl rfl rfl q534 (htX14_keep (10, .getfield 12, 3) (gx_m 8 rfl)) ?_
      refine gx_iload_n (pc := 13) (n := 2) (i := 2) rfl 2 rfl (htX14_keep (13, .iload_n 2, 1) (gx_m 9 rfl)) ?_
      refine gx_iconst (pc := 14) (v := 1) (by decide) (htX14_keep (14, .iconst 1, 1) (gx_m 10 rfl)) ?_
      refine gx_iadd (pc := 15) (htX14_keep (15, .iadd, 1) (gx_m 11 rfl)) ?_
      refine gx_Jci (pc := 16) (gx_hst (as := [gx_i (s1 + 1)]) (b := gx_r 6 (some (3 :: x0)))) (gx_runV (as := [gx_i (s1 + 1)]) (ci := 5) (ct_X5_get Y (3 :: x0) (s1 + 1)) (by decide) (Or.inl rfl) rfl rfl rfl rfl q1253 q668 q669 q105 q670 rfl dd_X5_get (by decide) (by decide) (Nat.le_of_ble_eq_true rfl) (htX14_keep (16, .invokevirtual 48, 3) (gx_m 12 rfl))) (fun v2 => ?_)
      refine gx_istore_n (pc := 19) (n := 3) (i := 3) (lv' := [(3, gx_i v2), (0, gx_r 15 (some x0)), (1, gx_i x1), (2, gx_i s1)]) rfl (by decide) rfl (htX14_keep (19, .istore_n 3, 1) (gx_m 13 rfl)) ?_
      refine gx_aload_n (pc := 20) (n := 0) (i := 0) rfl 1 rfl (htX14_keep (20, .aload_n 0, 1) (gx_m 14 rfl)) ?_
      refine gx_Jgs (pc := 21) (ci := 14) (kk := 3) (t2 := 6) (by decide) (by decide) rfl rfl rfl q534 (htX14_keep (21, .getfield 12, 3) (gx_m 15 rfl)) ?_
      refine gx_iload_n (pc := 24) (n := 2) (i := 2) rfl 3 rfl (htX14_keep (24, .iload_n 2, 1) (gx_m 16 rfl)) ?_
      refine gx_iconst (pc := 25) (v := 2) (by decide) (htX14_keep (25, .iconst 2, 1) (gx_m 17 rfl)) ?_
      refine gx_iadd (pc := 26) (htX14_keep (26, .iadd, 1) (gx_m 18 rfl)) ?_
      refine gx_Jci (pc := 27) (gx_hst (as := [gx_i (s1 + 2)]) (b := gx_r 6 (some (3 :: x0)))) (gx_runV (as := [gx_i (s1 + 2)]) (ci := 5) (ct_X5_get Y (3 :: x0) (s1 + 2)) (by decide) (Or.inl rfl) rfl rfl rfl rfl q1253 q668 q669 q105 q670 rfl dd_X5_get (by decide) (by decide) (Nat.le_of_ble_eq_true rfl) (htX14_keep (27, .invokevirtual 48, 3) (gx_m 19 rfl))) (fun v3 => ?_)
      refine gx_istore (pc := 30) (i := 4) (lv' := [(4, gx_i v3), (3, gx_i v2), (0, gx_r 15 (some x0)), (1, gx_i x1), (2, gx_i s1)]) (by decide) rfl (htX14_keep (30, .istore 4, 2) (gx_m 20 rfl)) ?_
      refine gx_aload_n (pc := 32) (n := 0) (i := 0) rfl 2 rfl (htX14_keep (32, .aload_n 0, 1) (gx_m 21 rfl)) ?_
      refine gx_Jgs (pc := 33) (ci := 14) (kk := 3) (t2 := 6) (by decide) (by decide) rfl rfl rfl q534 (htX14_keep (33, .getfield 12, 3) (gx_m 22 rfl)) ?_
      refine gx_iload_n (pc := 36) (n := 2) (i := 2) rfl 4 rfl (htX14_keep (36, .iload_n 2, 1) (gx_m 23 rfl)) ?_
      refine gx_Jci (pc := 37) (gx_hst (as := [gx_i s1]) (b := gx_r 6 (some (3 :: x0)))) (gx_runV (as := [gx_i s1]) (ci := 5) (ct_X5_get Y (3 :: x0) s1) (by decide) (Or.inl rfl) rfl rfl rfl rfl q1253 q668 q669 q105 q670 rfl dd_X5_get (by decide) (by decide) (Nat.le_of_ble_eq_true rfl) (htX14_keep (37, .invokevirtual 48, 3) (gx_m 24 rfl))) (fun v4 => ?_)
      refine gx_Jjoin (pcJ := 115) (lvJ := fun (j_3 : Unit) => [(0, gx_r 15 (some x0)), (1, gx_i x1), (2, gx_i s1)]) (stJ := fun (j_3 : Unit) => []) (fun _ => True) (fun j_3 hj_3 => ?_) (fun kk3 hj3 => ?_)
      · refine gx_iinc (pc := 115) (i := 2) (j := 2) (v := (s1 + 4)) (lv' := [(2, gx_i (s1 + 4)), (0, gx_r 15 (some x0)), (1, gx_i x1)]) rfl (gx_iv (by decide)) (by decide) rfl (htX14_keep (115, .iinc 2 4, 3) (gx_m 50 rfl)) ?_
        refine gx_goto (pc := 118) (tgt := 2) (by decide) (htX14_keep (118, .goto (-116), 3) (gx_m 51 rfl)) ?_
        refine gx_Jw (lv := [(0, gx_r 15 (some x0)), (1, gx_i x1), (2, gx_i (s1 + 4))]) [1, 2, 0] rfl ?_
        exact ha1 ((s1 + 4) : Int32)
      · refine gx_Jite (fun c4 => ?_) (fun c4 => ?_)
        · refine gx_Jlook (pc := 40) (tgt := 68) (htX14_keep (40, .lookupswitch 55 #[(0, 28), (1, 42)], 28) (gx_m 25 rfl)) (by decide) (by rw [c4]; try rfl) (by decide) ?_
          refine gx_aload_n (pc := 68) (n := 0) (i := 0) rfl 2 rfl (htX14_keep (68, .aload_n 0, 1) (gx_m 26 rfl)) ?_
          refine gx_iload_n (pc := 69) (n := 3) (i := 3) rfl 1 rfl (htX14_keep (69, .iload_n 3, 1) (gx_m 27 rfl)) ?_
          refine gx_Jpi (pc := 70) (ci := 14) (kk := 0) (by decide) (Or.inl rfl) (by decide) rfl rfl q525 (Or.inl rfl) (htX14_keep (70, .putfield 27, 3) (gx_m 28 rfl)) ?_
          refine gx_aload_n (pc := 73) (n := 0) (i := 0) rfl 2 rfl (htX14_keep (73, .aload_n 0, 1) (gx_m 29 rfl)) ?_
          refine gx_iload (pc := 74) (i := 4) 0 rfl (htX14_keep (74, .iload 4, 2) (gx_m 30 rfl)) ?_
          refine gx_Jpi (pc := 76) (ci := 14) (kk := 1) (by decide) (Or.inl rfl) (by decide) rfl rfl q528 (Or.inl rfl) (htX14_keep (76, .putfield 31, 3) (gx_m 31 rfl)) ?_
          refine gx_goto (pc := 79) (tgt := 115) (by decide) (htX14_keep (79, .goto 36, 3) (gx_m 32 rfl)) ?_
          refine gx_Jw (lv := [(0, gx_r 15 (some x0)), (1, gx_i x1), (2, gx_i s1)]) [2, 3, 4] rfl ?_
          exact hj3 () trivial
        · refine gx_Jite (fun c5 => ?_) (fun c5 => ?_)
          · refine gx_Jlook (pc := 40) (tgt := 82) (htX14_keep (40, .lookupswitch 55 #[(0, 28), (1, 42)], 28) (gx_m 25 rfl)) (by decide) (by rw [c5]; try rfl) (by decide) ?_
            refine gx_aload_n (pc := 82) (n := 0) (i := 0) rfl 2 rfl (htX14_keep (82, .aload_n 0, 1) (gx_m 33 rfl)) ?_
            refine gx_Jgs (pc := 83) (ci := 14) (kk := 2) (t2 := 16) (by decide) (by decide) rfl rfl rfl q531 (htX14_keep (83, .getfield 23, 3) (gx_m 34 rfl)) ?_
            refine gx_iload_n (pc := 86) (n := 3) (i := 3) rfl 1 rfl (htX14_keep (86, .iload_n 3, 1) (gx_m 35 rfl)) ?_
            refine gx_iload (pc := 87) (i := 4) 0 rfl (htX14_keep (87, .iload 4, 2) (gx_m 36 rfl)) ?_
            refine gx_Jcv (pc := 89) (gx_hst (as := [gx_i v2, gx_i v3]) (b := gx_r 16 (some (2 :: x0)))) (gx_runV (as := [gx_i v2, gx_i v3]) (ci := 15) (ct_X15_put Y (2 :: x0) v2 v3) (by decide) (Or.inl rfl) rfl rfl rfl rfl q1254 q1080 q1081 q115 q1082 rfl dd_X15_put (by decide) (by decide) (Nat.le_of_ble_eq_true rfl) (htX14_keep (89, .invokevirtual 52, 3) (gx_m 37 rfl))) ?_
            refine gx_goto (pc := 92) (tgt := 115) (by decide) (htX14_keep (92, .goto 23, 3) (gx_m 38 rfl)) ?_
            refine gx_Jw (lv := [(0, gx_r 15 (some x0)), (1, gx_i x1), (2, gx_i s1)]) [2, 3, 4] rfl ?_
            exact hj3 () trivial
          · refine gx_Jlook (pc := 40) (tgt := 95) (off := 55) (htX14_keep (40, .lookupswitch 55 #[(0, 28), (1, 42)], 28) (gx_m 25 rfl)) (by decide) (show Op.lookupswitch.offset [(0, 28), (1, 42)] (55) _ = 55 from by rw [lv_osw (a := 0) c4 (by decide), lv_osw (a := 1) c5 (by decide)]; try rfl) (by decide) ?_
            refine gx_aload_n (pc := 95) (n := 0) (i := 0) rfl 2 rfl (htX14_keep (95, .aload_n 0, 1) (gx_m 39 rfl)) ?_
            refine gx_Jgs (pc := 96) (ci := 14) (kk := 2) (t2 := 16) (by decide) (by decide) rfl rfl rfl q531 (htX14_keep (96, .getfield 23, 3) (gx_m 40 rfl)) ?_
            refine gx_iload_n (pc := 99) (n := 3) (i := 3) rfl 1 rfl (htX14_keep (99, .iload_n 3, 1) (gx_m 41 rfl)) ?_
            refine gx_iload (pc := 100) (i := 4) 0 rfl (htX14_keep (100, .iload 4, 2) (gx_m 42 rfl)) ?_
            refine gx_aload_n (pc := 102) (n := 0) (i := 0) rfl 2 rfl (htX14_keep (102, .aload_n 0, 1) (gx_m 43 rfl)) ?_
            refine gx_Jgs (pc := 103) (ci := 14) (kk := 3) (t2 := 6) (by decide) (by decide) rfl rfl rfl q534 (htX14_keep (103, .getfield 12, 3) (gx_m 44 rfl)) ?_
            refine gx_iload_n (pc := 106) (n := 2) (i := 2) rfl 4 rfl (htX14_keep (106, .iload_n 2, 1) (gx_m 45 rfl)) ?_
            refine gx_iconst (pc := 107) (v := 3) (by decide) (htX14_keep (107, .iconst 3, 1) (gx_m 46 rfl)) ?_
            refine gx_iadd (pc := 108) (htX14_keep (108, .iadd, 1) (gx_m 47 rfl)) ?_
            refine gx_Jci (pc := 109) (gx_hst (as := [gx_i (s1 + 3)]) (b := gx_r 6 (some (3 :: x0)))) (gx_runV (as := [gx_i (s1 + 3)]) (ci := 5) (ct_X5_get Y (3 :: x0) (s1 + 3)) (by decide) (Or.inl rfl) rfl rfl rfl rfl q1253 q668 q669 q105 q670 rfl dd_X5_get (by decide) (by decide) (Nat.le_of_ble_eq_true rfl) (htX14_keep (109, .invokevirtual 48, 3) (gx_m 48 rfl))) (fun v5 => ?_)
            refine gx_Jcv (pc := 112) (gx_hst (as := [gx_i v2, gx_i v3, gx_i v5]) (b := gx_r 16 (some (2 :: x0)))) (gx_runV (as := [gx_i v2, gx_i v3, gx_i v5]) (ci := 15) (ct_X15_snapshot Y (2 :: x0) v2 v3 v5) (by decide) (Or.inl rfl) rfl rfl rfl rfl q1255 q1256 q1257 q115 q1258 rfl dd_X15_snapshot (by decide) (by decide) (Nat.le_of_ble_eq_true rfl) (htX14_keep (112, .invokevirtual 56, 3) (gx_m 49 rfl))) ?_
            refine gx_Jw (lv := [(0, gx_r 15 (some x0)), (1, gx_i x1), (2, gx_i s1)]) [2, 3, 4] rfl ?_
            exact hj3 () trivial
theorem ct_X11_get (Y : gx_Y) (x0 : gx_Nm) (x1 : Int32) : gx_Ct Y yX11_get (ws_ yX11_get cX11_get 2 (some (.object "CouncilStore$Message"))) 1 100 [gx_r 12 (some x0), gx_i x1] (gx_Or Y 18) (f_X11_get x0 x1) := by
  refine gx_start (lv := [(0, gx_r 12 (some x0)), (1, gx_i x1)]) gx_Or_r pn_X11 (Nat.le_of_ble_eq_true rfl) rfl ?_
  unfold f_X11_get
  refine gx_aload_n (pc := 0) (n := 0) (i := 0) rfl 0 rfl (htX11_get (0, .aload_n 0, 1) (gx_m 0 rfl)) ?_
  refine gx_Jgr (pc := 1) (ci := 11) (kk := 0) (t2 := 108) (by decide) (Or.inl rfl) (by decide) rfl rfl q378 (htX11_get (1, .getfield 9, 3) (gx_m 1 rfl)) (fun v1 => ?_)
  refine gx_iload_n (pc := 4) (n := 1) (i := 1) rfl 1 rfl (htX11_get (4, .iload_n 1, 1) (gx_m 2 rfl)) ?_
  refine gx_Jra (pc := 5) (t := 8) (t2 := 18) (by decide) (by decide) rfl (htX11_get (5, .aaload, 1) (gx_m 3 rfl)) (fun v2 => ?_)
  exact gx_Jaret (pc := 6) rfl (Or.inl ⟨_, rfl⟩) (fun _ h => h) (fun _ _ => rfl) (htX11_get (6, .areturn, 1) (gx_m 4 rfl))
theorem ct_X2_applies (Y : gx_Y) (x0 : gx_Nm) (x1 : Int32) (x2 : Int32) : gx_Ct Y yX2_applies (ws_ yX2_applies cX2_applies 3 none) 3 144 [gx_r 3 (some x0), gx_i x1, gx_i x2] gx_Ov (f_X2_applies x0 x1 x2) := by
  refine gx_start (lv := [(0, gx_r 3 (some x0)), (1, gx_i x1), (2, gx_i x2)]) gx_Ov_r pn_X2 (Nat.le_of_ble_eq_true rfl) rfl ?_
  unfold f_X2_applies
  refine gx_iload_n (pc := 0) (n := 1) (i := 1) rfl 1 rfl (htX2_applies (0, .iload_n 1, 1) (gx_m 0 rfl)) ?_
  refine gx_aload_n (pc := 1) (n := 0) (i := 0) rfl 0 rfl (htX2_applies (1, .aload_n 0, 1) (gx_m 1 rfl)) ?_
  refine gx_Jgi (pc := 2) (ci := 2) (kk := 6) (by decide) (Or.inl rfl) (by decide) (by decide) q418 (htX2_applies (2, .getfield 58, 3) (gx_m 2 rfl)) (fun v1 hv1 => ?_)
  refine gx_Jjoin (pcJ := 13) (lvJ := fun (j_1 : Unit) => [(0, gx_r 3 (some x0)), (1, gx_i x1), (2, gx_i x2)]) (stJ := fun (j_1 : Unit) => []) (fun _ => True) (fun j_1 hj_1 => ?_) (fun kk1 hj1 => ?_)
  · refine gx_aload_n (pc := 13) (n := 0) (i := 0) rfl 0 rfl (htX2_applies (13, .aload_n 0, 1) (gx_m 7 rfl)) ?_
    refine gx_Jgs (pc := 14) (ci := 2) (kk := 8) (t2 := 6) (by decide) (by decide) rfl rfl rfl q421 (htX2_applies (14, .getfield 48, 3) (gx_m 8 rfl)) ?_
    refine gx_iload_n (pc := 17) (n := 1) (i := 1) rfl 1 rfl (htX2_applies (17, .iload_n 1, 1) (gx_m 9 rfl)) ?_
    refine gx_iconst (pc := 18) (v := 1) (by decide) (htX2_applies (18, .iconst 1, 1) (gx_m 10 rfl)) ?_
    refine gx_iadd (pc := 19) (htX2_applies (19, .iadd, 1) (gx_m 11 rfl)) ?_
    refine gx_iconst (pc := 20) (v := (-1)) (by decide) (htX2_applies (20, .iconst (-1), 1) (gx_m 12 rfl)) ?_
    refine gx_Jcv (pc := 21) (gx_hst (as := [gx_i (x1 + 1), gx_i (-1)]) (b := gx_r 6 (some (8 :: x0)))) (gx_runV (as := [gx_i (x1 + 1), gx_i (-1)]) (ci := 5) (ct_X5_fit Y (8 :: x0) (x1 + 1) (-1)) (by decide) (Or.inl rfl) rfl rfl rfl rfl q1219 q1220 q1221 q105 q1222 rfl dd_X5_fit (by decide) (by decide) (Nat.le_of_ble_eq_true rfl) (htX2_applies (21, .invokevirtual 83, 3) (gx_m 13 rfl))) ?_
    refine gx_aload_n (pc := 24) (n := 0) (i := 0) rfl 0 rfl (htX2_applies (24, .aload_n 0, 1) (gx_m 14 rfl)) ?_
    refine gx_Jgs (pc := 25) (ci := 2) (kk := 8) (t2 := 6) (by decide) (by decide) rfl rfl rfl q421 (htX2_applies (25, .getfield 48, 3) (gx_m 15 rfl)) ?_
    refine gx_iload_n (pc := 28) (n := 1) (i := 1) rfl 1 rfl (htX2_applies (28, .iload_n 1, 1) (gx_m 16 rfl)) ?_
    refine gx_Jci (pc := 29) (gx_hst (as := [gx_i x1]) (b := gx_r 6 (some (8 :: x0)))) (gx_runV (as := [gx_i x1]) (ci := 5) (ct_X5_get Y (8 :: x0) x1) (by decide) (Or.inl rfl) rfl rfl rfl rfl q1223 q668 q669 q105 q670 rfl dd_X5_get (by decide) (by decide) (Nat.le_of_ble_eq_true rfl) (htX2_applies (29, .invokevirtual 87, 3) (gx_m 17 rfl))) (fun v2 => ?_)
    refine gx_Jjoin (pcJ := 69) (lvJ := fun (j_2 : Unit) => []) (stJ := fun (j_2 : Unit) => []) (fun _ => True) (fun j_2 hj_2 => ?_) (fun kk2 hj2 => ?_)
    · exact gx_Jvret (pc := 69) rfl (fun _ => trivial) (fun _ _ => rfl) (htX2_applies (69, .return_, 1) (gx_m 37 rfl))
    · refine gx_if_ge (pc := 32) (y := 0) (tgt := 47) (by decide) (htX2_applies (32, .ifCond .ge 15, 3) (gx_m 18 rfl)) (fun c3 => ?_) (fun c3 => ?_)
      · refine gx_aload_n (pc := 47) (n := 0) (i := 0) rfl 0 rfl (htX2_applies (47, .aload_n 0, 1) (gx_m 25 rfl)) ?_
        refine gx_Jgs (pc := 48) (ci := 2) (kk := 8) (t2 := 6) (by decide) (by decide) rfl rfl rfl q421 (htX2_applies (48, .getfield 48, 3) (gx_m 26 rfl)) ?_
        refine gx_iload_n (pc := 51) (n := 1) (i := 1) rfl 1 rfl (htX2_applies (51, .iload_n 1, 1) (gx_m 27 rfl)) ?_
        refine gx_Jci (pc := 52) (gx_hst (as := [gx_i x1]) (b := gx_r 6 (some (8 :: x0)))) (gx_runV (as := [gx_i x1]) (ci := 5) (ct_X5_get Y (8 :: x0) x1) (by decide) (Or.inl rfl) rfl rfl rfl rfl q1223 q668 q669 q105 q670 rfl dd_X5_get (by decide) (by decide) (Nat.le_of_ble_eq_true rfl) (htX2_applies (52, .invokevirtual 87, 3) (gx_m 28 rfl))) (fun v3 => ?_)
        refine gx_iload_n (pc := 55) (n := 2) (i := 2) rfl 2 rfl (htX2_applies (55, .iload_n 2, 1) (gx_m 29 rfl)) ?_
        refine gx_icmp_eq (pc := 56) (tgt := 69) (by decide) (htX2_applies (56, .if_icmp .eq 13, 3) (gx_m 30 rfl)) (fun c4 => ?_) (fun c4 => ?_)
        · refine gx_Jw (lv := []) [] rfl ?_
          exact hj2 () trivial
        · refine gx_aload_n (pc := 59) (n := 0) (i := 0) rfl 0 rfl (htX2_applies (59, .aload_n 0, 1) (gx_m 31 rfl)) ?_
          refine gx_dup (pc := 60) rfl (htX2_applies (60, .dup, 1) (gx_m 32 rfl)) ?_
          refine gx_Jgi (pc := 61) (ci := 2) (kk := 5) (by decide) (Or.inl rfl) (by decide) (by decide) q415 (htX2_applies (61, .getfield 55, 3) (gx_m 33 rfl)) (fun v4 hv4 => ?_)
          refine gx_iconst (pc := 64) (v := 1) (by decide) (htX2_applies (64, .iconst 1, 1) (gx_m 34 rfl)) ?_
          refine gx_iadd (pc := 65) (htX2_applies (65, .iadd, 1) (gx_m 35 rfl)) ?_
          refine gx_Jpi (pc := 66) (ci := 2) (kk := 5) (by decide) (Or.inl rfl) (by decide) rfl rfl q415 (Or.inl rfl) (htX2_applies (66, .putfield 55, 3) (gx_m 36 rfl)) ?_
          refine gx_Jw (lv := []) [] rfl ?_
          exact hj2 () trivial
      · refine gx_aload_n (pc := 35) (n := 0) (i := 0) rfl 0 rfl (htX2_applies (35, .aload_n 0, 1) (gx_m 19 rfl)) ?_
        refine gx_Jgs (pc := 36) (ci := 2) (kk := 8) (t2 := 6) (by decide) (by decide) rfl rfl rfl q421 (htX2_applies (36, .getfield 48, 3) (gx_m 20 rfl)) ?_
        refine gx_iload_n (pc := 39) (n := 1) (i := 1) rfl 1 rfl (htX2_applies (39, .iload_n 1, 1) (gx_m 21 rfl)) ?_
        refine gx_iload_n (pc := 40) (n := 2) (i := 2) rfl 2 rfl (htX2_applies (40, .iload_n 2, 1) (gx_m 22 rfl)) ?_
        refine gx_Jcv (pc := 41) (gx_hst (as := [gx_i x1, gx_i x2]) (b := gx_r 6 (some (8 :: x0)))) (gx_runV (as := [gx_i x1, gx_i x2]) (ci := 5) (ct_X5_set Y (8 :: x0) x1 x2) (by decide) (Or.inl rfl) rfl rfl rfl rfl q1224 q672 q673 q105 q674 rfl dd_X5_set (by decide) (by decide) (Nat.le_of_ble_eq_true rfl) (htX2_applies (41, .invokevirtual 91, 3) (gx_m 23 rfl))) ?_
        refine gx_goto (pc := 44) (tgt := 69) (by decide) (htX2_applies (44, .goto 25, 3) (gx_m 24 rfl)) ?_
        refine gx_Jw (lv := []) [] rfl ?_
        exact hj2 () trivial
  · refine gx_icmp_le (pc := 5) (tgt := 13) (by decide) (htX2_applies (5, .if_icmp .le 8, 3) (gx_m 3 rfl)) (fun c5 => ?_) (fun c5 => ?_)
    · exact hj1 () trivial
    · refine gx_aload_n (pc := 8) (n := 0) (i := 0) rfl 0 rfl (htX2_applies (8, .aload_n 0, 1) (gx_m 4 rfl)) ?_
      refine gx_iload_n (pc := 9) (n := 1) (i := 1) rfl 1 rfl (htX2_applies (9, .iload_n 1, 1) (gx_m 5 rfl)) ?_
      refine gx_Jpi (pc := 10) (ci := 2) (kk := 6) (by decide) (Or.inl rfl) (by decide) rfl rfl q418 (Or.inl rfl) (htX2_applies (10, .putfield 58, 3) (gx_m 6 rfl)) ?_
      exact hj1 () trivial
theorem ct_X3_begin (Y : gx_Y) (x0 : gx_Nm) (x1 : Int32) (x2 : Int32) : gx_Ct Y yX3_begin (ws_ yX3_begin cX3_begin 3 (some .int)) 2 121 [gx_r 4 (some x0), gx_i x1, gx_i x2] gx_Oi (f_X3_begin x0 x1 x2) := by
  refine gx_start (lv := [(0, gx_r 4 (some x0)), (1, gx_i x1), (2, gx_i x2)]) gx_Oi_r pn_X3 (Nat.le_of_ble_eq_true rfl) rfl ?_
  unfold f_X3_begin
  refine gx_aload_n (pc := 0) (n := 0) (i := 0) rfl 0 rfl (htX3_begin (0, .aload_n 0, 1) (gx_m 0 rfl)) ?_
  refine gx_Jgs (pc := 1) (ci := 3) (kk := 1) (t2 := 6) (by decide) (by decide) rfl rfl rfl q194 (htX3_begin (1, .getfield 23, 3) (gx_m 1 rfl)) ?_
  refine gx_iconst (pc := 4) (v := 3) (by decide) (htX3_begin (4, .iconst 3, 1) (gx_m 2 rfl)) ?_
  refine gx_iload_n (pc := 5) (n := 1) (i := 1) rfl 1 rfl (htX3_begin (5, .iload_n 1, 1) (gx_m 3 rfl)) ?_
  refine gx_imul (pc := 6) (htX3_begin (6, .imul, 1) (gx_m 4 rfl)) ?_
  refine gx_iload_n (pc := 7) (n := 2) (i := 2) rfl 2 rfl (htX3_begin (7, .iload_n 2, 1) (gx_m 5 rfl)) ?_
  refine gx_iadd (pc := 8) (htX3_begin (8, .iadd, 1) (gx_m 6 rfl)) ?_
  refine gx_Jci (pc := 9) (gx_hst (as := [gx_i ((3 * x1) + x2)]) (b := gx_r 6 (some (1 :: x0)))) (gx_runV (as := [gx_i ((3 * x1) + x2)]) (ci := 5) (ct_X5_get Y (1 :: x0) ((3 * x1) + x2)) (by decide) (Or.inl rfl) rfl rfl rfl rfl q1061 q668 q669 q105 q670 rfl dd_X5_get (by decide) (by decide) (Nat.le_of_ble_eq_true rfl) (htX3_begin (9, .invokevirtual 69, 3) (gx_m 7 rfl))) (fun v1 => ?_)
  exact gx_Jiret (pc := 12) rfl (fun _ => trivial) (fun _ _ => rfl) (htX3_begin (12, .ireturn, 1) (gx_m 8 rfl))
theorem ct_X3_end (Y : gx_Y) (x0 : gx_Nm) (x1 : Int32) (x2 : Int32) : gx_Ct Y yX3_end (ws_ yX3_end cX3_end 3 (some .int)) 2 121 [gx_r 4 (some x0), gx_i x1, gx_i x2] gx_Oi (f_X3_end x0 x1 x2) := by
  refine gx_start (lv := [(0, gx_r 4 (some x0)), (1, gx_i x1), (2, gx_i x2)]) gx_Oi_r pn_X3 (Nat.le_of_ble_eq_true rfl) rfl ?_
  unfold f_X3_end
  refine gx_aload_n (pc := 0) (n := 0) (i := 0) rfl 0 rfl (htX3_end (0, .aload_n 0, 1) (gx_m 0 rfl)) ?_
  refine gx_Jgs (pc := 1) (ci := 3) (kk := 1) (t2 := 6) (by decide) (by decide) rfl rfl rfl q194 (htX3_end (1, .getfield 23, 3) (gx_m 1 rfl)) ?_
  refine gx_iconst (pc := 4) (v := 3) (by decide) (htX3_end (4, .iconst 3, 1) (gx_m 2 rfl)) ?_
  refine gx_iload_n (pc := 5) (n := 1) (i := 1) rfl 1 rfl (htX3_end (5, .iload_n 1, 1) (gx_m 3 rfl)) ?_
  refine gx_imul (pc := 6) (htX3_end (6, .imul, 1) (gx_m 4 rfl)) ?_
  refine gx_iload_n (pc := 7) (n := 2) (i := 2) rfl 2 rfl (htX3_end (7, .iload_n 2, 1) (gx_m 5 rfl)) ?_
  refine gx_iadd (pc := 8) (htX3_end (8, .iadd, 1) (gx_m 6 rfl)) ?_
  refine gx_iconst (pc := 9) (v := 1) (by decide) (htX3_end (9, .iconst 1, 1) (gx_m 7 rfl)) ?_
  refine gx_iadd (pc := 10) (htX3_end (10, .iadd, 1) (gx_m 8 rfl)) ?_
  refine gx_Jci (pc := 11) (gx_hst (as := [gx_i (((3 * x1) + x2) + 1)]) (b := gx_r 6 (some (1 :: x0)))) (gx_runV (as := [gx_i (((3 * x1) + x2) + 1)]) (ci := 5) (ct_X5_get Y (1 :: x0) (((3 * x1) + x2) + 1)) (by decide) (Or.inl rfl) rfl rfl rfl rfl q1061 q668 q669 q105 q670 rfl dd_X5_get (by decide) (by decide) (Nat.le_of_ble_eq_true rfl) (htX3_end (11, .invokevirtual 69, 3) (gx_m 9 rfl))) (fun v1 => ?_)
  exact gx_Jiret (pc := 14) rfl (fun _ => trivial) (fun _ _ => rfl) (htX3_end (14, .ireturn, 1) (gx_m 10 rfl))
theorem ct_X3_get (Y : gx_Y) (x0 : gx_Nm) (x1 : Int32) : gx_Ct Y yX3_get (ws_ yX3_get cX3_get 2 (some .int)) 2 121 [gx_r 4 (some x0), gx_i x1] gx_Oi (f_X3_get x0 x1) := by
  refine gx_start (lv := [(0, gx_r 4 (some x0)), (1, gx_i x1)]) gx_Oi_r pn_X3 (Nat.le_of_ble_eq_true rfl) rfl ?_
  unfold f_X3_get
  refine gx_aload_n (pc := 0) (n := 0) (i := 0) rfl 0 rfl (htX3_get (0, .aload_n 0, 1) (gx_m 0 rfl)) ?_
  refine gx_Jgs (pc := 1) (ci := 3) (kk := 2) (t2 := 6) (by decide) (by decide) rfl rfl rfl q195 (htX3_get (1, .getfield 27, 3) (gx_m 1 rfl)) ?_
  refine gx_iload_n (pc := 4) (n := 1) (i := 1) rfl 1 rfl (htX3_get (4, .iload_n 1, 1) (gx_m 2 rfl)) ?_
  refine gx_Jci (pc := 5) (gx_hst (as := [gx_i x1]) (b := gx_r 6 (some (2 :: x0)))) (gx_runV (as := [gx_i x1]) (ci := 5) (ct_X5_get Y (2 :: x0) x1) (by decide) (Or.inl rfl) rfl rfl rfl rfl q1061 q668 q669 q105 q670 rfl dd_X5_get (by decide) (by decide) (Nat.le_of_ble_eq_true rfl) (htX3_get (5, .invokevirtual 69, 3) (gx_m 3 rfl))) (fun v1 => ?_)
  exact gx_Jiret (pc := 8) rfl (fun _ => trivial) (fun _ _ => rfl) (htX3_get (8, .ireturn, 1) (gx_m 4 rfl))
theorem ct_X7_changeFrom (Y : gx_Y) (x0 : gx_Nm) (x1 : Int32) : gx_Ct Y yX7_changeFrom (ws_ yX7_changeFrom cX7_changeFrom 2 (some .int)) 2 121 [gx_r 8 (some x0), gx_i x1] gx_Oi (f_X7_changeFrom x0 x1) := by
  refine gx_start (lv := [(0, gx_r 8 (some x0)), (1, gx_i x1)]) gx_Oi_r pn_X7 (Nat.le_of_ble_eq_true rfl) rfl ?_
  unfold f_X7_changeFrom
  refine gx_iload_n (pc := 0) (n := 1) (i := 1) rfl 1 rfl (htX7_changeFrom (0, .iload_n 1, 1) (gx_m 0 rfl)) ?_
  refine gx_Jjoin (pcJ := 18) (lvJ := fun (j2 : Int32) => []) (stJ := fun (j2 : Int32) => [gx_i j2]) (fun _ => True) (fun j2 hj2 => ?_) (fun kk1 hj1 => ?_)
  · exact gx_Jiret (pc := 18) rfl (fun _ => trivial) (fun _ _ => rfl) (htX7_changeFrom (18, .ireturn, 1) (gx_m 10 rfl))
  · refine gx_if_ne (pc := 1) (y := 0) (tgt := 8) (by decide) (htX7_changeFrom (1, .ifCond .ne 7, 3) (gx_m 1 rfl)) (fun c2 => ?_) (fun c2 => ?_)
    · refine gx_iconst (pc := 4) (v := 0) (by decide) (htX7_changeFrom (4, .iconst 0, 1) (gx_m 2 rfl)) ?_
      refine gx_goto (pc := 5) (tgt := 18) (by decide) (htX7_changeFrom (5, .goto 13, 3) (gx_m 3 rfl)) ?_
      refine gx_Jw (lv := []) [] rfl ?_
      exact hj1 (0 : Int32) trivial
    · refine gx_aload_n (pc := 8) (n := 0) (i := 0) rfl 0 rfl (htX7_changeFrom (8, .aload_n 0, 1) (gx_m 4 rfl)) ?_
      refine gx_Jgs (pc := 9) (ci := 7) (kk := 8) (t2 := 6) (by decide) (by decide) rfl rfl rfl q314 (htX7_changeFrom (9, .getfield 36, 3) (gx_m 5 rfl)) ?_
      refine gx_iload_n (pc := 12) (n := 1) (i := 1) rfl 1 rfl (htX7_changeFrom (12, .iload_n 1, 1) (gx_m 6 rfl)) ?_
      refine gx_iconst (pc := 13) (v := 1) (by decide) (htX7_changeFrom (13, .iconst 1, 1) (gx_m 7 rfl)) ?_
      refine gx_isub (pc := 14) (htX7_changeFrom (14, .isub, 1) (gx_m 8 rfl)) ?_
      refine gx_Jci (pc := 15) (gx_hst (as := [gx_i (x1 - 1)]) (b := gx_r 6 (some (8 :: x0)))) (gx_runV (as := [gx_i (x1 - 1)]) (ci := 5) (ct_X5_get Y (8 :: x0) (x1 - 1)) (by decide) (Or.inl rfl) rfl rfl rfl rfl q667 q668 q669 q105 q670 rfl dd_X5_get (by decide) (by decide) (Nat.le_of_ble_eq_true rfl) (htX7_changeFrom (15, .invokevirtual 89, 3) (gx_m 9 rfl))) (fun v1 => ?_)
      refine gx_Jw (lv := []) [] rfl ?_
      exact hj1 (v1 : Int32) trivial
theorem ct_X8_get (Y : gx_Y) (x0 : gx_Nm) (x1 : Int32) : gx_Ct Y yX8_get (ws_ yX8_get cX8_get 2 (some (.object "CouncilStore$Pair"))) 1 100 [gx_r 9 (some x0), gx_i x1] (gx_Or Y 10) (f_X8_get x0 x1) := by
  refine gx_start (lv := [(0, gx_r 9 (some x0)), (1, gx_i x1)]) gx_Or_r pn_X8 (Nat.le_of_ble_eq_true rfl) rfl ?_
  unfold f_X8_get
  refine gx_aload_n (pc := 0) (n := 0) (i := 0) rfl 0 rfl (htX8_get (0, .aload_n 0, 1) (gx_m 0 rfl)) ?_
  refine gx_Jgr (pc := 1) (ci := 8) (kk := 0) (t2 := 107) (by decide) (Or.inl rfl) (by decide) rfl rfl q243 (htX8_get (1, .getfield 9, 3) (gx_m 1 rfl)) (fun v1 => ?_)
  refine gx_iload_n (pc := 4) (n := 1) (i := 1) rfl 1 rfl (htX8_get (4, .iload_n 1, 1) (gx_m 2 rfl)) ?_
  refine gx_Jra (pc := 5) (t := 7) (t2 := 10) (by decide) (by decide) rfl (htX8_get (5, .aaload, 1) (gx_m 3 rfl)) (fun v2 => ?_)
  exact gx_Jaret (pc := 6) rfl (Or.inl ⟨_, rfl⟩) (fun _ h => h) (fun _ _ => rfl) (htX8_get (6, .areturn, 1) (gx_m 4 rfl))
theorem ct_X4_get (Y : gx_Y) (x0 : gx_Nm) (x1 : Int32) : gx_Ct Y yX4_get (ws_ yX4_get cX4_get 2 (some .int)) 1 100 [gx_r 5 (some x0), gx_i x1] gx_Oi (f_X4_get x0 x1) := by
  refine gx_start (lv := [(0, gx_r 5 (some x0)), (1, gx_i x1)]) gx_Oi_r pn_X4 (Nat.le_of_ble_eq_true rfl) rfl ?_
  unfold f_X4_get
  refine gx_aload_n (pc := 0) (n := 0) (i := 0) rfl 0 rfl (htX4_get (0, .aload_n 0, 1) (gx_m 0 rfl)) ?_
  refine gx_Jgr (pc := 1) (ci := 4) (kk := 0) (t2 := 101) (by decide) (Or.inl rfl) (by decide) rfl rfl q156 (htX4_get (1, .getfield 7, 3) (gx_m 1 rfl)) (fun v1 => ?_)
  refine gx_iload_n (pc := 4) (n := 1) (i := 1) rfl 1 rfl (htX4_get (4, .iload_n 1, 1) (gx_m 2 rfl)) ?_
  refine gx_Jba (pc := 5) (htX4_get (5, .baload, 1) (gx_m 3 rfl)) (fun v2 => ?_)
  refine gx_sipush (pc := 6) (v := 255) (by decide) (htX4_get (6, .sipush 255, 3) (gx_m 4 rfl)) ?_
  refine gx_iand (pc := 9) (htX4_get (9, .iand, 1) (gx_m 5 rfl)) ?_
  exact gx_Jiret (pc := 10) rfl (fun _ => trivial) (fun _ _ => rfl) (htX4_get (10, .ireturn, 1) (gx_m 6 rfl))
theorem ct_X4_compare (Y : gx_Y) (x0 : gx_Nm) (x1 : Int32) (x2 : Int32) (x3 : Int32) (x4 : Int32) : gx_Ct Y yX4_compare (ws_ yX4_compare cX4_compare 8 (some .int)) 2 121 [gx_r 5 (some x0), gx_i x1, gx_i x2, gx_i x3, gx_i x4] gx_Oi (f_X4_compare x0 x1 x2 x3 x4) := by
  refine gx_start (lv := [(0, gx_r 5 (some x0)), (1, gx_i x1), (2, gx_i x2), (3, gx_i x3), (4, gx_i x4)]) gx_Oi_r pn_X4 (Nat.le_of_ble_eq_true rfl) rfl ?_
  unfold f_X4_compare
  refine gx_iload_n (pc := 0) (n := 2) (i := 2) rfl 2 rfl (htX4_compare (0, .iload_n 2, 1) (gx_m 0 rfl)) ?_
  refine gx_iload_n (pc := 1) (n := 1) (i := 1) rfl 1 rfl (htX4_compare (1, .iload_n 1, 1) (gx_m 1 rfl)) ?_
  refine gx_isub (pc := 2) (htX4_compare (2, .isub, 1) (gx_m 2 rfl)) ?_
  refine gx_istore (pc := 3) (i := 5) (lv' := [(5, gx_i (x2 - x1)), (0, gx_r 5 (some x0)), (1, gx_i x1), (2, gx_i x2), (3, gx_i x3), (4, gx_i x4)]) (by decide) rfl (htX4_compare (3, .istore 5, 2) (gx_m 3 rfl)) ?_
  refine gx_iload (pc := 5) (i := 4) 5 rfl (htX4_compare (5, .iload 4, 2) (gx_m 4 rfl)) ?_
  refine gx_iload_n (pc := 7) (n := 3) (i := 3) rfl 4 rfl (htX4_compare (7, .iload_n 3, 1) (gx_m 5 rfl)) ?_
  refine gx_isub (pc := 8) (htX4_compare (8, .isub, 1) (gx_m 6 rfl)) ?_
  refine gx_istore (pc := 9) (i := 6) (lv' := [(6, gx_i (x4 - x3)), (5, gx_i (x2 - x1)), (0, gx_r 5 (some x0)), (1, gx_i x1), (2, gx_i x2), (3, gx_i x3), (4, gx_i x4)]) (by decide) rfl (htX4_compare (9, .istore 6, 2) (gx_m 7 rfl)) ?_
  refine gx_iconst (pc := 11) (v := 0) (by decide) (htX4_compare (11, .iconst 0, 1) (gx_m 8 rfl)) ?_
  refine gx_istore (pc := 12) (i := 7) (lv' := [(7, gx_i 0), (6, gx_i (x4 - x3)), (5, gx_i (x2 - x1)), (0, gx_r 5 (some x0)), (1, gx_i x1), (2, gx_i x2), (3, gx_i x3), (4, gx_i x4)]) (by decide) rfl (htX4_compare (12, .istore 7, 2) (gx_m 9 rfl)) ?_
  refine gx_JjoinE (pcJ := 73) (lvJ := fun (j_1 : Unit) => [(5, gx_i (x2 - x1)), (6, gx_i (x4 - x3))]) (stJ := fun (j_1 : Unit) => []) (gr := fun r => gx_rt r) (fun _ => rfl) (fun _ => rfl) (fun j_1 => ?_) (fun kk1 hj1 he1 => ?_)
  · refine gx_iload (pc := 73) (i := 5) 0 rfl (htX4_compare (73, .iload 5, 2) (gx_m 43 rfl)) ?_
    refine gx_iload (pc := 75) (i := 6) 1 rfl (htX4_compare (75, .iload 6, 2) (gx_m 44 rfl)) ?_
    refine gx_isub (pc := 77) (htX4_compare (77, .isub, 1) (gx_m 45 rfl)) ?_
    exact gx_Jiret (pc := 78) rfl (fun _ => trivial) (fun _ _ => rfl) (htX4_compare (78, .ireturn, 1) (gx_m 46 rfl))
  · refine gx_Jw (lv := [(0, gx_r 5 (some x0)), (1, gx_i x1), (3, gx_i x3), (5, gx_i (x2 - x1)), (6, gx_i (x4 - x3)), (7, gx_i 0)]) [3, 4, 6, 2, 1, 0] rfl ?_
    refine gx_Jlp (pc := 14) (lvh := fun (s1 : Int32) => [(0, gx_r 5 (some x0)), (1, gx_i x1), (3, gx_i x3), (5, gx_i (x2 - x1)), (6, gx_i (x4 - x3)), (7, gx_i s1)]) (fun s1 kl1 ha1 hb1 => ?_) _
    unfold lb_X4_compare_1
    refine gx_iload (pc := 14) (i := 7) 5 rfl (htX4_compare (14, .iload 7, 2) (gx_m 10 rfl)) ?_
    refine gx_iload (pc := 16) (i := 5) 3 rfl (htX4_compare (16, .iload 5, 2) (gx_m 11 rfl)) ?_
    refine gx_icmp_ge (pc := 18) (tgt := 73) (by decide) (htX4_compare (18, .if_icmp .ge 55, 3) (gx_m 12 rfl)) (fun c2 => ?_) (fun c2 => ?_)
    · refine gx_Jw (lv := [(5, gx_i (x2 - x1)), (6, gx_i (x4 - x3))]) [3, 4] rfl ?_
      exact gx_Jout hb1 (hj1 ())
    · refine gx_iload (pc := 21) (i := 7) 5 rfl (htX4_compare (21, .iload 7, 2) (gx_m 13 rfl)) ?_
      refine gx_iload (pc := 23) (i := 6) 4 rfl (htX4_compare (23, .iload 6, 2) (gx_m 14 rfl)) ?_
      refine gx_icmp_ge (pc := 25) (tgt := 73) (by decide) (htX4_compare (25, .if_icmp .ge 48, 3) (gx_m 15 rfl)) (fun c3 => ?_) (fun c3 => ?_)
      · refine gx_Jw (lv := [(5, gx_i (x2 - x1)), (6, gx_i (x4 - x3))]) [3, 4] rfl ?_
        exact gx_Jout hb1 (hj1 ())
      · refine gx_aload_n (pc := 28) (n := 0) (i := 0) rfl 0 rfl (htX4_compare (28, .aload_n 0, 1) (gx_m 16 rfl)) ?_
        refine gx_Jgr (pc := 29) (ci := 4) (kk := 0) (t2 := 101) (by decide) (Or.inl rfl) (by decide) rfl rfl q156 (htX4_compare (29, .getfield 7, 3) (gx_m 17 rfl)) (fun v2 => ?_)
        refine gx_iload_n (pc := 32) (n := 1) (i := 1) rfl 1 rfl (htX4_compare (32, .iload_n 1, 1) (gx_m 18 rfl)) ?_
        refine gx_iload (pc := 33) (i := 7) 5 rfl (htX4_compare (33, .iload 7, 2) (gx_m 19 rfl)) ?_
        refine gx_iadd (pc := 35) (htX4_compare (35, .iadd, 1) (gx_m 20 rfl)) ?_
        refine gx_Jba (pc := 36) (htX4_compare (36, .baload, 1) (gx_m 21 rfl)) (fun v3 => ?_)
        refine gx_aload_n (pc := 37) (n := 0) (i := 0) rfl 0 rfl (htX4_compare (37, .aload_n 0, 1) (gx_m 22 rfl)) ?_
        refine gx_Jgr (pc := 38) (ci := 4) (kk := 0) (t2 := 101) (by decide) (Or.inl rfl) (by decide) rfl rfl q156 (htX4_compare (38, .getfield 7, 3) (gx_m 23 rfl)) (fun v4 => ?_)
        refine gx_iload_n (pc := 41) (n := 3) (i := 3) rfl 2 rfl (htX4_compare (41, .iload_n 3, 1) (gx_m 24 rfl)) ?_
        refine gx_iload (pc := 42) (i := 7) 5 rfl (htX4_compare (42, .iload 7, 2) (gx_m 25 rfl)) ?_
        refine gx_iadd (pc := 44) (htX4_compare (44, .iadd, 1) (gx_m 26 rfl)) ?_
        refine gx_Jba (pc := 45) (htX4_compare (45, .baload, 1) (gx_m 27 rfl)) (fun v5 => ?_)
        refine gx_icmp_eq (pc := 46) (tgt := 67) (by decide) (htX4_compare (46, .if_icmp .eq 21, 3) (gx_m 28 rfl)) (fun c4 => ?_) (fun c4 => ?_)
        · refine gx_iinc (pc := 67) (i := 7) (j := 5) (v := (s1 + 1)) (lv' := [(7, gx_i (s1 + 1)), (0, gx_r 5 (some x0)), (1, gx_i x1), (3, gx_i x3), (5, gx_i (x2 - x1)), (6, gx_i (x4 - x3))]) rfl (gx_iv (by decide)) (by decide) rfl (htX4_compare (67, .iinc 7 1, 3) (gx_m 41 rfl)) ?_
          refine gx_goto (pc := 70) (tgt := 14) (by decide) (htX4_compare (70, .goto (-56), 3) (gx_m 42 rfl)) ?_
          refine gx_Jw (lv := [(0, gx_r 5 (some x0)), (1, gx_i x1), (3, gx_i x3), (5, gx_i (x2 - x1)), (6, gx_i (x4 - x3)), (7, gx_i (s1 + 1))]) [1, 2, 3, 4, 5, 0] rfl ?_
          exact ha1 ((s1 + 1) : Int32)
        · refine gx_aload_n (pc := 49) (n := 0) (i := 0) rfl 0 rfl (htX4_compare (49, .aload_n 0, 1) (gx_m 29 rfl)) ?_
          refine gx_iload_n (pc := 50) (n := 1) (i := 1) rfl 1 rfl (htX4_compare (50, .iload_n 1, 1) (gx_m 30 rfl)) ?_
          refine gx_iload (pc := 51) (i := 7) 5 rfl (htX4_compare (51, .iload 7, 2) (gx_m 31 rfl)) ?_
          refine gx_iadd (pc := 53) (htX4_compare (53, .iadd, 1) (gx_m 32 rfl)) ?_
          refine gx_Jci (pc := 54) (gx_hst (as := [gx_i (x1 + s1)]) (b := gx_r 5 (some x0))) (gx_runV (as := [gx_i (x1 + s1)]) (ci := 4) (ct_X4_get Y x0 (x1 + s1)) (by decide) (Or.inl rfl) rfl rfl rfl rfl q1316 q1317 q1318 q104 q1319 rfl dd_X4_get (by decide) (by decide) (Nat.le_of_ble_eq_true rfl) (htX4_compare (54, .invokevirtual 27, 3) (gx_m 33 rfl))) (fun v6 => ?_)
          refine gx_aload_n (pc := 57) (n := 0) (i := 0) rfl 0 rfl (htX4_compare (57, .aload_n 0, 1) (gx_m 34 rfl)) ?_
          refine gx_iload_n (pc := 58) (n := 3) (i := 3) rfl 2 rfl (htX4_compare (58, .iload_n 3, 1) (gx_m 35 rfl)) ?_
          refine gx_iload (pc := 59) (i := 7) 5 rfl (htX4_compare (59, .iload 7, 2) (gx_m 36 rfl)) ?_
          refine gx_iadd (pc := 61) (htX4_compare (61, .iadd, 1) (gx_m 37 rfl)) ?_
          refine gx_Jci (pc := 62) (gx_hst (as := [gx_i (x3 + s1)]) (b := gx_r 5 (some x0))) (gx_runV (as := [gx_i (x3 + s1)]) (ci := 4) (ct_X4_get Y x0 (x3 + s1)) (by decide) (Or.inl rfl) rfl rfl rfl rfl q1316 q1317 q1318 q104 q1319 rfl dd_X4_get (by decide) (by decide) (Nat.le_of_ble_eq_true rfl) (htX4_compare (62, .invokevirtual 27, 3) (gx_m 38 rfl))) (fun v7 => ?_)
          refine gx_isub (pc := 65) (htX4_compare (65, .isub, 1) (gx_m 39 rfl)) ?_
          refine gx_Jret ((hb1 _).trans (he1 _)) ?_
          exact gx_Jiret (pc := 66) rfl (fun _ => trivial) (fun _ _ => rfl) (htX4_compare (66, .ireturn, 1) (gx_m 40 rfl))
theorem ct_X7_find (Y : gx_Y) (x0 : gx_Nm) (x1 : Int32) (x2 : Int32) (x3 : Int32) : gx_Ct Y yX7_find (ws_ yX7_find cX7_find 10 (some (.object "CouncilStore$Pair"))) 3 148 [gx_r 8 (some x0), gx_i x1, gx_i x2, gx_i x3] (gx_Oo Y 10) (f_X7_find x0 x1 x2 x3) := by
  refine gx_start (lv := [(0, gx_r 8 (some x0)), (1, gx_i x1), (2, gx_i x2), (3, gx_i x3)]) gx_Oo_r pn_X7 (Nat.le_of_ble_eq_true rfl) rfl ?_
  unfold f_X7_find
  refine gx_iload_n (pc := 0) (n := 1) (i := 1) rfl 1 rfl (htX7_find (0, .iload_n 1, 1) (gx_m 0 rfl)) ?_
  refine gx_istore (pc := 1) (i := 4) (lv' := [(4, gx_i x1), (0, gx_r 8 (some x0)), (1, gx_i x1), (2, gx_i x2), (3, gx_i x3)]) (by decide) rfl (htX7_find (1, .istore 4, 2) (gx_m 1 rfl)) ?_
  refine gx_JjoinE (pcJ := 133) (lvJ := fun (j_1 : Unit) => []) (stJ := fun (j_1 : Unit) => []) (gr := fun r => gx_rt r) (fun _ => rfl) (fun _ => rfl) (fun j_1 => ?_) (fun kk1 hj1 he1 => ?_)
  · refine gx_aconst_null (pc := 133) (htX7_find (133, .aconst_null, 1) (gx_m 63 rfl)) ?_
    exact gx_Jaret (pc := 134) rfl (Or.inl ⟨_, rfl⟩) (fun _ h => trivial) (fun _ _ => rfl) (htX7_find (134, .areturn, 1) (gx_m 64 rfl))
  · refine gx_Jw (lv := [(0, gx_r 8 (some x0)), (2, gx_i x2), (3, gx_i x3), (4, gx_i x1)]) [1, 3, 4, 0] rfl ?_
    refine gx_Jlp (pc := 3) (lvh := fun (s1 : Int32) => [(0, gx_r 8 (some x0)), (2, gx_i x2), (3, gx_i x3), (4, gx_i s1)]) (fun s1 kl1 ha1 hb1 => ?_) _
    unfold lb_X7_find_2
    refine gx_iload (pc := 3) (i := 4) 3 rfl (htX7_find (3, .iload 4, 2) (gx_m 2 rfl)) ?_
    refine gx_if_lt (pc := 5) (y := 0) (tgt := 133) (by decide) (htX7_find (5, .ifCond .lt 128, 3) (gx_m 3 rfl)) (fun c2 => ?_) (fun c2 => ?_)
    · refine gx_Jw (lv := []) [] rfl ?_
      exact gx_Jout hb1 (hj1 ())
    · refine gx_aload_n (pc := 8) (n := 0) (i := 0) rfl 0 rfl (htX7_find (8, .aload_n 0, 1) (gx_m 4 rfl)) ?_
      refine gx_iload (pc := 9) (i := 4) 3 rfl (htX7_find (9, .iload 4, 2) (gx_m 5 rfl)) ?_
      refine gx_Jci (pc := 11) (gx_hst (as := [gx_i s1]) (b := gx_r 8 (some x0))) (gx_runV (as := [gx_i s1]) (ci := 7) (ct_X7_changeFrom Y x0 s1) (by decide) (Or.inl rfl) rfl rfl rfl rfl q1304 q1306 qs21 q107 q1307 rfl dd_X7_changeFrom (by decide) (by decide) (Nat.le_of_ble_eq_true rfl) (htX7_find (11, .invokevirtual 101, 3) (gx_m 6 rfl))) (fun v2 => ?_)
      refine gx_istore (pc := 14) (i := 5) (lv' := [(5, gx_i v2), (0, gx_r 8 (some x0)), (2, gx_i x2), (3, gx_i x3), (4, gx_i s1)]) (by decide) rfl (htX7_find (14, .istore 5, 2) (gx_m 7 rfl)) ?_
      refine gx_aload_n (pc := 16) (n := 0) (i := 0) rfl 1 rfl (htX7_find (16, .aload_n 0, 1) (gx_m 8 rfl)) ?_
      refine gx_Jgs (pc := 17) (ci := 7) (kk := 8) (t2 := 6) (by decide) (by decide) rfl rfl rfl q314 (htX7_find (17, .getfield 36, 3) (gx_m 9 rfl)) ?_
      refine gx_iload (pc := 20) (i := 4) 4 rfl (htX7_find (20, .iload 4, 2) (gx_m 10 rfl)) ?_
      refine gx_Jci (pc := 22) (gx_hst (as := [gx_i s1]) (b := gx_r 6 (some (8 :: x0)))) (gx_runV (as := [gx_i s1]) (ci := 5) (ct_X5_get Y (8 :: x0) s1) (by decide) (Or.inl rfl) rfl rfl rfl rfl q667 q668 q669 q105 q670 rfl dd_X5_get (by decide) (by decide) (Nat.le_of_ble_eq_true rfl) (htX7_find (22, .invokevirtual 89, 3) (gx_m 11 rfl))) (fun v3 => ?_)
      refine gx_istore (pc := 25) (i := 6) (lv' := [(6, gx_i v3), (5, gx_i v2), (0, gx_r 8 (some x0)), (2, gx_i x2), (3, gx_i x3), (4, gx_i s1)]) (by decide) rfl (htX7_find (25, .istore 6, 2) (gx_m 12 rfl)) ?_
      refine gx_JjoinE (pcJ := 119) (lvJ := fun (j_3 : Unit) => [(0, gx_r 8 (some x0)), (2, gx_i x2), (3, gx_i x3), (4, gx_i s1)]) (stJ := fun (j_3 : Unit) => []) (gr := fun r => gx_rt (.inr (.inr r))) (fun _ => rfl) (fun _ => rfl) (fun j_3 => ?_) (fun kk3 hj3 he3 => ?_)
      · refine gx_aload_n (pc := 119) (n := 0) (i := 0) rfl 0 rfl (htX7_find (119, .aload_n 0, 1) (gx_m 57 rfl)) ?_
        refine gx_Jgs (pc := 120) (ci := 7) (kk := 1) (t2 := 6) (by decide) (by decide) rfl rfl rfl q307 (htX7_find (120, .getfield 12, 3) (gx_m 58 rfl)) ?_
        refine gx_iload (pc := 123) (i := 4) 3 rfl (htX7_find (123, .iload 4, 2) (gx_m 59 rfl)) ?_
        refine gx_Jci (pc := 125) (gx_hst (as := [gx_i s1]) (b := gx_r 6 (some (1 :: x0)))) (gx_runV (as := [gx_i s1]) (ci := 5) (ct_X5_get Y (1 :: x0) s1) (by decide) (Or.inl rfl) rfl rfl rfl rfl q667 q668 q669 q105 q670 rfl dd_X5_get (by decide) (by decide) (Nat.le_of_ble_eq_true rfl) (htX7_find (125, .invokevirtual 89, 3) (gx_m 60 rfl))) (fun v14 => ?_)
        refine gx_istore (pc := 128) (i := 4) (lv' := [(4, gx_i v14), (0, gx_r 8 (some x0)), (2, gx_i x2), (3, gx_i x3)]) (by decide) rfl (htX7_find (128, .istore 4, 2) (gx_m 61 rfl)) ?_
        refine gx_goto (pc := 130) (tgt := 3) (by decide) (htX7_find (130, .goto (-127), 3) (gx_m 62 rfl)) ?_
        refine gx_Jw (lv := [(0, gx_r 8 (some x0)), (2, gx_i x2), (3, gx_i x3), (4, gx_i v14)]) [1, 2, 3, 0] rfl ?_
        exact ha1 (v14 : Int32)
      · refine gx_Jw (lv := [(0, gx_r 8 (some x0)), (2, gx_i x2), (3, gx_i x3), (4, gx_i s1), (5, gx_i v2), (6, gx_i v3)]) [2, 3, 4, 5, 1, 0] rfl ?_
        refine gx_Jlp (pc := 27) (lvh := fun (s4 : Int32 × Int32) => [(0, gx_r 8 (some x0)), (2, gx_i x2), (3, gx_i x3), (4, gx_i s1), (5, gx_i s4.1), (6, gx_i s4.2)]) (fun s4 kl3 ha3 hb3 => ?_) _
        unfold lb_X7_find_1
        refine gx_iload (pc := 27) (i := 5) 4 rfl (htX7_find (27, .iload 5, 2) (gx_m 13 rfl)) ?_
        refine gx_iload (pc := 29) (i := 6) 5 rfl (htX7_find (29, .iload 6, 2) (gx_m 14 rfl)) ?_
        refine gx_icmp_ge (pc := 31) (tgt := 119) (by decide) (htX7_find (31, .if_icmp .ge 88, 3) (gx_m 15 rfl)) (fun c4 => ?_) (fun c4 => ?_)
        · refine gx_Jw (lv := [(0, gx_r 8 (some x0)), (2, gx_i x2), (3, gx_i x3), (4, gx_i s1)]) [0, 1, 2, 3] rfl ?_
          exact gx_Jout hb3 (hj3 ())
        · refine gx_iload (pc := 34) (i := 5) 4 rfl (htX7_find (34, .iload 5, 2) (gx_m 16 rfl)) ?_
          refine gx_iload (pc := 36) (i := 6) 5 rfl (htX7_find (36, .iload 6, 2) (gx_m 17 rfl)) ?_
          refine gx_iadd (pc := 38) (htX7_find (38, .iadd, 1) (gx_m 18 rfl)) ?_
          refine gx_iconst (pc := 39) (v := 1) (by decide) (htX7_find (39, .iconst 1, 1) (gx_m 19 rfl)) ?_
          refine gx_iushr (pc := 40) (htX7_find (40, .iushr, 1) (gx_m 20 rfl)) ?_
          refine gx_istore (pc := 41) (i := 7) (lv' := [(7, gx_i (gx_ushr (s4.1 + s4.2) 1)), (0, gx_r 8 (some x0)), (2, gx_i x2), (3, gx_i x3), (4, gx_i s1), (5, gx_i s4.1), (6, gx_i s4.2)]) (by decide) rfl (htX7_find (41, .istore 7, 2) (gx_m 21 rfl)) ?_
          refine gx_aload_n (pc := 43) (n := 0) (i := 0) rfl 1 rfl (htX7_find (43, .aload_n 0, 1) (gx_m 22 rfl)) ?_
          refine gx_Jgs (pc := 44) (ci := 7) (kk := 9) (t2 := 9) (by decide) (by decide) rfl rfl rfl q315 (htX7_find (44, .getfield 42, 3) (gx_m 23 rfl)) ?_
          refine gx_iload (pc := 47) (i := 7) 0 rfl (htX7_find (47, .iload 7, 2) (gx_m 24 rfl)) ?_
          refine gx_Jcr (pc := 49) (t2 := 10) (gx_hst (as := [gx_i (gx_ushr (s4.1 + s4.2) 1)]) (b := gx_r 9 (some (9 :: x0)))) (gx_runV (as := [gx_i (gx_ushr (s4.1 + s4.2) 1)]) (ci := 8) (ct_X8_get Y (9 :: x0) (gx_ushr (s4.1 + s4.2) 1)) (by decide) (Or.inl rfl) rfl rfl rfl rfl q1308 q1309 q1310 q108 q1311 rfl dd_X8_get (by decide) (by decide) (Nat.le_of_ble_eq_true rfl) (htX7_find (49, .invokevirtual 104, 3) (gx_m 25 rfl))) (fun v5 => ?_)
          refine gx_astore (pc := 52) (i := 8) (lv' := [(8, gx_r 10 (some v5)), (7, gx_i (gx_ushr (s4.1 + s4.2) 1)), (0, gx_r 8 (some x0)), (2, gx_i x2), (3, gx_i x3), (4, gx_i s1), (5, gx_i s4.1), (6, gx_i s4.2)]) (by decide) rfl (htX7_find (52, .astore 8, 2) (gx_m 26 rfl)) ?_
          refine gx_aload_n (pc := 54) (n := 0) (i := 0) rfl 2 rfl (htX7_find (54, .aload_n 0, 1) (gx_m 27 rfl)) ?_
          refine gx_Jgs (pc := 55) (ci := 7) (kk := 0) (t2 := 4) (by decide) (by decide) rfl rfl rfl q306 (htX7_find (55, .getfield 69, 3) (gx_m 28 rfl)) ?_
          refine gx_Jgs (pc := 58) (ci := 3) (kk := 0) (t2 := 5) (by decide) (by decide) rfl rfl rfl q192 (htX7_find (58, .getfield 107, 3) (gx_m 29 rfl)) ?_
          refine gx_aload (pc := 61) (i := 8) 0 rfl (htX7_find (61, .aload 8, 2) (gx_m 30 rfl)) ?_
          refine gx_Jgi (pc := 63) (ci := 9) (kk := 0) (by decide) (Or.inl rfl) (by decide) (by decide) q259 (htX7_find (63, .getfield 113, 3) (gx_m 31 rfl)) (fun v6 hv6 => ?_)
          refine gx_aload (pc := 66) (i := 8) 0 rfl (htX7_find (66, .aload 8, 2) (gx_m 32 rfl)) ?_
          refine gx_Jgi (pc := 68) (ci := 9) (kk := 1) (by decide) (Or.inl rfl) (by decide) (by decide) q262 (htX7_find (68, .getfield 116, 3) (gx_m 33 rfl)) (fun v7 hv7 => ?_)
          refine gx_iload_n (pc := 71) (n := 2) (i := 2) rfl 3 rfl (htX7_find (71, .iload_n 2, 1) (gx_m 34 rfl)) ?_
          refine gx_iload_n (pc := 72) (n := 3) (i := 3) rfl 4 rfl (htX7_find (72, .iload_n 3, 1) (gx_m 35 rfl)) ?_
          refine gx_Jci (pc := 73) (gx_hst (as := [gx_i v6, gx_i v7, gx_i x2, gx_i x3]) (b := gx_r 5 (some [0, 0, 0, 1]))) (gx_runV (as := [gx_i v6, gx_i v7, gx_i x2, gx_i x3]) (ci := 4) (ct_X4_compare Y [0, 0, 0, 1] v6 v7 x2 x3) (by decide) (Or.inl rfl) rfl rfl rfl rfl q1312 q1313 q1314 q104 q1315 rfl dd_X4_compare (by decide) (by decide) (Nat.le_of_ble_eq_true rfl) (htX7_find (73, .invokevirtual 119, 3) (gx_m 36 rfl))) (fun v8 => ?_)
          refine gx_istore (pc := 76) (i := 9) (lv' := [(9, gx_i v8), (8, gx_r 10 (some v5)), (7, gx_i (gx_ushr (s4.1 + s4.2) 1)), (0, gx_r 8 (some x0)), (2, gx_i x2), (3, gx_i x3), (4, gx_i s1), (5, gx_i s4.1), (6, gx_i s4.2)]) (by decide) rfl (htX7_find (76, .istore 9, 2) (gx_m 37 rfl)) ?_
          refine gx_iload (pc := 78) (i := 9) 0 rfl (htX7_find (78, .iload 9, 2) (gx_m 38 rfl)) ?_
          refine gx_if_ne (pc := 80) (y := 0) (tgt := 98) (by decide) (htX7_find (80, .ifCond .ne 18, 3) (gx_m 39 rfl)) (fun c5 => ?_) (fun c5 => ?_)
          · refine gx_aload (pc := 83) (i := 8) 1 rfl (htX7_find (83, .aload 8, 2) (gx_m 40 rfl)) ?_
            refine gx_Jgi (pc := 85) (ci := 9) (kk := 2) (by decide) (Or.inl rfl) (by decide) (by decide) q265 (htX7_find (85, .getfield 125, 3) (gx_m 41 rfl)) (fun v9 hv9 => ?_)
            refine gx_Jjoin (pcJ := 97) (lvJ := fun (j10 : Option gx_Nm) => []) (stJ := fun (j10 : Option gx_Nm) => [gx_r 10 j10]) (fun _ => True) (fun j10 hj10 => ?_) (fun kk6 hj6 => ?_)
            · refine gx_Jret ((hb3 _).trans ((he3 _).trans ((hb1 _).trans (he1 _)))) ?_
              exact gx_Jaret (pc := 97) rfl (Or.inl ⟨_, rfl⟩) (fun _ h => h) (fun _ _ => rfl) (htX7_find (97, .areturn, 1) (gx_m 46 rfl))
            · refine gx_if_eq (pc := 88) (y := 0) (tgt := 96) (by decide) (htX7_find (88, .ifCond .eq 8, 3) (gx_m 42 rfl)) (fun c7 => ?_) (fun c7 => ?_)
              · refine gx_aconst_null (pc := 96) (htX7_find (96, .aconst_null, 1) (gx_m 45 rfl)) ?_
                refine gx_Jw (lv := []) [] rfl ?_
                refine gx_Jnul 10 ?_
                exact hj6 (none : Option gx_Nm) trivial
              · refine gx_aload (pc := 91) (i := 8) 1 rfl (htX7_find (91, .aload 8, 2) (gx_m 43 rfl)) ?_
                refine gx_goto (pc := 93) (tgt := 97) (by decide) (htX7_find (93, .goto 4, 3) (gx_m 44 rfl)) ?_
                refine gx_Jw (lv := []) [] rfl ?_
                exact hj6 (some v5 : Option gx_Nm) trivial
          · refine gx_iload (pc := 98) (i := 9) 0 rfl (htX7_find (98, .iload 9, 2) (gx_m 47 rfl)) ?_
            refine gx_Jjoin (pcJ := 116) (lvJ := fun (j11 : Int32 × Int32) => [(0, gx_r 8 (some x0)), (2, gx_i x2), (3, gx_i x3), (4, gx_i s1), (5, gx_i j11.1), (6, gx_i j11.2)]) (stJ := fun (j11 : Int32 × Int32) => []) (fun _ => True) (fun j11 hj11 => ?_) (fun kk8 hj8 => ?_)
            · refine gx_goto (pc := 116) (tgt := 27) (by decide) (htX7_find (116, .goto (-89), 3) (gx_m 56 rfl)) ?_
              exact ha3 ((j11.1 : Int32), (j11.2 : Int32))
            · refine gx_if_ge (pc := 100) (y := 0) (tgt := 112) (by decide) (htX7_find (100, .ifCond .ge 12, 3) (gx_m 48 rfl)) (fun c9 => ?_) (fun c9 => ?_)
              · refine gx_iload (pc := 112) (i := 7) 2 rfl (htX7_find (112, .iload 7, 2) (gx_m 54 rfl)) ?_
                refine gx_istore (pc := 114) (i := 6) (lv' := [(6, gx_i (gx_ushr (s4.1 + s4.2) 1)), (9, gx_i v8), (8, gx_r 10 (some v5)), (7, gx_i (gx_ushr (s4.1 + s4.2) 1)), (0, gx_r 8 (some x0)), (2, gx_i x2), (3, gx_i x3), (4, gx_i s1), (5, gx_i s4.1)]) (by decide) rfl (htX7_find (114, .istore 6, 2) (gx_m 55 rfl)) ?_
                refine gx_Jw (lv := [(0, gx_r 8 (some x0)), (2, gx_i x2), (3, gx_i x3), (4, gx_i s1), (5, gx_i s4.1), (6, gx_i (gx_ushr (s4.1 + s4.2) 1))]) [4, 5, 6, 7, 8, 0] rfl ?_
                exact hj8 ((s4.1 : Int32), ((gx_ushr (s4.1 + s4.2) 1) : Int32)) trivial
              · refine gx_iload (pc := 103) (i := 7) 2 rfl (htX7_find (103, .iload 7, 2) (gx_m 49 rfl)) ?_
                refine gx_iconst (pc := 105) (v := 1) (by decide) (htX7_find (105, .iconst 1, 1) (gx_m 50 rfl)) ?_
                refine gx_iadd (pc := 106) (htX7_find (106, .iadd, 1) (gx_m 51 rfl)) ?_
                refine gx_istore (pc := 107) (i := 5) (lv' := [(5, gx_i ((gx_ushr (s4.1 + s4.2) 1) + 1)), (9, gx_i v8), (8, gx_r 10 (some v5)), (7, gx_i (gx_ushr (s4.1 + s4.2) 1)), (0, gx_r 8 (some x0)), (2, gx_i x2), (3, gx_i x3), (4, gx_i s1), (6, gx_i s4.2)]) (by decide) rfl (htX7_find (107, .istore 5, 2) (gx_m 52 rfl)) ?_
                refine gx_goto (pc := 109) (tgt := 116) (by decide) (htX7_find (109, .goto 7, 3) (gx_m 53 rfl)) ?_
                refine gx_Jw (lv := [(0, gx_r 8 (some x0)), (2, gx_i x2), (3, gx_i x3), (4, gx_i s1), (5, gx_i ((gx_ushr (s4.1 + s4.2) 1) + 1)), (6, gx_i s4.2)]) [4, 5, 6, 7, 0, 8] rfl ?_
                exact hj8 ((((gx_ushr (s4.1 + s4.2) 1) + 1) : Int32), (s4.2 : Int32)) trivial
theorem ct_X7_holds (Y : gx_Y) (x0 : gx_Nm) (x1 : Int32) (x2 : Int32) : gx_Ct Y yX7_holds (ws_ yX7_holds cX7_holds 8 (some .boolean)) 4 177 [gx_r 8 (some x0), gx_i x1, gx_i x2] gx_Oz (f_X7_holds x0 x1 x2) := by
  refine gx_start (lv := [(0, gx_r 8 (some x0)), (1, gx_i x1), (2, gx_i x2)]) gx_Oz_r pn_X7 (Nat.le_of_ble_eq_true rfl) rfl ?_
  unfold f_X7_holds
  refine gx_aload_n (pc := 0) (n := 0) (i := 0) rfl 0 rfl (htX7_holds (0, .aload_n 0, 1) (gx_m 0 rfl)) ?_
  refine gx_iload_n (pc := 1) (n := 1) (i := 1) rfl 1 rfl (htX7_holds (1, .iload_n 1, 1) (gx_m 1 rfl)) ?_
  refine gx_aload_n (pc := 2) (n := 0) (i := 0) rfl 0 rfl (htX7_holds (2, .aload_n 0, 1) (gx_m 2 rfl)) ?_
  refine gx_Jgs (pc := 3) (ci := 7) (kk := 0) (t2 := 4) (by decide) (by decide) rfl rfl rfl q306 (htX7_holds (3, .getfield 69, 3) (gx_m 3 rfl)) ?_
  refine gx_iload_n (pc := 6) (n := 2) (i := 2) rfl 2 rfl (htX7_holds (6, .iload_n 2, 1) (gx_m 4 rfl)) ?_
  refine gx_Jci (pc := 7) (gx_hst (as := [gx_i x2]) (b := gx_r 4 (some [0, 0, 1]))) (gx_runV (as := [gx_i x2]) (ci := 3) (ct_X3_get Y [0, 0, 1] x2) (by decide) (Or.inl rfl) rfl rfl rfl rfl q1296 q1297 q1298 q103 q1299 rfl dd_X3_get (by decide) (by decide) (Nat.le_of_ble_eq_true rfl) (htX7_holds (7, .invokevirtual 147, 3) (gx_m 5 rfl))) (fun v1 => ?_)
  refine gx_aload_n (pc := 10) (n := 0) (i := 0) rfl 0 rfl (htX7_holds (10, .aload_n 0, 1) (gx_m 6 rfl)) ?_
  refine gx_Jgs (pc := 11) (ci := 7) (kk := 0) (t2 := 4) (by decide) (by decide) rfl rfl rfl q306 (htX7_holds (11, .getfield 69, 3) (gx_m 7 rfl)) ?_
  refine gx_iload_n (pc := 14) (n := 2) (i := 2) rfl 2 rfl (htX7_holds (14, .iload_n 2, 1) (gx_m 8 rfl)) ?_
  refine gx_iconst (pc := 15) (v := 1) (by decide) (htX7_holds (15, .iconst 1, 1) (gx_m 9 rfl)) ?_
  refine gx_iadd (pc := 16) (htX7_holds (16, .iadd, 1) (gx_m 10 rfl)) ?_
  refine gx_Jci (pc := 17) (gx_hst (as := [gx_i (x2 + 1)]) (b := gx_r 4 (some [0, 0, 1]))) (gx_runV (as := [gx_i (x2 + 1)]) (ci := 3) (ct_X3_get Y [0, 0, 1] (x2 + 1)) (by decide) (Or.inl rfl) rfl rfl rfl rfl q1296 q1297 q1298 q103 q1299 rfl dd_X3_get (by decide) (by decide) (Nat.le_of_ble_eq_true rfl) (htX7_holds (17, .invokevirtual 147, 3) (gx_m 11 rfl))) (fun v2 => ?_)
  refine gx_Jco (pc := 20) (t2 := 10) (gx_hst (as := [gx_i x1, gx_i v1, gx_i v2]) (b := gx_r 8 (some x0))) (gx_runV (as := [gx_i x1, gx_i v1, gx_i v2]) (ci := 7) (ct_X7_find Y x0 x1 v1 v2) (by decide) (Or.inl rfl) rfl rfl rfl rfl q1300 q1301 q1302 q107 q1303 rfl dd_X7_find (by decide) (by decide) (Nat.le_of_ble_eq_true rfl) (htX7_holds (20, .invokevirtual 148, 3) (gx_m 12 rfl))) (fun v3 => ?_)
  refine gx_astore_n (pc := 23) (n := 3) (i := 3) (lv' := [(3, gx_r 10 v3), (0, gx_r 8 (some x0)), (1, gx_i x1), (2, gx_i x2)]) rfl (by decide) rfl (htX7_holds (23, .astore_n 3, 1) (gx_m 13 rfl)) ?_
  refine gx_aload_n (pc := 24) (n := 0) (i := 0) rfl 1 rfl (htX7_holds (24, .aload_n 0, 1) (gx_m 14 rfl)) ?_
  refine gx_Jgs (pc := 25) (ci := 7) (kk := 0) (t2 := 4) (by decide) (by decide) rfl rfl rfl q306 (htX7_holds (25, .getfield 69, 3) (gx_m 15 rfl)) ?_
  refine gx_iload_n (pc := 28) (n := 2) (i := 2) rfl 3 rfl (htX7_holds (28, .iload_n 2, 1) (gx_m 16 rfl)) ?_
  refine gx_iconst (pc := 29) (v := 2) (by decide) (htX7_holds (29, .iconst 2, 1) (gx_m 17 rfl)) ?_
  refine gx_iadd (pc := 30) (htX7_holds (30, .iadd, 1) (gx_m 18 rfl)) ?_
  refine gx_Jci (pc := 31) (gx_hst (as := [gx_i (x2 + 2)]) (b := gx_r 4 (some [0, 0, 1]))) (gx_runV (as := [gx_i (x2 + 2)]) (ci := 3) (ct_X3_get Y [0, 0, 1] (x2 + 2)) (by decide) (Or.inl rfl) rfl rfl rfl rfl q1296 q1297 q1298 q103 q1299 rfl dd_X3_get (by decide) (by decide) (Nat.le_of_ble_eq_true rfl) (htX7_holds (31, .invokevirtual 147, 3) (gx_m 19 rfl))) (fun v4 => ?_)
  refine gx_istore (pc := 34) (i := 4) (lv' := [(4, gx_i v4), (3, gx_r 10 v3), (0, gx_r 8 (some x0)), (1, gx_i x1), (2, gx_i x2)]) (by decide) rfl (htX7_holds (34, .istore 4, 2) (gx_m 20 rfl)) ?_
  refine gx_aload_n (pc := 36) (n := 3) (i := 3) rfl 1 rfl (htX7_holds (36, .aload_n 3, 1) (gx_m 21 rfl)) ?_
  refine gx_Jjoin (pcJ := 86) (lvJ := fun (j13 : Int32) => [(0, gx_r 8 (some x0)), (2, gx_i x2)]) (stJ := fun (j13 : Int32) => [gx_i j13]) (fun _ => True) (fun j13 hj13 => ?_) (fun kk1 hj1 => ?_)
  · refine gx_istore (pc := 86) (i := 5) (lv' := [(5, gx_i j13), (0, gx_r 8 (some x0)), (2, gx_i x2)]) (by decide) rfl (htX7_holds (86, .istore 5, 2) (gx_m 44 rfl)) ?_
    refine gx_aload_n (pc := 88) (n := 0) (i := 0) rfl 1 rfl (htX7_holds (88, .aload_n 0, 1) (gx_m 45 rfl)) ?_
    refine gx_Jgs (pc := 89) (ci := 7) (kk := 0) (t2 := 4) (by decide) (by decide) rfl rfl rfl q306 (htX7_holds (89, .getfield 69, 3) (gx_m 46 rfl)) ?_
    refine gx_iload_n (pc := 92) (n := 2) (i := 2) rfl 2 rfl (htX7_holds (92, .iload_n 2, 1) (gx_m 47 rfl)) ?_
    refine gx_iconst (pc := 93) (v := 4) (by decide) (htX7_holds (93, .iconst 4, 1) (gx_m 48 rfl)) ?_
    refine gx_iadd (pc := 94) (htX7_holds (94, .iadd, 1) (gx_m 49 rfl)) ?_
    refine gx_Jci (pc := 95) (gx_hst (as := [gx_i (x2 + 4)]) (b := gx_r 4 (some [0, 0, 1]))) (gx_runV (as := [gx_i (x2 + 4)]) (ci := 3) (ct_X3_get Y [0, 0, 1] (x2 + 4)) (by decide) (Or.inl rfl) rfl rfl rfl rfl q1296 q1297 q1298 q103 q1299 rfl dd_X3_get (by decide) (by decide) (Nat.le_of_ble_eq_true rfl) (htX7_holds (95, .invokevirtual 147, 3) (gx_m 50 rfl))) (fun v14 => ?_)
    refine gx_istore (pc := 98) (i := 6) (lv' := [(6, gx_i v14), (5, gx_i j13), (0, gx_r 8 (some x0)), (2, gx_i x2)]) (by decide) rfl (htX7_holds (98, .istore 6, 2) (gx_m 51 rfl)) ?_
    refine gx_aload_n (pc := 100) (n := 0) (i := 0) rfl 2 rfl (htX7_holds (100, .aload_n 0, 1) (gx_m 52 rfl)) ?_
    refine gx_Jgs (pc := 101) (ci := 7) (kk := 0) (t2 := 4) (by decide) (by decide) rfl rfl rfl q306 (htX7_holds (101, .getfield 69, 3) (gx_m 53 rfl)) ?_
    refine gx_iload_n (pc := 104) (n := 2) (i := 2) rfl 3 rfl (htX7_holds (104, .iload_n 2, 1) (gx_m 54 rfl)) ?_
    refine gx_iconst (pc := 105) (v := 3) (by decide) (htX7_holds (105, .iconst 3, 1) (gx_m 55 rfl)) ?_
    refine gx_iadd (pc := 106) (htX7_holds (106, .iadd, 1) (gx_m 56 rfl)) ?_
    refine gx_Jci (pc := 107) (gx_hst (as := [gx_i (x2 + 3)]) (b := gx_r 4 (some [0, 0, 1]))) (gx_runV (as := [gx_i (x2 + 3)]) (ci := 3) (ct_X3_get Y [0, 0, 1] (x2 + 3)) (by decide) (Or.inl rfl) rfl rfl rfl rfl q1296 q1297 q1298 q103 q1299 rfl dd_X3_get (by decide) (by decide) (Nat.le_of_ble_eq_true rfl) (htX7_holds (107, .invokevirtual 147, 3) (gx_m 57 rfl))) (fun v15 => ?_)
    refine gx_istore (pc := 110) (i := 7) (lv' := [(7, gx_i v15), (6, gx_i v14), (5, gx_i j13), (0, gx_r 8 (some x0)), (2, gx_i x2)]) (by decide) rfl (htX7_holds (110, .istore 7, 2) (gx_m 58 rfl)) ?_
    refine gx_iload (pc := 112) (i := 7) 0 rfl (htX7_holds (112, .iload 7, 2) (gx_m 59 rfl)) ?_
    refine gx_Jjoin (pcJ := 186) (lvJ := fun (j16 : Int32) => []) (stJ := fun (j16 : Int32) => [gx_i j16]) (fun (j16 : Int32) => j16 &&& 1 = j16) (fun j16 hj16 => ?_) (fun kk2 hj2 => ?_)
    · exact gx_Jzret (pc := 186) rfl hj16 (fun _ => hj16) (fun _ _ => rfl) (htX7_holds (186, .ireturn, 1) (gx_m 94 rfl))
    · refine gx_if_ne (pc := 114) (y := 0) (tgt := 132) (by decide) (htX7_holds (114, .ifCond .ne 18, 3) (gx_m 60 rfl)) (fun c3 => ?_) (fun c3 => ?_)
      · refine gx_iload (pc := 117) (i := 5) 2 rfl (htX7_holds (117, .iload 5, 2) (gx_m 61 rfl)) ?_
        refine gx_iload (pc := 119) (i := 6) 1 rfl (htX7_holds (119, .iload 6, 2) (gx_m 62 rfl)) ?_
        refine gx_icmp_ne (pc := 121) (tgt := 128) (by decide) (htX7_holds (121, .if_icmp .ne 7, 3) (gx_m 63 rfl)) (fun c4 => ?_) (fun c4 => ?_)
        · refine gx_iconst (pc := 124) (v := 1) (by decide) (htX7_holds (124, .iconst 1, 1) (gx_m 64 rfl)) ?_
          refine gx_goto (pc := 125) (tgt := 186) (by decide) (htX7_holds (125, .goto 61, 3) (gx_m 65 rfl)) ?_
          refine gx_Jw (lv := []) [] rfl ?_
          exact hj2 (1 : Int32) gx_b1
        · refine gx_iconst (pc := 128) (v := 0) (by decide) (htX7_holds (128, .iconst 0, 1) (gx_m 66 rfl)) ?_
          refine gx_goto (pc := 129) (tgt := 186) (by decide) (htX7_holds (129, .goto 57, 3) (gx_m 67 rfl)) ?_
          refine gx_Jw (lv := []) [] rfl ?_
          exact hj2 (0 : Int32) gx_b0
      · refine gx_iload (pc := 132) (i := 7) 0 rfl (htX7_holds (132, .iload 7, 2) (gx_m 68 rfl)) ?_
        refine gx_iconst (pc := 134) (v := 1) (by decide) (htX7_holds (134, .iconst 1, 1) (gx_m 69 rfl)) ?_
        refine gx_icmp_ne (pc := 135) (tgt := 153) (by decide) (htX7_holds (135, .if_icmp .ne 18, 3) (gx_m 70 rfl)) (fun c5 => ?_) (fun c5 => ?_)
        · refine gx_iload (pc := 138) (i := 5) 2 rfl (htX7_holds (138, .iload 5, 2) (gx_m 71 rfl)) ?_
          refine gx_iload (pc := 140) (i := 6) 1 rfl (htX7_holds (140, .iload 6, 2) (gx_m 72 rfl)) ?_
          refine gx_icmp_eq (pc := 142) (tgt := 149) (by decide) (htX7_holds (142, .if_icmp .eq 7, 3) (gx_m 73 rfl)) (fun c6 => ?_) (fun c6 => ?_)
          · refine gx_iconst (pc := 149) (v := 0) (by decide) (htX7_holds (149, .iconst 0, 1) (gx_m 76 rfl)) ?_
            refine gx_goto (pc := 150) (tgt := 186) (by decide) (htX7_holds (150, .goto 36, 3) (gx_m 77 rfl)) ?_
            refine gx_Jw (lv := []) [] rfl ?_
            exact hj2 (0 : Int32) gx_b0
          · refine gx_iconst (pc := 145) (v := 1) (by decide) (htX7_holds (145, .iconst 1, 1) (gx_m 74 rfl)) ?_
            refine gx_goto (pc := 146) (tgt := 186) (by decide) (htX7_holds (146, .goto 40, 3) (gx_m 75 rfl)) ?_
            refine gx_Jw (lv := []) [] rfl ?_
            exact hj2 (1 : Int32) gx_b1
        · refine gx_iload (pc := 153) (i := 7) 0 rfl (htX7_holds (153, .iload 7, 2) (gx_m 78 rfl)) ?_
          refine gx_iconst (pc := 155) (v := 2) (by decide) (htX7_holds (155, .iconst 2, 1) (gx_m 79 rfl)) ?_
          refine gx_icmp_ne (pc := 156) (tgt := 174) (by decide) (htX7_holds (156, .if_icmp .ne 18, 3) (gx_m 80 rfl)) (fun c7 => ?_) (fun c7 => ?_)
          · refine gx_iload (pc := 159) (i := 5) 2 rfl (htX7_holds (159, .iload 5, 2) (gx_m 81 rfl)) ?_
            refine gx_iload (pc := 161) (i := 6) 1 rfl (htX7_holds (161, .iload 6, 2) (gx_m 82 rfl)) ?_
            refine gx_icmp_ge (pc := 163) (tgt := 170) (by decide) (htX7_holds (163, .if_icmp .ge 7, 3) (gx_m 83 rfl)) (fun c8 => ?_) (fun c8 => ?_)
            · refine gx_iconst (pc := 170) (v := 0) (by decide) (htX7_holds (170, .iconst 0, 1) (gx_m 86 rfl)) ?_
              refine gx_goto (pc := 171) (tgt := 186) (by decide) (htX7_holds (171, .goto 15, 3) (gx_m 87 rfl)) ?_
              refine gx_Jw (lv := []) [] rfl ?_
              exact hj2 (0 : Int32) gx_b0
            · refine gx_iconst (pc := 166) (v := 1) (by decide) (htX7_holds (166, .iconst 1, 1) (gx_m 84 rfl)) ?_
              refine gx_goto (pc := 167) (tgt := 186) (by decide) (htX7_holds (167, .goto 19, 3) (gx_m 85 rfl)) ?_
              refine gx_Jw (lv := []) [] rfl ?_
              exact hj2 (1 : Int32) gx_b1
          · refine gx_iload (pc := 174) (i := 5) 2 rfl (htX7_holds (174, .iload 5, 2) (gx_m 88 rfl)) ?_
            refine gx_iload (pc := 176) (i := 6) 1 rfl (htX7_holds (176, .iload 6, 2) (gx_m 89 rfl)) ?_
            refine gx_icmp_le (pc := 178) (tgt := 185) (by decide) (htX7_holds (178, .if_icmp .le 7, 3) (gx_m 90 rfl)) (fun c9 => ?_) (fun c9 => ?_)
            · refine gx_iconst (pc := 185) (v := 0) (by decide) (htX7_holds (185, .iconst 0, 1) (gx_m 93 rfl)) ?_
              refine gx_Jw (lv := []) [] rfl ?_
              exact hj2 (0 : Int32) gx_b0
            · refine gx_iconst (pc := 181) (v := 1) (by decide) (htX7_holds (181, .iconst 1, 1) (gx_m 91 rfl)) ?_
              refine gx_goto (pc := 182) (tgt := 186) (by decide) (htX7_holds (182, .goto 4, 3) (gx_m 92 rfl)) ?_
              refine gx_Jw (lv := []) [] rfl ?_
              exact hj2 (1 : Int32) gx_b1
  · refine gx_ifnonnull (pc := 37) (tgt := 44) (by decide) (htX7_holds (37, .ifnonnull 7, 3) (gx_m 22 rfl)) (fun c10 => ?_) (fun c10 => ?_)
    · refine gx_iconst (pc := 40) (v := 0) (by decide) (htX7_holds (40, .iconst 0, 1) (gx_m 23 rfl)) ?_
      refine gx_goto (pc := 41) (tgt := 86) (by decide) (htX7_holds (41, .goto 45, 3) (gx_m 24 rfl)) ?_
      refine gx_Jw (lv := [(0, gx_r 8 (some x0)), (2, gx_i x2)]) [2, 4] rfl ?_
      exact hj1 (0 : Int32) trivial
    · refine gx_iload (pc := 44) (i := 4) 0 rfl (htX7_holds (44, .iload 4, 2) (gx_m 25 rfl)) ?_
      refine gx_if_ne (pc := 46) (y := 0) (tgt := 56) (by decide) (htX7_holds (46, .ifCond .ne 10, 3) (gx_m 26 rfl)) (fun c11 => ?_) (fun c11 => ?_)
      · refine gx_aload_n (pc := 49) (n := 3) (i := 3) rfl 1 rfl (htX7_holds (49, .aload_n 3, 1) (gx_m 27 rfl)) ?_
        refine gx_Jnn (st0 := fun v5 => [gx_r 10 (some v5)]) (fun _ h => by rw [h]) (fun v5 => ?_)
        refine gx_Jgi (pc := 50) (ci := 9) (kk := 5) (by decide) (Or.inl rfl) (by decide) (by decide) q274 (htX7_holds (50, .getfield 152, 3) (gx_m 28 rfl)) (fun v6 hv6 => ?_)
        refine gx_goto (pc := 53) (tgt := 86) (by decide) (htX7_holds (53, .goto 33, 3) (gx_m 29 rfl)) ?_
        refine gx_Jw (lv := [(0, gx_r 8 (some x0)), (2, gx_i x2)]) [2, 4] rfl ?_
        exact hj1 (v6 : Int32) trivial
      · refine gx_iload (pc := 56) (i := 4) 0 rfl (htX7_holds (56, .iload 4, 2) (gx_m 30 rfl)) ?_
        refine gx_iconst (pc := 58) (v := 1) (by decide) (htX7_holds (58, .iconst 1, 1) (gx_m 31 rfl)) ?_
        refine gx_icmp_ne (pc := 59) (tgt := 69) (by decide) (htX7_holds (59, .if_icmp .ne 10, 3) (gx_m 32 rfl)) (fun c12 => ?_) (fun c12 => ?_)
        · refine gx_aload_n (pc := 62) (n := 3) (i := 3) rfl 1 rfl (htX7_holds (62, .aload_n 3, 1) (gx_m 33 rfl)) ?_
          refine gx_Jnn (st0 := fun v7 => [gx_r 10 (some v7)]) (fun _ h => by rw [h]) (fun v7 => ?_)
          refine gx_Jgi (pc := 63) (ci := 9) (kk := 6) (by decide) (Or.inl rfl) (by decide) (by decide) q277 (htX7_holds (63, .getfield 155, 3) (gx_m 34 rfl)) (fun v8 hv8 => ?_)
          refine gx_goto (pc := 66) (tgt := 86) (by decide) (htX7_holds (66, .goto 20, 3) (gx_m 35 rfl)) ?_
          refine gx_Jw (lv := [(0, gx_r 8 (some x0)), (2, gx_i x2)]) [2, 4] rfl ?_
          exact hj1 (v8 : Int32) trivial
        · refine gx_iload (pc := 69) (i := 4) 0 rfl (htX7_holds (69, .iload 4, 2) (gx_m 36 rfl)) ?_
          refine gx_iconst (pc := 71) (v := 2) (by decide) (htX7_holds (71, .iconst 2, 1) (gx_m 37 rfl)) ?_
          refine gx_icmp_ne (pc := 72) (tgt := 82) (by decide) (htX7_holds (72, .if_icmp .ne 10, 3) (gx_m 38 rfl)) (fun c13 => ?_) (fun c13 => ?_)
          · refine gx_aload_n (pc := 75) (n := 3) (i := 3) rfl 1 rfl (htX7_holds (75, .aload_n 3, 1) (gx_m 39 rfl)) ?_
            refine gx_Jnn (st0 := fun v9 => [gx_r 10 (some v9)]) (fun _ h => by rw [h]) (fun v9 => ?_)
            refine gx_Jgi (pc := 76) (ci := 9) (kk := 7) (by decide) (Or.inl rfl) (by decide) (by decide) q281 (htX7_holds (76, .getfield 158, 3) (gx_m 40 rfl)) (fun v10 hv10 => ?_)
            refine gx_goto (pc := 79) (tgt := 86) (by decide) (htX7_holds (79, .goto 7, 3) (gx_m 41 rfl)) ?_
            refine gx_Jw (lv := [(0, gx_r 8 (some x0)), (2, gx_i x2)]) [2, 4] rfl ?_
            exact hj1 (v10 : Int32) trivial
          · refine gx_aload_n (pc := 82) (n := 3) (i := 3) rfl 1 rfl (htX7_holds (82, .aload_n 3, 1) (gx_m 42 rfl)) ?_
            refine gx_Jnn (st0 := fun v11 => [gx_r 10 (some v11)]) (fun _ h => by rw [h]) (fun v11 => ?_)
            refine gx_Jgi (pc := 83) (ci := 9) (kk := 8) (by decide) (Or.inl rfl) (by decide) (by decide) q285 (htX7_holds (83, .getfield 161, 3) (gx_m 43 rfl)) (fun v12 hv12 => ?_)
            refine gx_Jw (lv := [(0, gx_r 8 (some x0)), (2, gx_i x2)]) [2, 4] rfl ?_
            exact hj1 (v12 : Int32) trivial
theorem ct_X7_hasLease (Y : gx_Y) (x0 : gx_Nm) (x1 : Int32) : gx_Ct Y yX7_hasLease (ws_ yX7_hasLease cX7_hasLease 2 (some .boolean)) 1 100 [gx_r 8 (some x0), gx_i x1] gx_Oz (f_X7_hasLease x0 x1) := by
  refine gx_start (lv := [(0, gx_r 8 (some x0)), (1, gx_i x1)]) gx_Oz_r pn_X7 (Nat.le_of_ble_eq_true rfl) rfl ?_
  unfold f_X7_hasLease
  refine gx_aload_n (pc := 0) (n := 0) (i := 0) rfl 0 rfl (htX7_hasLease (0, .aload_n 0, 1) (gx_m 0 rfl)) ?_
  refine gx_Jgs (pc := 1) (ci := 7) (kk := 14) (t2 := 100) (by decide) (by decide) rfl rfl rfl q320 (htX7_hasLease (1, .getfield 62, 3) (gx_m 1 rfl)) ?_
  refine gx_iload_n (pc := 4) (n := 1) (i := 1) rfl 1 rfl (htX7_hasLease (4, .iload_n 1, 1) (gx_m 2 rfl)) ?_
  refine gx_iconst (pc := 5) (v := 5) (by decide) (htX7_hasLease (5, .iconst 5, 1) (gx_m 3 rfl)) ?_
  refine gx_ishr (pc := 6) (htX7_hasLease (6, .ishr, 1) (gx_m 4 rfl)) ?_
  refine gx_Jia (pc := 7) (htX7_hasLease (7, .iaload, 1) (gx_m 5 rfl)) (fun v1 => ?_)
  refine gx_iload_n (pc := 8) (n := 1) (i := 1) rfl 1 rfl (htX7_hasLease (8, .iload_n 1, 1) (gx_m 6 rfl)) ?_
  refine gx_bipush (pc := 9) (v := 31) (by decide) (htX7_hasLease (9, .bipush 31, 2) (gx_m 7 rfl)) ?_
  refine gx_iand (pc := 11) (htX7_hasLease (11, .iand, 1) (gx_m 8 rfl)) ?_
  refine gx_iushr (pc := 12) (htX7_hasLease (12, .iushr, 1) (gx_m 9 rfl)) ?_
  refine gx_iconst (pc := 13) (v := 1) (by decide) (htX7_hasLease (13, .iconst 1, 1) (gx_m 10 rfl)) ?_
  refine gx_iand (pc := 14) (htX7_hasLease (14, .iand, 1) (gx_m 11 rfl)) ?_
  refine gx_iconst (pc := 15) (v := 1) (by decide) (htX7_hasLease (15, .iconst 1, 1) (gx_m 12 rfl)) ?_
  refine gx_Jjoin (pcJ := 24) (lvJ := fun (j2 : Int32) => []) (stJ := fun (j2 : Int32) => [gx_i j2]) (fun (j2 : Int32) => j2 &&& 1 = j2) (fun j2 hj2 => ?_) (fun kk1 hj1 => ?_)
  · exact gx_Jzret (pc := 24) rfl hj2 (fun _ => hj2) (fun _ _ => rfl) (htX7_hasLease (24, .ireturn, 1) (gx_m 17 rfl))
  · refine gx_icmp_ne (pc := 16) (tgt := 23) (by decide) (htX7_hasLease (16, .if_icmp .ne 7, 3) (gx_m 13 rfl)) (fun c2 => ?_) (fun c2 => ?_)
    · refine gx_iconst (pc := 19) (v := 1) (by decide) (htX7_hasLease (19, .iconst 1, 1) (gx_m 14 rfl)) ?_
      refine gx_goto (pc := 20) (tgt := 24) (by decide) (htX7_hasLease (20, .goto 4, 3) (gx_m 15 rfl)) ?_
      refine gx_Jw (lv := []) [] rfl ?_
      exact hj1 (1 : Int32) gx_b1
    · refine gx_iconst (pc := 23) (v := 0) (by decide) (htX7_hasLease (23, .iconst 0, 1) (gx_m 16 rfl)) ?_
      refine gx_Jw (lv := []) [] rfl ?_
      exact hj1 (0 : Int32) gx_b0
theorem ct_X9_copy (Y : gx_Y) (x0 : gx_Nm) (x1 : gx_Nm) : gx_Ct Y yX9_copy (ws_ yX9_copy cX9_copy 2 none) 1 100 [gx_r 10 (some x0), gx_r 10 (some x1)] gx_Ov (f_X9_copy x0 x1) := by
  refine gx_start (lv := [(0, gx_r 10 (some x0)), (1, gx_r 10 (some x1))]) gx_Ov_r pn_X9 (Nat.le_of_ble_eq_true rfl) rfl ?_
  unfold f_X9_copy
  refine gx_aload_n (pc := 0) (n := 0) (i := 0) rfl 0 rfl (htX9_copy (0, .aload_n 0, 1) (gx_m 0 rfl)) ?_
  refine gx_aload_n (pc := 1) (n := 1) (i := 1) rfl 1 rfl (htX9_copy (1, .aload_n 1, 1) (gx_m 1 rfl)) ?_
  refine gx_Jgi (pc := 2) (ci := 9) (kk := 0) (by decide) (Or.inl rfl) (by decide) (by decide) q258 (htX9_copy (2, .getfield 7, 3) (gx_m 2 rfl)) (fun v1 hv1 => ?_)
  refine gx_Jpi (pc := 5) (ci := 9) (kk := 0) (by decide) (Or.inl rfl) (by decide) rfl rfl q258 (Or.inl rfl) (htX9_copy (5, .putfield 7, 3) (gx_m 3 rfl)) ?_
  refine gx_aload_n (pc := 8) (n := 0) (i := 0) rfl 0 rfl (htX9_copy (8, .aload_n 0, 1) (gx_m 4 rfl)) ?_
  refine gx_aload_n (pc := 9) (n := 1) (i := 1) rfl 1 rfl (htX9_copy (9, .aload_n 1, 1) (gx_m 5 rfl)) ?_
  refine gx_Jgi (pc := 10) (ci := 9) (kk := 1) (by decide) (Or.inl rfl) (by decide) (by decide) q261 (htX9_copy (10, .getfield 13, 3) (gx_m 6 rfl)) (fun v2 hv2 => ?_)
  refine gx_Jpi (pc := 13) (ci := 9) (kk := 1) (by decide) (Or.inl rfl) (by decide) rfl rfl q261 (Or.inl rfl) (htX9_copy (13, .putfield 13, 3) (gx_m 7 rfl)) ?_
  refine gx_aload_n (pc := 16) (n := 0) (i := 0) rfl 0 rfl (htX9_copy (16, .aload_n 0, 1) (gx_m 8 rfl)) ?_
  refine gx_aload_n (pc := 17) (n := 1) (i := 1) rfl 1 rfl (htX9_copy (17, .aload_n 1, 1) (gx_m 9 rfl)) ?_
  refine gx_Jgi (pc := 18) (ci := 9) (kk := 2) (by decide) (Or.inl rfl) (by decide) (by decide) q264 (htX9_copy (18, .getfield 16, 3) (gx_m 10 rfl)) (fun v3 hv3 => ?_)
  refine gx_Jpz (pc := 21) (ci := 9) (kk := 2) (by decide) (Or.inl rfl) (by decide) rfl rfl (hv3 rfl) q264 (Or.inl rfl) (htX9_copy (21, .putfield 16, 3) (gx_m 11 rfl)) ?_
  refine gx_aload_n (pc := 24) (n := 0) (i := 0) rfl 0 rfl (htX9_copy (24, .aload_n 0, 1) (gx_m 12 rfl)) ?_
  refine gx_aload_n (pc := 25) (n := 1) (i := 1) rfl 1 rfl (htX9_copy (25, .aload_n 1, 1) (gx_m 13 rfl)) ?_
  refine gx_Jgi (pc := 26) (ci := 9) (kk := 3) (by decide) (Or.inl rfl) (by decide) (by decide) q267 (htX9_copy (26, .getfield 20, 3) (gx_m 14 rfl)) (fun v4 hv4 => ?_)
  refine gx_Jpi (pc := 29) (ci := 9) (kk := 3) (by decide) (Or.inl rfl) (by decide) rfl rfl q267 (Or.inl rfl) (htX9_copy (29, .putfield 20, 3) (gx_m 15 rfl)) ?_
  refine gx_aload_n (pc := 32) (n := 0) (i := 0) rfl 0 rfl (htX9_copy (32, .aload_n 0, 1) (gx_m 16 rfl)) ?_
  refine gx_aload_n (pc := 33) (n := 1) (i := 1) rfl 1 rfl (htX9_copy (33, .aload_n 1, 1) (gx_m 17 rfl)) ?_
  refine gx_Jgi (pc := 34) (ci := 9) (kk := 4) (by decide) (Or.inl rfl) (by decide) (by decide) q270 (htX9_copy (34, .getfield 23, 3) (gx_m 18 rfl)) (fun v5 hv5 => ?_)
  refine gx_Jpi (pc := 37) (ci := 9) (kk := 4) (by decide) (Or.inl rfl) (by decide) rfl rfl q270 (Or.inl rfl) (htX9_copy (37, .putfield 23, 3) (gx_m 19 rfl)) ?_
  refine gx_aload_n (pc := 40) (n := 0) (i := 0) rfl 0 rfl (htX9_copy (40, .aload_n 0, 1) (gx_m 20 rfl)) ?_
  refine gx_aload_n (pc := 41) (n := 1) (i := 1) rfl 1 rfl (htX9_copy (41, .aload_n 1, 1) (gx_m 21 rfl)) ?_
  refine gx_Jgi (pc := 42) (ci := 9) (kk := 5) (by decide) (Or.inl rfl) (by decide) (by decide) q273 (htX9_copy (42, .getfield 26, 3) (gx_m 22 rfl)) (fun v6 hv6 => ?_)
  refine gx_Jpi (pc := 45) (ci := 9) (kk := 5) (by decide) (Or.inl rfl) (by decide) rfl rfl q273 (Or.inl rfl) (htX9_copy (45, .putfield 26, 3) (gx_m 23 rfl)) ?_
  refine gx_aload_n (pc := 48) (n := 0) (i := 0) rfl 0 rfl (htX9_copy (48, .aload_n 0, 1) (gx_m 24 rfl)) ?_
  refine gx_aload_n (pc := 49) (n := 1) (i := 1) rfl 1 rfl (htX9_copy (49, .aload_n 1, 1) (gx_m 25 rfl)) ?_
  refine gx_Jgi (pc := 50) (ci := 9) (kk := 6) (by decide) (Or.inl rfl) (by decide) (by decide) q276 (htX9_copy (50, .getfield 29, 3) (gx_m 26 rfl)) (fun v7 hv7 => ?_)
  refine gx_Jpi (pc := 53) (ci := 9) (kk := 6) (by decide) (Or.inl rfl) (by decide) rfl rfl q276 (Or.inl rfl) (htX9_copy (53, .putfield 29, 3) (gx_m 27 rfl)) ?_
  refine gx_aload_n (pc := 56) (n := 0) (i := 0) rfl 0 rfl (htX9_copy (56, .aload_n 0, 1) (gx_m 28 rfl)) ?_
  refine gx_aload_n (pc := 57) (n := 1) (i := 1) rfl 1 rfl (htX9_copy (57, .aload_n 1, 1) (gx_m 29 rfl)) ?_
  refine gx_Jgi (pc := 58) (ci := 9) (kk := 7) (by decide) (Or.inl rfl) (by decide) (by decide) q280 (htX9_copy (58, .getfield 32, 3) (gx_m 30 rfl)) (fun v8 hv8 => ?_)
  refine gx_Jpi (pc := 61) (ci := 9) (kk := 7) (by decide) (Or.inl rfl) (by decide) rfl rfl q280 (Or.inl rfl) (htX9_copy (61, .putfield 32, 3) (gx_m 31 rfl)) ?_
  refine gx_aload_n (pc := 64) (n := 0) (i := 0) rfl 0 rfl (htX9_copy (64, .aload_n 0, 1) (gx_m 32 rfl)) ?_
  refine gx_aload_n (pc := 65) (n := 1) (i := 1) rfl 1 rfl (htX9_copy (65, .aload_n 1, 1) (gx_m 33 rfl)) ?_
  refine gx_Jgi (pc := 66) (ci := 9) (kk := 8) (by decide) (Or.inl rfl) (by decide) (by decide) q284 (htX9_copy (66, .getfield 35, 3) (gx_m 34 rfl)) (fun v9 hv9 => ?_)
  refine gx_Jpi (pc := 69) (ci := 9) (kk := 8) (by decide) (Or.inl rfl) (by decide) rfl rfl q284 (Or.inl rfl) (htX9_copy (69, .putfield 35, 3) (gx_m 35 rfl)) ?_
  exact gx_Jvret (pc := 72) rfl (fun _ => trivial) (fun _ _ => rfl) (htX9_copy (72, .return_, 1) (gx_m 36 rfl))
theorem ct_X7_now (Y : gx_Y) (x0 : gx_Nm) (x1 : Int32) (x2 : Int32) (x3 : Int32) : gx_Ct Y yX7_now (ws_ yX7_now cX7_now 6 (some .boolean)) 4 177 [gx_r 8 (some x0), gx_i x1, gx_i x2, gx_i x3] gx_Oz (f_X7_now x0 x1 x2 x3) := by
  refine gx_start (lv := [(0, gx_r 8 (some x0)), (1, gx_i x1), (2, gx_i x2), (3, gx_i x3)]) gx_Oz_r pn_X7 (Nat.le_of_ble_eq_true rfl) rfl ?_
  unfold f_X7_now
  refine gx_aload_n (pc := 0) (n := 0) (i := 0) rfl 0 rfl (htX7_now (0, .aload_n 0, 1) (gx_m 0 rfl)) ?_
  refine gx_Jgs (pc := 1) (ci := 7) (kk := 13) (t2 := 10) (by decide) (by decide) rfl rfl rfl q319 (htX7_now (1, .getfield 58, 3) (gx_m 1 rfl)) ?_
  refine gx_iload_n (pc := 4) (n := 2) (i := 2) rfl 2 rfl (htX7_now (4, .iload_n 2, 1) (gx_m 2 rfl)) ?_
  refine gx_Jpi (pc := 5) (ci := 9) (kk := 0) (by decide) (Or.inl rfl) (by decide) rfl rfl q259 (Or.inl rfl) (htX7_now (5, .putfield 113, 3) (gx_m 3 rfl)) ?_
  refine gx_aload_n (pc := 8) (n := 0) (i := 0) rfl 0 rfl (htX7_now (8, .aload_n 0, 1) (gx_m 4 rfl)) ?_
  refine gx_Jgs (pc := 9) (ci := 7) (kk := 13) (t2 := 10) (by decide) (by decide) rfl rfl rfl q319 (htX7_now (9, .getfield 58, 3) (gx_m 5 rfl)) ?_
  refine gx_iload_n (pc := 12) (n := 3) (i := 3) rfl 3 rfl (htX7_now (12, .iload_n 3, 1) (gx_m 6 rfl)) ?_
  refine gx_Jpi (pc := 13) (ci := 9) (kk := 1) (by decide) (Or.inl rfl) (by decide) rfl rfl q262 (Or.inl rfl) (htX7_now (13, .putfield 116, 3) (gx_m 7 rfl)) ?_
  refine gx_iconst (pc := 16) (v := 0) (by decide) (htX7_now (16, .iconst 0, 1) (gx_m 8 rfl)) ?_
  refine gx_istore (pc := 17) (i := 4) (lv' := [(4, gx_i 0), (0, gx_r 8 (some x0)), (1, gx_i x1), (2, gx_i x2), (3, gx_i x3)]) (by decide) rfl (htX7_now (17, .istore 4, 2) (gx_m 9 rfl)) ?_
  refine gx_JjoinE (pcJ := 91) (lvJ := fun (j_1 : Unit) => [(0, gx_r 8 (some x0)), (1, gx_i x1), (2, gx_i x2), (3, gx_i x3)]) (stJ := fun (j_1 : Unit) => []) (gr := fun r => gx_rt r) (fun _ => rfl) (fun _ => rfl) (fun j_1 => ?_) (fun kk1 hj1 he1 => ?_)
  · refine gx_aload_n (pc := 91) (n := 0) (i := 0) rfl 0 rfl (htX7_now (91, .aload_n 0, 1) (gx_m 41 rfl)) ?_
    refine gx_iload_n (pc := 92) (n := 1) (i := 1) rfl 1 rfl (htX7_now (92, .iload_n 1, 1) (gx_m 42 rfl)) ?_
    refine gx_iload_n (pc := 93) (n := 2) (i := 2) rfl 2 rfl (htX7_now (93, .iload_n 2, 1) (gx_m 43 rfl)) ?_
    refine gx_iload_n (pc := 94) (n := 3) (i := 3) rfl 3 rfl (htX7_now (94, .iload_n 3, 1) (gx_m 44 rfl)) ?_
    refine gx_Jco (pc := 95) (t2 := 10) (gx_hst (as := [gx_i x1, gx_i x2, gx_i x3]) (b := gx_r 8 (some x0))) (gx_runV (as := [gx_i x1, gx_i x2, gx_i x3]) (ci := 7) (ct_X7_find Y x0 x1 x2 x3) (by decide) (Or.inl rfl) rfl rfl rfl rfl q1300 q1301 q1302 q107 q1303 rfl dd_X7_find (by decide) (by decide) (Nat.le_of_ble_eq_true rfl) (htX7_now (95, .invokevirtual 148, 3) (gx_m 45 rfl))) (fun v10 => ?_)
    refine gx_astore (pc := 98) (i := 4) (lv' := [(4, gx_r 10 v10), (0, gx_r 8 (some x0)), (1, gx_i x1), (2, gx_i x2), (3, gx_i x3)]) (by decide) rfl (htX7_now (98, .astore 4, 2) (gx_m 46 rfl)) ?_
    refine gx_aload (pc := 100) (i := 4) 0 rfl (htX7_now (100, .aload 4, 2) (gx_m 47 rfl)) ?_
    refine gx_Jjoin (pcJ := 114) (lvJ := fun (j_2 : Unit) => [(4, gx_r 10 v10)]) (stJ := fun (j_2 : Unit) => []) (fun _ => True) (fun j_2 hj_2 => ?_) (fun kk2 hj2 => ?_)
    · refine gx_aload (pc := 114) (i := 4) 0 rfl (htX7_now (114, .aload 4, 2) (gx_m 53 rfl)) ?_
      refine gx_Jjoin (pcJ := 124) (lvJ := fun (j12 : Int32) => []) (stJ := fun (j12 : Int32) => [gx_i j12]) (fun (j12 : Int32) => j12 &&& 1 = j12) (fun j12 hj12 => ?_) (fun kk3 hj3 => ?_)
      · exact gx_Jzret (pc := 124) rfl hj12 (fun _ => hj12) (fun _ _ => rfl) (htX7_now (124, .ireturn, 1) (gx_m 58 rfl))
      · refine gx_ifnull (pc := 116) (tgt := 123) (by decide) (htX7_now (116, .ifnull 7, 3) (gx_m 54 rfl)) (fun c4 => ?_) (fun c4 => ?_)
        · refine gx_iconst (pc := 123) (v := 0) (by decide) (htX7_now (123, .iconst 0, 1) (gx_m 57 rfl)) ?_
          refine gx_Jw (lv := []) [] rfl ?_
          exact hj3 (0 : Int32) gx_b0
        · refine gx_iconst (pc := 119) (v := 1) (by decide) (htX7_now (119, .iconst 1, 1) (gx_m 55 rfl)) ?_
          refine gx_goto (pc := 120) (tgt := 124) (by decide) (htX7_now (120, .goto 4, 3) (gx_m 56 rfl)) ?_
          refine gx_Jw (lv := []) [] rfl ?_
          exact hj3 (1 : Int32) gx_b1
    · refine gx_ifnull (pc := 102) (tgt := 114) (by decide) (htX7_now (102, .ifnull 12, 3) (gx_m 48 rfl)) (fun c5 => ?_) (fun c5 => ?_)
      · refine gx_Jw (lv := [(4, gx_r 10 v10)]) [0] rfl ?_
        exact hj2 () trivial
      · refine gx_aload_n (pc := 105) (n := 0) (i := 0) rfl 1 rfl (htX7_now (105, .aload_n 0, 1) (gx_m 49 rfl)) ?_
        refine gx_Jgs (pc := 106) (ci := 7) (kk := 13) (t2 := 10) (by decide) (by decide) rfl rfl rfl q319 (htX7_now (106, .getfield 58, 3) (gx_m 50 rfl)) ?_
        refine gx_aload (pc := 109) (i := 4) 0 rfl (htX7_now (109, .aload 4, 2) (gx_m 51 rfl)) ?_
        refine gx_Jnn (st0 := fun v11 => [gx_r 10 (some v11), gx_r 10 (some (13 :: x0))]) (fun _ h => by rw [h]) (fun v11 => ?_)
        refine gx_Jcv (pc := 111) (gx_hst (as := [gx_r 10 (some v11)]) (b := gx_r 10 (some (13 :: x0)))) (gx_runV (as := [gx_r 10 (some v11)]) (ci := 9) (ct_X9_copy Y (13 :: x0) v11) (by decide) (Or.inl rfl) rfl rfl rfl rfl q1336 q1337 q1338 q109 q1339 rfl dd_X9_copy (by decide) (by decide) (Nat.le_of_ble_eq_true rfl) (htX7_now (111, .invokevirtual 137, 3) (gx_m 52 rfl))) ?_
        refine gx_Jw (lv := [(4, gx_r 10 v10)]) [0] rfl ?_
        exact hj2 () trivial
  · refine gx_Jw (lv := [(0, gx_r 8 (some x0)), (1, gx_i x1), (2, gx_i x2), (3, gx_i x3), (4, gx_i 0)]) [1, 2, 3, 4, 0] rfl ?_
    refine gx_Jlp (pc := 19) (lvh := fun (s1 : Int32) => [(0, gx_r 8 (some x0)), (1, gx_i x1), (2, gx_i x2), (3, gx_i x3), (4, gx_i s1)]) (fun s1 kl1 ha1 hb1 => ?_) _
    unfold lb_X7_now_1
    refine gx_iload (pc := 19) (i := 4) 4 rfl (htX7_now (19, .iload 4, 2) (gx_m 10 rfl)) ?_
    refine gx_aload_n (pc := 21) (n := 0) (i := 0) rfl 0 rfl (htX7_now (21, .aload_n 0, 1) (gx_m 11 rfl)) ?_
    refine gx_Jgs (pc := 22) (ci := 7) (kk := 12) (t2 := 9) (by decide) (by decide) rfl rfl rfl q318 (htX7_now (22, .getfield 52, 3) (gx_m 12 rfl)) ?_
    refine gx_Jgi (pc := 25) (ci := 8) (kk := 1) (by decide) (Or.inl rfl) (by decide) (by decide) q245 (htX7_now (25, .getfield 88, 3) (gx_m 13 rfl)) (fun v2 hv2 => ?_)
    refine gx_icmp_ge (pc := 28) (tgt := 91) (by decide) (htX7_now (28, .if_icmp .ge 63, 3) (gx_m 14 rfl)) (fun c6 => ?_) (fun c6 => ?_)
    · refine gx_Jw (lv := [(0, gx_r 8 (some x0)), (1, gx_i x1), (2, gx_i x2), (3, gx_i x3)]) [0, 1, 2, 3] rfl ?_
      exact gx_Jout hb1 (hj1 ())
    · refine gx_aload_n (pc := 31) (n := 0) (i := 0) rfl 0 rfl (htX7_now (31, .aload_n 0, 1) (gx_m 15 rfl)) ?_
      refine gx_Jgs (pc := 32) (ci := 7) (kk := 12) (t2 := 9) (by decide) (by decide) rfl rfl rfl q318 (htX7_now (32, .getfield 52, 3) (gx_m 16 rfl)) ?_
      refine gx_iload (pc := 35) (i := 4) 4 rfl (htX7_now (35, .iload 4, 2) (gx_m 17 rfl)) ?_
      refine gx_Jcr (pc := 37) (t2 := 10) (gx_hst (as := [gx_i s1]) (b := gx_r 9 (some (12 :: x0)))) (gx_runV (as := [gx_i s1]) (ci := 8) (ct_X8_get Y (12 :: x0) s1) (by decide) (Or.inl rfl) rfl rfl rfl rfl q1308 q1309 q1310 q108 q1311 rfl dd_X8_get (by decide) (by decide) (Nat.le_of_ble_eq_true rfl) (htX7_now (37, .invokevirtual 104, 3) (gx_m 18 rfl))) (fun v3 => ?_)
      refine gx_astore (pc := 40) (i := 5) (lv' := [(5, gx_r 10 (some v3)), (0, gx_r 8 (some x0)), (1, gx_i x1), (2, gx_i x2), (3, gx_i x3), (4, gx_i s1)]) (by decide) rfl (htX7_now (40, .astore 5, 2) (gx_m 19 rfl)) ?_
      refine gx_aload_n (pc := 42) (n := 0) (i := 0) rfl 1 rfl (htX7_now (42, .aload_n 0, 1) (gx_m 20 rfl)) ?_
      refine gx_Jgs (pc := 43) (ci := 7) (kk := 0) (t2 := 4) (by decide) (by decide) rfl rfl rfl q306 (htX7_now (43, .getfield 69, 3) (gx_m 21 rfl)) ?_
      refine gx_Jgs (pc := 46) (ci := 3) (kk := 0) (t2 := 5) (by decide) (by decide) rfl rfl rfl q192 (htX7_now (46, .getfield 107, 3) (gx_m 22 rfl)) ?_
      refine gx_aload (pc := 49) (i := 5) 0 rfl (htX7_now (49, .aload 5, 2) (gx_m 23 rfl)) ?_
      refine gx_Jgi (pc := 51) (ci := 9) (kk := 0) (by decide) (Or.inl rfl) (by decide) (by decide) q259 (htX7_now (51, .getfield 113, 3) (gx_m 24 rfl)) (fun v4 hv4 => ?_)
      refine gx_aload (pc := 54) (i := 5) 0 rfl (htX7_now (54, .aload 5, 2) (gx_m 25 rfl)) ?_
      refine gx_Jgi (pc := 56) (ci := 9) (kk := 1) (by decide) (Or.inl rfl) (by decide) (by decide) q262 (htX7_now (56, .getfield 116, 3) (gx_m 26 rfl)) (fun v5 hv5 => ?_)
      refine gx_iload_n (pc := 59) (n := 2) (i := 2) rfl 3 rfl (htX7_now (59, .iload_n 2, 1) (gx_m 27 rfl)) ?_
      refine gx_iload_n (pc := 60) (n := 3) (i := 3) rfl 4 rfl (htX7_now (60, .iload_n 3, 1) (gx_m 28 rfl)) ?_
      refine gx_Jci (pc := 61) (gx_hst (as := [gx_i v4, gx_i v5, gx_i x2, gx_i x3]) (b := gx_r 5 (some [0, 0, 0, 1]))) (gx_runV (as := [gx_i v4, gx_i v5, gx_i x2, gx_i x3]) (ci := 4) (ct_X4_compare Y [0, 0, 0, 1] v4 v5 x2 x3) (by decide) (Or.inl rfl) rfl rfl rfl rfl q1312 q1313 q1314 q104 q1315 rfl dd_X4_compare (by decide) (by decide) (Nat.le_of_ble_eq_true rfl) (htX7_now (61, .invokevirtual 119, 3) (gx_m 29 rfl))) (fun v6 => ?_)
      refine gx_if_eq (pc := 64) (y := 0) (tgt := 70) (by decide) (htX7_now (64, .ifCond .eq 6, 3) (gx_m 30 rfl)) (fun c7 => ?_) (fun c7 => ?_)
      · refine gx_aload_n (pc := 70) (n := 0) (i := 0) rfl 1 rfl (htX7_now (70, .aload_n 0, 1) (gx_m 32 rfl)) ?_
        refine gx_Jgs (pc := 71) (ci := 7) (kk := 13) (t2 := 10) (by decide) (by decide) rfl rfl rfl q319 (htX7_now (71, .getfield 58, 3) (gx_m 33 rfl)) ?_
        refine gx_aload (pc := 74) (i := 5) 0 rfl (htX7_now (74, .aload 5, 2) (gx_m 34 rfl)) ?_
        refine gx_Jcv (pc := 76) (gx_hst (as := [gx_r 10 (some v3)]) (b := gx_r 10 (some (13 :: x0)))) (gx_runV (as := [gx_r 10 (some v3)]) (ci := 9) (ct_X9_copy Y (13 :: x0) v3) (by decide) (Or.inl rfl) rfl rfl rfl rfl q1336 q1337 q1338 q109 q1339 rfl dd_X9_copy (by decide) (by decide) (Nat.le_of_ble_eq_true rfl) (htX7_now (76, .invokevirtual 137, 3) (gx_m 35 rfl))) ?_
        refine gx_aload (pc := 79) (i := 5) 0 rfl (htX7_now (79, .aload 5, 2) (gx_m 36 rfl)) ?_
        refine gx_Jgi (pc := 81) (ci := 9) (kk := 2) (by decide) (Or.inl rfl) (by decide) (by decide) q265 (htX7_now (81, .getfield 125, 3) (gx_m 37 rfl)) (fun v7 hv7 => ?_)
        refine gx_Jret ((hb1 _).trans (he1 _)) ?_
        exact gx_Jzret (pc := 84) rfl (hv7 rfl) (fun _ => (hv7 rfl)) (fun _ _ => rfl) (htX7_now (84, .ireturn, 1) (gx_m 38 rfl))
      · refine gx_goto (pc := 67) (tgt := 85) (by decide) (htX7_now (67, .goto 18, 3) (gx_m 31 rfl)) ?_
        refine gx_iinc (pc := 85) (i := 4) (j := 5) (v := (s1 + 1)) (lv' := [(4, gx_i (s1 + 1)), (5, gx_r 10 (some v3)), (0, gx_r 8 (some x0)), (1, gx_i x1), (2, gx_i x2), (3, gx_i x3)]) rfl (gx_iv (by decide)) (by decide) rfl (htX7_now (85, .iinc 4 1, 3) (gx_m 39 rfl)) ?_
        refine gx_goto (pc := 88) (tgt := 19) (by decide) (htX7_now (88, .goto (-69), 3) (gx_m 40 rfl)) ?_
        refine gx_Jw (lv := [(0, gx_r 8 (some x0)), (1, gx_i x1), (2, gx_i x2), (3, gx_i x3), (4, gx_i (s1 + 1))]) [2, 3, 4, 5, 0] rfl ?_
        exact ha1 ((s1 + 1) : Int32)
theorem ct_X8_add (Y : gx_Y) (x0 : gx_Nm) : gx_Ct Y yX8_add (ws_ yX8_add cX8_add 3 (some (.object "CouncilStore$Pair"))) 2 120 [gx_r 9 (some x0)] (gx_Or Y 10) (f_X8_add x0) := by
  refine gx_start (lv := [(0, gx_r 9 (some x0))]) gx_Or_r pn_X8 (Nat.le_of_ble_eq_true rfl) rfl ?_
  unfold f_X8_add
  refine gx_aload_n (pc := 0) (n := 0) (i := 0) rfl 0 rfl (htX8_add (0, .aload_n 0, 1) (gx_m 0 rfl)) ?_
  refine gx_Jgi (pc := 1) (ci := 8) (kk := 1) (by decide) (Or.inl rfl) (by decide) (by decide) q244 (htX8_add (1, .getfield 15, 3) (gx_m 1 rfl)) (fun v1 hv1 => ?_)
  refine gx_aload_n (pc := 4) (n := 0) (i := 0) rfl 0 rfl (htX8_add (4, .aload_n 0, 1) (gx_m 2 rfl)) ?_
  refine gx_Jgr (pc := 5) (ci := 8) (kk := 0) (t2 := 107) (by decide) (Or.inl rfl) (by decide) rfl rfl q243 (htX8_add (5, .getfield 9, 3) (gx_m 3 rfl)) (fun v2 => ?_)
  refine gx_Jal (pc := 8) (t := 7) (by decide) (htX8_add (8, .arraylength, 1) (gx_m 4 rfl)) (fun v3 => ?_)
  refine gx_Jjoin (pcJ := 52) (lvJ := fun (j_1 : Unit) => [(0, gx_r 9 (some x0))]) (stJ := fun (j_1 : Unit) => []) (fun _ => True) (fun j_1 hj_1 => ?_) (fun kk1 hj1 => ?_)
  · refine gx_aload_n (pc := 52) (n := 0) (i := 0) rfl 0 rfl (htX8_add (52, .aload_n 0, 1) (gx_m 30 rfl)) ?_
    refine gx_Jgr (pc := 53) (ci := 8) (kk := 0) (t2 := 107) (by decide) (Or.inl rfl) (by decide) rfl rfl q243 (htX8_add (53, .getfield 9, 3) (gx_m 31 rfl)) (fun v9 => ?_)
    refine gx_aload_n (pc := 56) (n := 0) (i := 0) rfl 0 rfl (htX8_add (56, .aload_n 0, 1) (gx_m 32 rfl)) ?_
    refine gx_Jgi (pc := 57) (ci := 8) (kk := 1) (by decide) (Or.inl rfl) (by decide) (by decide) q244 (htX8_add (57, .getfield 15, 3) (gx_m 33 rfl)) (fun v10 hv10 => ?_)
    refine gx_Jro (pc := 60) (t := 7) (t2 := 10) (by decide) (by decide) rfl (htX8_add (60, .aaload, 1) (gx_m 34 rfl)) (fun v11 => ?_)
    refine gx_Jjoin (pcJ := 80) (lvJ := fun (j_2 : Unit) => [(0, gx_r 9 (some x0))]) (stJ := fun (j_2 : Unit) => []) (fun _ => True) (fun j_2 hj_2 => ?_) (fun kk2 hj2 => ?_)
    · refine gx_aload_n (pc := 80) (n := 0) (i := 0) rfl 0 rfl (htX8_add (80, .aload_n 0, 1) (gx_m 44 rfl)) ?_
      refine gx_dup (pc := 81) rfl (htX8_add (81, .dup, 1) (gx_m 45 rfl)) ?_
      refine gx_Jgi (pc := 82) (ci := 8) (kk := 1) (by decide) (Or.inl rfl) (by decide) (by decide) q244 (htX8_add (82, .getfield 15, 3) (gx_m 46 rfl)) (fun v15 hv15 => ?_)
      refine gx_iconst (pc := 85) (v := 1) (by decide) (htX8_add (85, .iconst 1, 1) (gx_m 47 rfl)) ?_
      refine gx_iadd (pc := 86) (htX8_add (86, .iadd, 1) (gx_m 48 rfl)) ?_
      refine gx_Jpi (pc := 87) (ci := 8) (kk := 1) (by decide) (Or.inl rfl) (by decide) rfl rfl q244 (Or.inl rfl) (htX8_add (87, .putfield 15, 3) (gx_m 49 rfl)) ?_
      refine gx_aload_n (pc := 90) (n := 0) (i := 0) rfl 0 rfl (htX8_add (90, .aload_n 0, 1) (gx_m 50 rfl)) ?_
      refine gx_Jgr (pc := 91) (ci := 8) (kk := 0) (t2 := 107) (by decide) (Or.inl rfl) (by decide) rfl rfl q243 (htX8_add (91, .getfield 9, 3) (gx_m 51 rfl)) (fun v16 => ?_)
      refine gx_aload_n (pc := 94) (n := 0) (i := 0) rfl 0 rfl (htX8_add (94, .aload_n 0, 1) (gx_m 52 rfl)) ?_
      refine gx_Jgi (pc := 95) (ci := 8) (kk := 1) (by decide) (Or.inl rfl) (by decide) (by decide) q244 (htX8_add (95, .getfield 15, 3) (gx_m 53 rfl)) (fun v17 hv17 => ?_)
      refine gx_iconst (pc := 98) (v := 1) (by decide) (htX8_add (98, .iconst 1, 1) (gx_m 54 rfl)) ?_
      refine gx_isub (pc := 99) (htX8_add (99, .isub, 1) (gx_m 55 rfl)) ?_
      refine gx_Jra (pc := 100) (t := 7) (t2 := 10) (by decide) (by decide) rfl (htX8_add (100, .aaload, 1) (gx_m 56 rfl)) (fun v18 => ?_)
      exact gx_Jaret (pc := 101) rfl (Or.inl ⟨_, rfl⟩) (fun _ h => h) (fun _ _ => rfl) (htX8_add (101, .areturn, 1) (gx_m 57 rfl))
    · refine gx_ifnonnull (pc := 61) (tgt := 80) (by decide) (htX8_add (61, .ifnonnull 19, 3) (gx_m 35 rfl)) (fun c3 => ?_) (fun c3 => ?_)
      · refine gx_aload_n (pc := 64) (n := 0) (i := 0) rfl 0 rfl (htX8_add (64, .aload_n 0, 1) (gx_m 36 rfl)) ?_
        refine gx_Jgr (pc := 65) (ci := 8) (kk := 0) (t2 := 107) (by decide) (Or.inl rfl) (by decide) rfl rfl q243 (htX8_add (65, .getfield 9, 3) (gx_m 37 rfl)) (fun v12 => ?_)
        refine gx_aload_n (pc := 68) (n := 0) (i := 0) rfl 0 rfl (htX8_add (68, .aload_n 0, 1) (gx_m 38 rfl)) ?_
        refine gx_Jgi (pc := 69) (ci := 8) (kk := 1) (by decide) (Or.inl rfl) (by decide) (by decide) q244 (htX8_add (69, .getfield 15, 3) (gx_m 39 rfl)) (fun v13 hv13 => ?_)
        refine gx_Jpeek (fun S q h => by cases h; rfl) (fun v14 => ?_)
        refine gx_Jnw (pc := 72) (ci := 9) (by decide) rfl rfl rfl q241 q253 q109 (htX8_add (72, .new 7, 3) (gx_m 40 rfl)) ?_
        refine gx_dup (pc := 75) rfl (htX8_add (75, .dup, 1) (gx_m 41 rfl)) ?_
        refine gx_Jcv (pc := 76) (gx_hst (as := []) (b := gx_r 39 (some (v14.toNatClampNeg :: 90 :: x0)))) (gx_runIN (as := []) (ct_X9_init Y (v14.toNatClampNeg :: 90 :: x0)) rfl rfl rfl rfl q1348 q255 q109 q256 rfl dd_X9_init (by decide) (by decide) (Nat.le_of_ble_eq_true rfl) (htX8_add (76, .invokespecial 19, 3) (gx_m 42 rfl))) ?_
        refine gx_Jfu (ci := 9) (by decide) rfl rfl sn_9 ?_
        refine gx_Jrs (pc := 79) (t := 7) (ci := 9) (by decide) (by decide) rfl (by decide) rfl rfl (htX8_add (79, .aastore, 1) (gx_m 43 rfl)) ?_
        exact hj2 () trivial
      · exact hj2 () trivial
  · refine gx_icmp_ne (pc := 9) (tgt := 52) (by decide) (htX8_add (9, .if_icmp .ne 43, 3) (gx_m 5 rfl)) (fun c4 => ?_) (fun c4 => ?_)
    · refine gx_iconst (pc := 12) (v := 2) (by decide) (htX8_add (12, .iconst 2, 1) (gx_m 6 rfl)) ?_
      refine gx_aload_n (pc := 13) (n := 0) (i := 0) rfl 0 rfl (htX8_add (13, .aload_n 0, 1) (gx_m 7 rfl)) ?_
      refine gx_Jgi (pc := 14) (ci := 8) (kk := 1) (by decide) (Or.inl rfl) (by decide) (by decide) q244 (htX8_add (14, .getfield 15, 3) (gx_m 8 rfl)) (fun v4 hv4 => ?_)
      refine gx_imul (pc := 17) (htX8_add (17, .imul, 1) (gx_m 9 rfl)) ?_
      refine gx_Jnr (pc := 18) (t := 7) (ci := 9) (by decide) rfl rfl rfl q241 q242 (htX8_add (18, .anewarray 7, 3) (gx_m 10 rfl)) ?_
      refine gx_astore_n (pc := 21) (n := 1) (i := 1) (lv' := [(1, gx_r 107 (some ((2 * v4).toNatClampNeg :: 0 :: x0))), (0, gx_r 9 (some x0))]) rfl (by decide) rfl (htX8_add (21, .astore_n 1, 1) (gx_m 11 rfl)) ?_
      refine gx_iconst (pc := 22) (v := 0) (by decide) (htX8_add (22, .iconst 0, 1) (gx_m 12 rfl)) ?_
      refine gx_istore_n (pc := 23) (n := 2) (i := 2) (lv' := [(2, gx_i 0), (1, gx_r 107 (some ((2 * v4).toNatClampNeg :: 0 :: x0))), (0, gx_r 9 (some x0))]) rfl (by decide) rfl (htX8_add (23, .istore_n 2, 1) (gx_m 13 rfl)) ?_
      refine gx_Jjoin (pcJ := 47) (lvJ := fun (j_5 : Unit) => [(0, gx_r 9 (some x0)), (1, gx_r 107 (some ((2 * v4).toNatClampNeg :: 0 :: x0)))]) (stJ := fun (j_5 : Unit) => []) (fun _ => True) (fun j_5 _ => ?_) (fun kk5 hj5 => ?_)
      · refine gx_aload_n (pc := 47) (n := 0) (i := 0) rfl 0 rfl (htX8_add (47, .aload_n 0, 1) (gx_m 27 rfl)) ?_
        refine gx_aload_n (pc := 48) (n := 1) (i := 1) rfl 1 rfl (htX8_add (48, .aload_n 1, 1) (gx_m 28 rfl)) ?_
        refine gx_Jpr (pc := 49) (ci := 8) (kk := 0) (by decide) (Or.inl rfl) (by decide) rfl rfl (by decide) (fun _ h => by cases h) (Or.inr ⟨_, rfl⟩) q243 (Or.inl rfl) (htX8_add (49, .putfield 9, 3) (gx_m 29 rfl)) ?_
        refine gx_Jw (lv := [(0, gx_r 9 (some x0))]) [0] rfl ?_
        exact hj1 () trivial
      · refine gx_Jw (lv := [(0, gx_r 9 (some x0)), (1, gx_r 107 (some ((2 * v4).toNatClampNeg :: 0 :: x0))), (2, gx_i 0)]) [2, 1, 0] rfl ?_
        refine gx_Jlp (pc := 24) (lvh := fun (s5 : Int32) => [(0, gx_r 9 (some x0)), (1, gx_r 107 (some ((2 * v4).toNatClampNeg :: 0 :: x0))), (2, gx_i s5)]) (fun s5 kl5 ha5 hb5 => ?_) _
        unfold lb_X8_add_1
        refine gx_iload_n (pc := 24) (n := 2) (i := 2) rfl 2 rfl (htX8_add (24, .iload_n 2, 1) (gx_m 14 rfl)) ?_
        refine gx_aload_n (pc := 25) (n := 0) (i := 0) rfl 0 rfl (htX8_add (25, .aload_n 0, 1) (gx_m 15 rfl)) ?_
        refine gx_Jgi (pc := 26) (ci := 8) (kk := 1) (by decide) (Or.inl rfl) (by decide) (by decide) q244 (htX8_add (26, .getfield 15, 3) (gx_m 16 rfl)) (fun v6 hv6 => ?_)
        refine gx_icmp_ge (pc := 29) (tgt := 47) (by decide) (htX8_add (29, .if_icmp .ge 18, 3) (gx_m 17 rfl)) (fun c6 => ?_) (fun c6 => ?_)
        · refine gx_Jw (lv := [(0, gx_r 9 (some x0)), (1, gx_r 107 (some ((2 * v4).toNatClampNeg :: 0 :: x0)))]) [0, 1] rfl ?_
          exact gx_Jout hb5 (hj5 () trivial)
        · refine gx_aload_n (pc := 32) (n := 1) (i := 1) rfl 1 rfl (htX8_add (32, .aload_n 1, 1) (gx_m 18 rfl)) ?_
          refine gx_iload_n (pc := 33) (n := 2) (i := 2) rfl 2 rfl (htX8_add (33, .iload_n 2, 1) (gx_m 19 rfl)) ?_
          refine gx_aload_n (pc := 34) (n := 0) (i := 0) rfl 0 rfl (htX8_add (34, .aload_n 0, 1) (gx_m 20 rfl)) ?_
          refine gx_Jgr (pc := 35) (ci := 8) (kk := 0) (t2 := 107) (by decide) (Or.inl rfl) (by decide) rfl rfl q243 (htX8_add (35, .getfield 9, 3) (gx_m 21 rfl)) (fun v7 => ?_)
          refine gx_iload_n (pc := 38) (n := 2) (i := 2) rfl 2 rfl (htX8_add (38, .iload_n 2, 1) (gx_m 22 rfl)) ?_
          refine gx_Jra (pc := 39) (t := 7) (t2 := 10) (by decide) (by decide) rfl (htX8_add (39, .aaload, 1) (gx_m 23 rfl)) (fun v8 => ?_)
          refine gx_Jrs (pc := 40) (t := 7) (ci := 9) (by decide) (by decide) rfl (by decide) rfl rfl (htX8_add (40, .aastore, 1) (gx_m 24 rfl)) ?_
          refine gx_iinc (pc := 41) (i := 2) (j := 2) (v := (s5 + 1)) (lv' := [(2, gx_i (s5 + 1)), (0, gx_r 9 (some x0)), (1, gx_r 107 (some ((2 * v4).toNatClampNeg :: 0 :: x0)))]) rfl (gx_iv (by decide)) (by decide) rfl (htX8_add (41, .iinc 2 1, 3) (gx_m 25 rfl)) ?_
          refine gx_goto (pc := 44) (tgt := 24) (by decide) (htX8_add (44, .goto (-20), 3) (gx_m 26 rfl)) ?_
          refine gx_Jw (lv := [(0, gx_r 9 (some x0)), (1, gx_r 107 (some ((2 * v4).toNatClampNeg :: 0 :: x0))), (2, gx_i (s5 + 1))]) [1, 2, 0] rfl ?_
          exact ha5 ((s5 + 1) : Int32)
    · exact hj1 () trivial
theorem ct_X7_place (Y : gx_Y) (x0 : gx_Nm) (x1 : gx_Nm) (x2 : gx_Nm) (x3 : Int32) : gx_Ct Y yX7_place (ws_ yX7_place cX7_place 9 (some (.object "CouncilStore$Pair"))) 3 148 [gx_r 8 (some x0), gx_r 9 (some x1), gx_r 10 (some x2), gx_i x3] (gx_Or Y 10) (f_X7_place x0 x1 x2 x3) := by
  refine gx_start (lv := [(0, gx_r 8 (some x0)), (1, gx_r 9 (some x1)), (2, gx_r 10 (some x2)), (3, gx_i x3)]) gx_Or_r pn_X7 (Nat.le_of_ble_eq_true rfl) rfl ?_
  unfold f_X7_place
  refine gx_iconst (pc := 0) (v := 0) (by decide) (htX7_place (0, .iconst 0, 1) (gx_m 0 rfl)) ?_
  refine gx_istore (pc := 1) (i := 4) (lv' := [(4, gx_i 0), (0, gx_r 8 (some x0)), (1, gx_r 9 (some x1)), (2, gx_r 10 (some x2)), (3, gx_i x3)]) (by decide) rfl (htX7_place (1, .istore 4, 2) (gx_m 1 rfl)) ?_
  refine gx_aload_n (pc := 3) (n := 1) (i := 1) rfl 2 rfl (htX7_place (3, .aload_n 1, 1) (gx_m 2 rfl)) ?_
  refine gx_Jgi (pc := 4) (ci := 8) (kk := 1) (by decide) (Or.inl rfl) (by decide) (by decide) q245 (htX7_place (4, .getfield 88, 3) (gx_m 3 rfl)) (fun v1 hv1 => ?_)
  refine gx_istore (pc := 7) (i := 5) (lv' := [(5, gx_i v1), (4, gx_i 0), (0, gx_r 8 (some x0)), (1, gx_r 9 (some x1)), (2, gx_r 10 (some x2)), (3, gx_i x3)]) (by decide) rfl (htX7_place (7, .istore 5, 2) (gx_m 4 rfl)) ?_
  refine gx_JjoinE (pcJ := 102) (lvJ := fun (j11 : Int32) => [(1, gx_r 9 (some x1)), (2, gx_r 10 (some x2)), (4, gx_i j11)]) (stJ := fun (j11 : Int32) => []) (gr := fun r => gx_rt r) (fun _ => rfl) (fun _ => rfl) (fun j11 => ?_) (fun kk1 hj1 he1 => ?_)
  · refine gx_aload_n (pc := 102) (n := 1) (i := 1) rfl 0 rfl (htX7_place (102, .aload_n 1, 1) (gx_m 50 rfl)) ?_
    refine gx_Jcr (pc := 103) (t2 := 10) (gx_hst (as := []) (b := gx_r 9 (some x1))) (gx_runV (as := []) (ci := 8) (ct_X8_add Y x1) (by decide) (Or.inl rfl) rfl rfl rfl rfl q1344 q1345 q1346 q108 q1347 rfl dd_X8_add (by decide) (by decide) (Nat.le_of_ble_eq_true rfl) (htX7_place (103, .invokevirtual 144, 3) (gx_m 51 rfl))) (fun v12 => ?_)
    refine gx_pop (pc := 106) rfl (htX7_place (106, .pop, 1) (gx_m 52 rfl)) ?_
    refine gx_aload_n (pc := 107) (n := 1) (i := 1) rfl 0 rfl (htX7_place (107, .aload_n 1, 1) (gx_m 53 rfl)) ?_
    refine gx_Jgi (pc := 108) (ci := 8) (kk := 1) (by decide) (Or.inl rfl) (by decide) (by decide) q245 (htX7_place (108, .getfield 88, 3) (gx_m 54 rfl)) (fun v13 hv13 => ?_)
    refine gx_iconst (pc := 111) (v := 1) (by decide) (htX7_place (111, .iconst 1, 1) (gx_m 55 rfl)) ?_
    refine gx_isub (pc := 112) (htX7_place (112, .isub, 1) (gx_m 56 rfl)) ?_
    refine gx_istore (pc := 113) (i := 6) (lv' := [(6, gx_i (v13 - 1)), (1, gx_r 9 (some x1)), (2, gx_r 10 (some x2)), (4, gx_i j11)]) (by decide) rfl (htX7_place (113, .istore 6, 2) (gx_m 57 rfl)) ?_
    refine gx_Jjoin (pcJ := 145) (lvJ := fun (j_2 : Unit) => [(1, gx_r 9 (some x1)), (2, gx_r 10 (some x2)), (4, gx_i j11)]) (stJ := fun (j_2 : Unit) => []) (fun _ => True) (fun j_2 _ => ?_) (fun kk2 hj2 => ?_)
    · refine gx_aload_n (pc := 145) (n := 1) (i := 1) rfl 0 rfl (htX7_place (145, .aload_n 1, 1) (gx_m 72 rfl)) ?_
      refine gx_iload (pc := 146) (i := 4) 2 rfl (htX7_place (146, .iload 4, 2) (gx_m 73 rfl)) ?_
      refine gx_Jcr (pc := 148) (t2 := 10) (gx_hst (as := [gx_i j11]) (b := gx_r 9 (some x1))) (gx_runV (as := [gx_i j11]) (ci := 8) (ct_X8_get Y x1 j11) (by decide) (Or.inl rfl) rfl rfl rfl rfl q1308 q1309 q1310 q108 q1311 rfl dd_X8_get (by decide) (by decide) (Nat.le_of_ble_eq_true rfl) (htX7_place (148, .invokevirtual 104, 3) (gx_m 74 rfl))) (fun v17 => ?_)
      refine gx_aload_n (pc := 151) (n := 2) (i := 2) rfl 1 rfl (htX7_place (151, .aload_n 2, 1) (gx_m 75 rfl)) ?_
      refine gx_Jcv (pc := 152) (gx_hst (as := [gx_r 10 (some x2)]) (b := gx_r 10 (some v17))) (gx_runV (as := [gx_r 10 (some x2)]) (ci := 9) (ct_X9_copy Y v17 x2) (by decide) (Or.inl rfl) rfl rfl rfl rfl q1336 q1337 q1338 q109 q1339 rfl dd_X9_copy (by decide) (by decide) (Nat.le_of_ble_eq_true rfl) (htX7_place (152, .invokevirtual 137, 3) (gx_m 76 rfl))) ?_
      refine gx_aload_n (pc := 155) (n := 1) (i := 1) rfl 0 rfl (htX7_place (155, .aload_n 1, 1) (gx_m 77 rfl)) ?_
      refine gx_iload (pc := 156) (i := 4) 2 rfl (htX7_place (156, .iload 4, 2) (gx_m 78 rfl)) ?_
      refine gx_Jcr (pc := 158) (t2 := 10) (gx_hst (as := [gx_i j11]) (b := gx_r 9 (some x1))) (gx_runV (as := [gx_i j11]) (ci := 8) (ct_X8_get Y x1 j11) (by decide) (Or.inl rfl) rfl rfl rfl rfl q1308 q1309 q1310 q108 q1311 rfl dd_X8_get (by decide) (by decide) (Nat.le_of_ble_eq_true rfl) (htX7_place (158, .invokevirtual 104, 3) (gx_m 79 rfl))) (fun v18 => ?_)
      exact gx_Jaret (pc := 161) rfl (Or.inl ⟨_, rfl⟩) (fun _ h => h) (fun _ _ => rfl) (htX7_place (161, .areturn, 1) (gx_m 80 rfl))
    · refine gx_Jw (lv := [(1, gx_r 9 (some x1)), (2, gx_r 10 (some x2)), (4, gx_i j11), (6, gx_i (v13 - 1))]) [1, 2, 3, 0] rfl ?_
      refine gx_Jlp (pc := 115) (lvh := fun (s14 : Int32) => [(1, gx_r 9 (some x1)), (2, gx_r 10 (some x2)), (4, gx_i j11), (6, gx_i s14)]) (fun s14 kl2 ha2 hb2 => ?_) _
      unfold lb_X7_place_2
      refine gx_iload (pc := 115) (i := 6) 3 rfl (htX7_place (115, .iload 6, 2) (gx_m 58 rfl)) ?_
      refine gx_iload (pc := 117) (i := 4) 2 rfl (htX7_place (117, .iload 4, 2) (gx_m 59 rfl)) ?_
      refine gx_icmp_le (pc := 119) (tgt := 145) (by decide) (htX7_place (119, .if_icmp .le 26, 3) (gx_m 60 rfl)) (fun c3 => ?_) (fun c3 => ?_)
      · refine gx_Jw (lv := [(1, gx_r 9 (some x1)), (2, gx_r 10 (some x2)), (4, gx_i j11)]) [0, 1, 2] rfl ?_
        exact gx_Jout hb2 (hj2 () trivial)
      · refine gx_aload_n (pc := 122) (n := 1) (i := 1) rfl 0 rfl (htX7_place (122, .aload_n 1, 1) (gx_m 61 rfl)) ?_
        refine gx_iload (pc := 123) (i := 6) 3 rfl (htX7_place (123, .iload 6, 2) (gx_m 62 rfl)) ?_
        refine gx_Jcr (pc := 125) (t2 := 10) (gx_hst (as := [gx_i s14]) (b := gx_r 9 (some x1))) (gx_runV (as := [gx_i s14]) (ci := 8) (ct_X8_get Y x1 s14) (by decide) (Or.inl rfl) rfl rfl rfl rfl q1308 q1309 q1310 q108 q1311 rfl dd_X8_get (by decide) (by decide) (Nat.le_of_ble_eq_true rfl) (htX7_place (125, .invokevirtual 104, 3) (gx_m 63 rfl))) (fun v15 => ?_)
        refine gx_aload_n (pc := 128) (n := 1) (i := 1) rfl 0 rfl (htX7_place (128, .aload_n 1, 1) (gx_m 64 rfl)) ?_
        refine gx_iload (pc := 129) (i := 6) 3 rfl (htX7_place (129, .iload 6, 2) (gx_m 65 rfl)) ?_
        refine gx_iconst (pc := 131) (v := 1) (by decide) (htX7_place (131, .iconst 1, 1) (gx_m 66 rfl)) ?_
        refine gx_isub (pc := 132) (htX7_place (132, .isub, 1) (gx_m 67 rfl)) ?_
        refine gx_Jcr (pc := 133) (t2 := 10) (gx_hst (as := [gx_i (s14 - 1)]) (b := gx_r 9 (some x1))) (gx_runV (as := [gx_i (s14 - 1)]) (ci := 8) (ct_X8_get Y x1 (s14 - 1)) (by decide) (Or.inl rfl) rfl rfl rfl rfl q1308 q1309 q1310 q108 q1311 rfl dd_X8_get (by decide) (by decide) (Nat.le_of_ble_eq_true rfl) (htX7_place (133, .invokevirtual 104, 3) (gx_m 68 rfl))) (fun v16 => ?_)
        refine gx_Jcv (pc := 136) (gx_hst (as := [gx_r 10 (some v16)]) (b := gx_r 10 (some v15))) (gx_runV (as := [gx_r 10 (some v16)]) (ci := 9) (ct_X9_copy Y v15 v16) (by decide) (Or.inl rfl) rfl rfl rfl rfl q1336 q1337 q1338 q109 q1339 rfl dd_X9_copy (by decide) (by decide) (Nat.le_of_ble_eq_true rfl) (htX7_place (136, .invokevirtual 137, 3) (gx_m 69 rfl))) ?_
        refine gx_iinc (pc := 139) (i := 6) (j := 3) (v := (s14 + (-1))) (lv' := [(6, gx_i (s14 + (-1))), (1, gx_r 9 (some x1)), (2, gx_r 10 (some x2)), (4, gx_i j11)]) rfl (gx_iv (by decide)) (by decide) rfl (htX7_place (139, .iinc 6 (-1), 3) (gx_m 70 rfl)) ?_
        refine gx_goto (pc := 142) (tgt := 115) (by decide) (htX7_place (142, .goto (-27), 3) (gx_m 71 rfl)) ?_
        refine gx_Jw (lv := [(1, gx_r 9 (some x1)), (2, gx_r 10 (some x2)), (4, gx_i j11), (6, gx_i (s14 + (-1)))]) [1, 2, 3, 0] rfl ?_
        exact ha2 ((s14 + (-1)) : Int32)
  · refine gx_Jw (lv := [(0, gx_r 8 (some x0)), (1, gx_r 9 (some x1)), (2, gx_r 10 (some x2)), (3, gx_i x3), (4, gx_i 0), (5, gx_i v1)]) [2, 3, 4, 5, 1, 0] rfl ?_
    refine gx_Jlp (pc := 9) (lvh := fun (s2 : Int32 × Int32) => [(0, gx_r 8 (some x0)), (1, gx_r 9 (some x1)), (2, gx_r 10 (some x2)), (3, gx_i x3), (4, gx_i s2.1), (5, gx_i s2.2)]) (fun s2 kl1 ha1 hb1 => ?_) _
    unfold lb_X7_place_1
    refine gx_iload (pc := 9) (i := 4) 4 rfl (htX7_place (9, .iload 4, 2) (gx_m 5 rfl)) ?_
    refine gx_iload (pc := 11) (i := 5) 5 rfl (htX7_place (11, .iload 5, 2) (gx_m 6 rfl)) ?_
    refine gx_icmp_ge (pc := 13) (tgt := 102) (by decide) (htX7_place (13, .if_icmp .ge 89, 3) (gx_m 7 rfl)) (fun c4 => ?_) (fun c4 => ?_)
    · refine gx_Jw (lv := [(1, gx_r 9 (some x1)), (2, gx_r 10 (some x2)), (4, gx_i s2.1)]) [1, 2, 4] rfl ?_
      exact gx_Jout hb1 (hj1 (s2.1 : Int32))
    · refine gx_iload (pc := 16) (i := 4) 4 rfl (htX7_place (16, .iload 4, 2) (gx_m 8 rfl)) ?_
      refine gx_iload (pc := 18) (i := 5) 5 rfl (htX7_place (18, .iload 5, 2) (gx_m 9 rfl)) ?_
      refine gx_iadd (pc := 20) (htX7_place (20, .iadd, 1) (gx_m 10 rfl)) ?_
      refine gx_iconst (pc := 21) (v := 1) (by decide) (htX7_place (21, .iconst 1, 1) (gx_m 11 rfl)) ?_
      refine gx_iushr (pc := 22) (htX7_place (22, .iushr, 1) (gx_m 12 rfl)) ?_
      refine gx_istore (pc := 23) (i := 6) (lv' := [(6, gx_i (gx_ushr (s2.1 + s2.2) 1)), (0, gx_r 8 (some x0)), (1, gx_r 9 (some x1)), (2, gx_r 10 (some x2)), (3, gx_i x3), (4, gx_i s2.1), (5, gx_i s2.2)]) (by decide) rfl (htX7_place (23, .istore 6, 2) (gx_m 13 rfl)) ?_
      refine gx_aload_n (pc := 25) (n := 1) (i := 1) rfl 2 rfl (htX7_place (25, .aload_n 1, 1) (gx_m 14 rfl)) ?_
      refine gx_iload (pc := 26) (i := 6) 0 rfl (htX7_place (26, .iload 6, 2) (gx_m 15 rfl)) ?_
      refine gx_Jcr (pc := 28) (t2 := 10) (gx_hst (as := [gx_i (gx_ushr (s2.1 + s2.2) 1)]) (b := gx_r 9 (some x1))) (gx_runV (as := [gx_i (gx_ushr (s2.1 + s2.2) 1)]) (ci := 8) (ct_X8_get Y x1 (gx_ushr (s2.1 + s2.2) 1)) (by decide) (Or.inl rfl) rfl rfl rfl rfl q1308 q1309 q1310 q108 q1311 rfl dd_X8_get (by decide) (by decide) (Nat.le_of_ble_eq_true rfl) (htX7_place (28, .invokevirtual 104, 3) (gx_m 16 rfl))) (fun v3 => ?_)
      refine gx_astore (pc := 31) (i := 7) (lv' := [(7, gx_r 10 (some v3)), (6, gx_i (gx_ushr (s2.1 + s2.2) 1)), (0, gx_r 8 (some x0)), (1, gx_r 9 (some x1)), (2, gx_r 10 (some x2)), (3, gx_i x3), (4, gx_i s2.1), (5, gx_i s2.2)]) (by decide) rfl (htX7_place (31, .astore 7, 2) (gx_m 17 rfl)) ?_
      refine gx_aload_n (pc := 33) (n := 0) (i := 0) rfl 2 rfl (htX7_place (33, .aload_n 0, 1) (gx_m 18 rfl)) ?_
      refine gx_Jgs (pc := 34) (ci := 7) (kk := 0) (t2 := 4) (by decide) (by decide) rfl rfl rfl q306 (htX7_place (34, .getfield 69, 3) (gx_m 19 rfl)) ?_
      refine gx_Jgs (pc := 37) (ci := 3) (kk := 0) (t2 := 5) (by decide) (by decide) rfl rfl rfl q192 (htX7_place (37, .getfield 107, 3) (gx_m 20 rfl)) ?_
      refine gx_aload (pc := 40) (i := 7) 0 rfl (htX7_place (40, .aload 7, 2) (gx_m 21 rfl)) ?_
      refine gx_Jgi (pc := 42) (ci := 9) (kk := 0) (by decide) (Or.inl rfl) (by decide) (by decide) q259 (htX7_place (42, .getfield 113, 3) (gx_m 22 rfl)) (fun v4 hv4 => ?_)
      refine gx_aload (pc := 45) (i := 7) 0 rfl (htX7_place (45, .aload 7, 2) (gx_m 23 rfl)) ?_
      refine gx_Jgi (pc := 47) (ci := 9) (kk := 1) (by decide) (Or.inl rfl) (by decide) (by decide) q262 (htX7_place (47, .getfield 116, 3) (gx_m 24 rfl)) (fun v5 hv5 => ?_)
      refine gx_aload_n (pc := 50) (n := 2) (i := 2) rfl 4 rfl (htX7_place (50, .aload_n 2, 1) (gx_m 25 rfl)) ?_
      refine gx_Jgi (pc := 51) (ci := 9) (kk := 0) (by decide) (Or.inl rfl) (by decide) (by decide) q259 (htX7_place (51, .getfield 113, 3) (gx_m 26 rfl)) (fun v6 hv6 => ?_)
      refine gx_aload_n (pc := 54) (n := 2) (i := 2) rfl 4 rfl (htX7_place (54, .aload_n 2, 1) (gx_m 27 rfl)) ?_
      refine gx_Jgi (pc := 55) (ci := 9) (kk := 1) (by decide) (Or.inl rfl) (by decide) (by decide) q262 (htX7_place (55, .getfield 116, 3) (gx_m 28 rfl)) (fun v7 hv7 => ?_)
      refine gx_Jci (pc := 58) (gx_hst (as := [gx_i v4, gx_i v5, gx_i v6, gx_i v7]) (b := gx_r 5 (some [0, 0, 0, 1]))) (gx_runV (as := [gx_i v4, gx_i v5, gx_i v6, gx_i v7]) (ci := 4) (ct_X4_compare Y [0, 0, 0, 1] v4 v5 v6 v7) (by decide) (Or.inl rfl) rfl rfl rfl rfl q1312 q1313 q1314 q104 q1315 rfl dd_X4_compare (by decide) (by decide) (Nat.le_of_ble_eq_true rfl) (htX7_place (58, .invokevirtual 119, 3) (gx_m 29 rfl))) (fun v8 => ?_)
      refine gx_istore (pc := 61) (i := 8) (lv' := [(8, gx_i v8), (7, gx_r 10 (some v3)), (6, gx_i (gx_ushr (s2.1 + s2.2) 1)), (0, gx_r 8 (some x0)), (1, gx_r 9 (some x1)), (2, gx_r 10 (some x2)), (3, gx_i x3), (4, gx_i s2.1), (5, gx_i s2.2)]) (by decide) rfl (htX7_place (61, .istore 8, 2) (gx_m 30 rfl)) ?_
      refine gx_iload (pc := 63) (i := 8) 0 rfl (htX7_place (63, .iload 8, 2) (gx_m 31 rfl)) ?_
      refine gx_if_ne (pc := 65) (y := 0) (tgt := 81) (by decide) (htX7_place (65, .ifCond .ne 16, 3) (gx_m 32 rfl)) (fun c5 => ?_) (fun c5 => ?_)
      · refine gx_iload_n (pc := 68) (n := 3) (i := 3) rfl 6 rfl (htX7_place (68, .iload_n 3, 1) (gx_m 33 rfl)) ?_
        refine gx_Jjoin (pcJ := 78) (lvJ := fun (j_6 : Unit) => [(7, gx_r 10 (some v3))]) (stJ := fun (j_6 : Unit) => []) (fun _ => True) (fun j_6 hj_6 => ?_) (fun kk6 hj6 => ?_)
        · refine gx_aload (pc := 78) (i := 7) 0 rfl (htX7_place (78, .aload 7, 2) (gx_m 38 rfl)) ?_
          refine gx_Jret ((hb1 _).trans (he1 _)) ?_
          exact gx_Jaret (pc := 80) rfl (Or.inl ⟨_, rfl⟩) (fun _ h => h) (fun _ _ => rfl) (htX7_place (80, .areturn, 1) (gx_m 39 rfl))
        · refine gx_if_eq (pc := 69) (y := 0) (tgt := 78) (by decide) (htX7_place (69, .ifCond .eq 9, 3) (gx_m 34 rfl)) (fun c7 => ?_) (fun c7 => ?_)
          · refine gx_Jw (lv := [(7, gx_r 10 (some v3))]) [1] rfl ?_
            exact hj6 () trivial
          · refine gx_aload (pc := 72) (i := 7) 1 rfl (htX7_place (72, .aload 7, 2) (gx_m 35 rfl)) ?_
            refine gx_aload_n (pc := 74) (n := 2) (i := 2) rfl 5 rfl (htX7_place (74, .aload_n 2, 1) (gx_m 36 rfl)) ?_
            refine gx_Jcv (pc := 75) (gx_hst (as := [gx_r 10 (some x2)]) (b := gx_r 10 (some v3))) (gx_runV (as := [gx_r 10 (some x2)]) (ci := 9) (ct_X9_copy Y v3 x2) (by decide) (Or.inl rfl) rfl rfl rfl rfl q1336 q1337 q1338 q109 q1339 rfl dd_X9_copy (by decide) (by decide) (Nat.le_of_ble_eq_true rfl) (htX7_place (75, .invokevirtual 137, 3) (gx_m 37 rfl))) ?_
            refine gx_Jw (lv := [(7, gx_r 10 (some v3))]) [1] rfl ?_
            exact hj6 () trivial
      · refine gx_iload (pc := 81) (i := 8) 0 rfl (htX7_place (81, .iload 8, 2) (gx_m 40 rfl)) ?_
        refine gx_Jjoin (pcJ := 99) (lvJ := fun (j9 : Int32 × Int32) => [(0, gx_r 8 (some x0)), (1, gx_r 9 (some x1)), (2, gx_r 10 (some x2)), (3, gx_i x3), (4, gx_i j9.1), (5, gx_i j9.2)]) (stJ := fun (j9 : Int32 × Int32) => []) (fun _ => True) (fun j9 hj9 => ?_) (fun kk8 hj8 => ?_)
        · refine gx_goto (pc := 99) (tgt := 9) (by decide) (htX7_place (99, .goto (-90), 3) (gx_m 49 rfl)) ?_
          exact ha1 ((j9.1 : Int32), (j9.2 : Int32))
        · refine gx_if_ge (pc := 83) (y := 0) (tgt := 95) (by decide) (htX7_place (83, .ifCond .ge 12, 3) (gx_m 41 rfl)) (fun c9 => ?_) (fun c9 => ?_)
          · refine gx_iload (pc := 95) (i := 6) 2 rfl (htX7_place (95, .iload 6, 2) (gx_m 47 rfl)) ?_
            refine gx_istore (pc := 97) (i := 5) (lv' := [(5, gx_i (gx_ushr (s2.1 + s2.2) 1)), (8, gx_i v8), (7, gx_r 10 (some v3)), (6, gx_i (gx_ushr (s2.1 + s2.2) 1)), (0, gx_r 8 (some x0)), (1, gx_r 9 (some x1)), (2, gx_r 10 (some x2)), (3, gx_i x3), (4, gx_i s2.1)]) (by decide) rfl (htX7_place (97, .istore 5, 2) (gx_m 48 rfl)) ?_
            refine gx_Jw (lv := [(0, gx_r 8 (some x0)), (1, gx_r 9 (some x1)), (2, gx_r 10 (some x2)), (3, gx_i x3), (4, gx_i s2.1), (5, gx_i (gx_ushr (s2.1 + s2.2) 1))]) [4, 5, 6, 7, 8, 0] rfl ?_
            exact hj8 ((s2.1 : Int32), ((gx_ushr (s2.1 + s2.2) 1) : Int32)) trivial
          · refine gx_iload (pc := 86) (i := 6) 2 rfl (htX7_place (86, .iload 6, 2) (gx_m 42 rfl)) ?_
            refine gx_iconst (pc := 88) (v := 1) (by decide) (htX7_place (88, .iconst 1, 1) (gx_m 43 rfl)) ?_
            refine gx_iadd (pc := 89) (htX7_place (89, .iadd, 1) (gx_m 44 rfl)) ?_
            refine gx_istore (pc := 90) (i := 4) (lv' := [(4, gx_i ((gx_ushr (s2.1 + s2.2) 1) + 1)), (8, gx_i v8), (7, gx_r 10 (some v3)), (6, gx_i (gx_ushr (s2.1 + s2.2) 1)), (0, gx_r 8 (some x0)), (1, gx_r 9 (some x1)), (2, gx_r 10 (some x2)), (3, gx_i x3), (5, gx_i s2.2)]) (by decide) rfl (htX7_place (90, .istore 4, 2) (gx_m 45 rfl)) ?_
            refine gx_goto (pc := 92) (tgt := 99) (by decide) (htX7_place (92, .goto 7, 3) (gx_m 46 rfl)) ?_
            refine gx_Jw (lv := [(0, gx_r 8 (some x0)), (1, gx_r 9 (some x1)), (2, gx_r 10 (some x2)), (3, gx_i x3), (4, gx_i ((gx_ushr (s2.1 + s2.2) 1) + 1)), (5, gx_i s2.2)]) [4, 5, 6, 7, 0, 8] rfl ?_
            exact hj8 ((((gx_ushr (s2.1 + s2.2) 1) + 1) : Int32), (s2.2 : Int32)) trivial
theorem ct_X7_put (Y : gx_Y) (x0 : gx_Nm) (x1 : Int32) (x2 : Int32) (x3 : Int32) : gx_Ct Y yX7_put (ws_ yX7_put cX7_put 6 (some .boolean)) 5 202 [gx_r 8 (some x0), gx_i x1, gx_i x2, gx_i x3] gx_Oz (f_X7_put x0 x1 x2 x3) := by
  refine gx_start (lv := [(0, gx_r 8 (some x0)), (1, gx_i x1), (2, gx_i x2), (3, gx_i x3)]) gx_Oz_r pn_X7 (Nat.le_of_ble_eq_true rfl) rfl ?_
  unfold f_X7_put
  refine gx_iload_n (pc := 0) (n := 3) (i := 3) rfl 3 rfl (htX7_put (0, .iload_n 3, 1) (gx_m 0 rfl)) ?_
  refine gx_Jcond (pcT := 12) (pcE := 14) (lv2 := [(0, gx_r 8 (some x0)), (1, gx_i x1), (2, gx_i x2), (3, gx_i x3)]) (st2 := []) ?_ ?_ (fun kk1 hT1 hE1 => ?_)
  · refine gx_iconst (pc := 12) (v := 0) (by decide) (htX7_put (12, .iconst 0, 1) (gx_m 6 rfl)) ?_
    exact gx_Jzret (pc := 13) rfl gx_b0 (fun _ => gx_b0) (fun _ _ => rfl) (htX7_put (13, .ireturn, 1) (gx_m 7 rfl))
  · refine gx_aload_n (pc := 14) (n := 0) (i := 0) rfl 0 rfl (htX7_put (14, .aload_n 0, 1) (gx_m 8 rfl)) ?_
    refine gx_iload_n (pc := 15) (n := 1) (i := 1) rfl 1 rfl (htX7_put (15, .iload_n 1, 1) (gx_m 9 rfl)) ?_
    refine gx_aload_n (pc := 16) (n := 0) (i := 0) rfl 0 rfl (htX7_put (16, .aload_n 0, 1) (gx_m 10 rfl)) ?_
    refine gx_Jgs (pc := 17) (ci := 7) (kk := 0) (t2 := 4) (by decide) (by decide) rfl rfl rfl q306 (htX7_put (17, .getfield 69, 3) (gx_m 11 rfl)) ?_
    refine gx_iload_n (pc := 20) (n := 2) (i := 2) rfl 2 rfl (htX7_put (20, .iload_n 2, 1) (gx_m 12 rfl)) ?_
    refine gx_Jci (pc := 21) (gx_hst (as := [gx_i x2]) (b := gx_r 4 (some [0, 0, 1]))) (gx_runV (as := [gx_i x2]) (ci := 3) (ct_X3_get Y [0, 0, 1] x2) (by decide) (Or.inl rfl) rfl rfl rfl rfl q1296 q1297 q1298 q103 q1299 rfl dd_X3_get (by decide) (by decide) (Nat.le_of_ble_eq_true rfl) (htX7_put (21, .invokevirtual 147, 3) (gx_m 13 rfl))) (fun v3 => ?_)
    refine gx_aload_n (pc := 24) (n := 0) (i := 0) rfl 0 rfl (htX7_put (24, .aload_n 0, 1) (gx_m 14 rfl)) ?_
    refine gx_Jgs (pc := 25) (ci := 7) (kk := 0) (t2 := 4) (by decide) (by decide) rfl rfl rfl q306 (htX7_put (25, .getfield 69, 3) (gx_m 15 rfl)) ?_
    refine gx_iload_n (pc := 28) (n := 2) (i := 2) rfl 2 rfl (htX7_put (28, .iload_n 2, 1) (gx_m 16 rfl)) ?_
    refine gx_iconst (pc := 29) (v := 1) (by decide) (htX7_put (29, .iconst 1, 1) (gx_m 17 rfl)) ?_
    refine gx_iadd (pc := 30) (htX7_put (30, .iadd, 1) (gx_m 18 rfl)) ?_
    refine gx_Jci (pc := 31) (gx_hst (as := [gx_i (x2 + 1)]) (b := gx_r 4 (some [0, 0, 1]))) (gx_runV (as := [gx_i (x2 + 1)]) (ci := 3) (ct_X3_get Y [0, 0, 1] (x2 + 1)) (by decide) (Or.inl rfl) rfl rfl rfl rfl q1296 q1297 q1298 q103 q1299 rfl dd_X3_get (by decide) (by decide) (Nat.le_of_ble_eq_true rfl) (htX7_put (31, .invokevirtual 147, 3) (gx_m 19 rfl))) (fun v4 => ?_)
    refine gx_Jcz (pc := 34) (gx_hst (as := [gx_i x1, gx_i v3, gx_i v4]) (b := gx_r 8 (some x0))) (gx_runV (as := [gx_i x1, gx_i v3, gx_i v4]) (ci := 7) (ct_X7_now Y x0 x1 v3 v4) (by decide) (Or.inl rfl) rfl rfl rfl rfl q1332 q1334 qs25 q107 q1335 rfl dd_X7_now (by decide) (by decide) (Nat.le_of_ble_eq_true rfl) (htX7_put (34, .invokevirtual 202, 3) (gx_m 20 rfl))) (fun v5 hv5 => ?_)
    refine gx_istore (pc := 37) (i := 4) (lv' := [(4, gx_i v5), (0, gx_r 8 (some x0)), (1, gx_i x1), (2, gx_i x2), (3, gx_i x3)]) (by decide) rfl (htX7_put (37, .istore 4, 2) (gx_m 21 rfl)) ?_
    refine gx_aload_n (pc := 39) (n := 0) (i := 0) rfl 1 rfl (htX7_put (39, .aload_n 0, 1) (gx_m 22 rfl)) ?_
    refine gx_Jgs (pc := 40) (ci := 7) (kk := 3) (t2 := 6) (by decide) (by decide) rfl rfl rfl q309 (htX7_put (40, .getfield 21, 3) (gx_m 23 rfl)) ?_
    refine gx_iload_n (pc := 43) (n := 1) (i := 1) rfl 2 rfl (htX7_put (43, .iload_n 1, 1) (gx_m 24 rfl)) ?_
    refine gx_Jci (pc := 44) (gx_hst (as := [gx_i x1]) (b := gx_r 6 (some (3 :: x0)))) (gx_runV (as := [gx_i x1]) (ci := 5) (ct_X5_get Y (3 :: x0) x1) (by decide) (Or.inl rfl) rfl rfl rfl rfl q667 q668 q669 q105 q670 rfl dd_X5_get (by decide) (by decide) (Nat.le_of_ble_eq_true rfl) (htX7_put (44, .invokevirtual 89, 3) (gx_m 25 rfl))) (fun v6 => ?_)
    refine gx_iconst (pc := 47) (v := 1) (by decide) (htX7_put (47, .iconst 1, 1) (gx_m 26 rfl)) ?_
    refine gx_iadd (pc := 48) (htX7_put (48, .iadd, 1) (gx_m 27 rfl)) ?_
    refine gx_istore (pc := 49) (i := 5) (lv' := [(5, gx_i (v6 + 1)), (4, gx_i v5), (0, gx_r 8 (some x0)), (1, gx_i x1), (2, gx_i x2), (3, gx_i x3)]) (by decide) rfl (htX7_put (49, .istore 5, 2) (gx_m 28 rfl)) ?_
    refine gx_aload_n (pc := 51) (n := 0) (i := 0) rfl 2 rfl (htX7_put (51, .aload_n 0, 1) (gx_m 29 rfl)) ?_
    refine gx_Jgs (pc := 52) (ci := 7) (kk := 13) (t2 := 10) (by decide) (by decide) rfl rfl rfl q319 (htX7_put (52, .getfield 58, 3) (gx_m 30 rfl)) ?_
    refine gx_iload (pc := 55) (i := 4) 1 rfl (htX7_put (55, .iload 4, 2) (gx_m 31 rfl)) ?_
    refine gx_Jjoin (pcJ := 72) (lvJ := fun (j8 : Int32) => [(0, gx_r 8 (some x0)), (2, gx_i x2), (3, gx_i x3), (4, gx_i v5), (5, gx_i (v6 + 1))]) (stJ := fun (j8 : Int32) => [gx_i j8, gx_r 10 (some (13 :: x0))]) (fun _ => True) (fun j8 hj8 => ?_) (fun kk2 hj2 => ?_)
    · refine gx_Jpi (pc := 72) (ci := 9) (kk := 5) (by decide) (Or.inl rfl) (by decide) rfl rfl q274 (Or.inl rfl) (htX7_put (72, .putfield 152, 3) (gx_m 38 rfl)) ?_
      refine gx_aload_n (pc := 75) (n := 0) (i := 0) rfl 0 rfl (htX7_put (75, .aload_n 0, 1) (gx_m 39 rfl)) ?_
      refine gx_Jgs (pc := 76) (ci := 7) (kk := 13) (t2 := 10) (by decide) (by decide) rfl rfl rfl q319 (htX7_put (76, .getfield 58, 3) (gx_m 40 rfl)) ?_
      refine gx_iload (pc := 79) (i := 4) 3 rfl (htX7_put (79, .iload 4, 2) (gx_m 41 rfl)) ?_
      refine gx_Jjoin (pcJ := 97) (lvJ := fun (j10 : Int32) => [(0, gx_r 8 (some x0)), (2, gx_i x2), (3, gx_i x3), (5, gx_i (v6 + 1))]) (stJ := fun (j10 : Int32) => [gx_i j10, gx_r 10 (some (13 :: x0))]) (fun _ => True) (fun j10 hj10 => ?_) (fun kk3 hj3 => ?_)
      · refine gx_Jpi (pc := 97) (ci := 9) (kk := 7) (by decide) (Or.inl rfl) (by decide) rfl rfl q281 (Or.inl rfl) (htX7_put (97, .putfield 158, 3) (gx_m 50 rfl)) ?_
        refine gx_aload_n (pc := 100) (n := 0) (i := 0) rfl 0 rfl (htX7_put (100, .aload_n 0, 1) (gx_m 51 rfl)) ?_
        refine gx_Jgs (pc := 101) (ci := 7) (kk := 13) (t2 := 10) (by decide) (by decide) rfl rfl rfl q319 (htX7_put (101, .getfield 58, 3) (gx_m 52 rfl)) ?_
        refine gx_iconst (pc := 104) (v := 1) (by decide) (htX7_put (104, .iconst 1, 1) (gx_m 53 rfl)) ?_
        refine gx_Jpz (pc := 105) (ci := 9) (kk := 2) (by decide) (Or.inl rfl) (by decide) rfl rfl gx_b1 q265 (Or.inl rfl) (htX7_put (105, .putfield 125, 3) (gx_m 54 rfl)) ?_
        refine gx_aload_n (pc := 108) (n := 0) (i := 0) rfl 0 rfl (htX7_put (108, .aload_n 0, 1) (gx_m 55 rfl)) ?_
        refine gx_Jgs (pc := 109) (ci := 7) (kk := 13) (t2 := 10) (by decide) (by decide) rfl rfl rfl q319 (htX7_put (109, .getfield 58, 3) (gx_m 56 rfl)) ?_
        refine gx_iload (pc := 112) (i := 5) 3 rfl (htX7_put (112, .iload 5, 2) (gx_m 57 rfl)) ?_
        refine gx_Jpi (pc := 114) (ci := 9) (kk := 6) (by decide) (Or.inl rfl) (by decide) rfl rfl q277 (Or.inl rfl) (htX7_put (114, .putfield 155, 3) (gx_m 58 rfl)) ?_
        refine gx_aload_n (pc := 117) (n := 0) (i := 0) rfl 0 rfl (htX7_put (117, .aload_n 0, 1) (gx_m 59 rfl)) ?_
        refine gx_Jgs (pc := 118) (ci := 7) (kk := 13) (t2 := 10) (by decide) (by decide) rfl rfl rfl q319 (htX7_put (118, .getfield 58, 3) (gx_m 60 rfl)) ?_
        refine gx_aload_n (pc := 121) (n := 0) (i := 0) rfl 0 rfl (htX7_put (121, .aload_n 0, 1) (gx_m 61 rfl)) ?_
        refine gx_Jgs (pc := 122) (ci := 7) (kk := 0) (t2 := 4) (by decide) (by decide) rfl rfl rfl q306 (htX7_put (122, .getfield 69, 3) (gx_m 62 rfl)) ?_
        refine gx_iload_n (pc := 125) (n := 2) (i := 2) rfl 1 rfl (htX7_put (125, .iload_n 2, 1) (gx_m 63 rfl)) ?_
        refine gx_iconst (pc := 126) (v := 2) (by decide) (htX7_put (126, .iconst 2, 1) (gx_m 64 rfl)) ?_
        refine gx_iadd (pc := 127) (htX7_put (127, .iadd, 1) (gx_m 65 rfl)) ?_
        refine gx_Jci (pc := 128) (gx_hst (as := [gx_i (x2 + 2)]) (b := gx_r 4 (some [0, 0, 1]))) (gx_runV (as := [gx_i (x2 + 2)]) (ci := 3) (ct_X3_get Y [0, 0, 1] (x2 + 2)) (by decide) (Or.inl rfl) rfl rfl rfl rfl q1296 q1297 q1298 q103 q1299 rfl dd_X3_get (by decide) (by decide) (Nat.le_of_ble_eq_true rfl) (htX7_put (128, .invokevirtual 147, 3) (gx_m 66 rfl))) (fun v11 => ?_)
        refine gx_Jpi (pc := 131) (ci := 9) (kk := 3) (by decide) (Or.inl rfl) (by decide) rfl rfl q268 (Or.inl rfl) (htX7_put (131, .putfield 205, 3) (gx_m 67 rfl)) ?_
        refine gx_aload_n (pc := 134) (n := 0) (i := 0) rfl 0 rfl (htX7_put (134, .aload_n 0, 1) (gx_m 68 rfl)) ?_
        refine gx_Jgs (pc := 135) (ci := 7) (kk := 13) (t2 := 10) (by decide) (by decide) rfl rfl rfl q319 (htX7_put (135, .getfield 58, 3) (gx_m 69 rfl)) ?_
        refine gx_aload_n (pc := 138) (n := 0) (i := 0) rfl 0 rfl (htX7_put (138, .aload_n 0, 1) (gx_m 70 rfl)) ?_
        refine gx_Jgs (pc := 139) (ci := 7) (kk := 0) (t2 := 4) (by decide) (by decide) rfl rfl rfl q306 (htX7_put (139, .getfield 69, 3) (gx_m 71 rfl)) ?_
        refine gx_iload_n (pc := 142) (n := 2) (i := 2) rfl 1 rfl (htX7_put (142, .iload_n 2, 1) (gx_m 72 rfl)) ?_
        refine gx_iconst (pc := 143) (v := 3) (by decide) (htX7_put (143, .iconst 3, 1) (gx_m 73 rfl)) ?_
        refine gx_iadd (pc := 144) (htX7_put (144, .iadd, 1) (gx_m 74 rfl)) ?_
        refine gx_Jci (pc := 145) (gx_hst (as := [gx_i (x2 + 3)]) (b := gx_r 4 (some [0, 0, 1]))) (gx_runV (as := [gx_i (x2 + 3)]) (ci := 3) (ct_X3_get Y [0, 0, 1] (x2 + 3)) (by decide) (Or.inl rfl) rfl rfl rfl rfl q1296 q1297 q1298 q103 q1299 rfl dd_X3_get (by decide) (by decide) (Nat.le_of_ble_eq_true rfl) (htX7_put (145, .invokevirtual 147, 3) (gx_m 75 rfl))) (fun v12 => ?_)
        refine gx_Jpi (pc := 148) (ci := 9) (kk := 4) (by decide) (Or.inl rfl) (by decide) rfl rfl q271 (Or.inl rfl) (htX7_put (148, .putfield 208, 3) (gx_m 76 rfl)) ?_
        refine gx_aload_n (pc := 151) (n := 0) (i := 0) rfl 0 rfl (htX7_put (151, .aload_n 0, 1) (gx_m 77 rfl)) ?_
        refine gx_Jgs (pc := 152) (ci := 7) (kk := 13) (t2 := 10) (by decide) (by decide) rfl rfl rfl q319 (htX7_put (152, .getfield 58, 3) (gx_m 78 rfl)) ?_
        refine gx_iload_n (pc := 155) (n := 3) (i := 3) rfl 2 rfl (htX7_put (155, .iload_n 3, 1) (gx_m 79 rfl)) ?_
        refine gx_Jpi (pc := 156) (ci := 9) (kk := 8) (by decide) (Or.inl rfl) (by decide) rfl rfl q285 (Or.inl rfl) (htX7_put (156, .putfield 161, 3) (gx_m 80 rfl)) ?_
        refine gx_aload_n (pc := 159) (n := 0) (i := 0) rfl 0 rfl (htX7_put (159, .aload_n 0, 1) (gx_m 81 rfl)) ?_
        refine gx_aload_n (pc := 160) (n := 0) (i := 0) rfl 0 rfl (htX7_put (160, .aload_n 0, 1) (gx_m 82 rfl)) ?_
        refine gx_Jgs (pc := 161) (ci := 7) (kk := 12) (t2 := 9) (by decide) (by decide) rfl rfl rfl q318 (htX7_put (161, .getfield 52, 3) (gx_m 83 rfl)) ?_
        refine gx_aload_n (pc := 164) (n := 0) (i := 0) rfl 0 rfl (htX7_put (164, .aload_n 0, 1) (gx_m 84 rfl)) ?_
        refine gx_Jgs (pc := 165) (ci := 7) (kk := 13) (t2 := 10) (by decide) (by decide) rfl rfl rfl q319 (htX7_put (165, .getfield 58, 3) (gx_m 85 rfl)) ?_
        refine gx_iconst (pc := 168) (v := 1) (by decide) (htX7_put (168, .iconst 1, 1) (gx_m 86 rfl)) ?_
        refine gx_Jcr (pc := 169) (t2 := 10) (gx_hst (as := [gx_r 9 (some (12 :: x0)), gx_r 10 (some (13 :: x0)), gx_i 1]) (b := gx_r 8 (some x0))) (gx_runV (as := [gx_r 9 (some (12 :: x0)), gx_r 10 (some (13 :: x0)), gx_i 1]) (ci := 7) (ct_X7_place Y x0 (12 :: x0) (13 :: x0) 1) (by decide) (Or.inl rfl) rfl rfl rfl rfl q1340 q1342 qs26 q107 q1343 rfl dd_X7_place (by decide) (by decide) (Nat.le_of_ble_eq_true rfl) (htX7_put (169, .invokevirtual 133, 3) (gx_m 87 rfl))) (fun v13 => ?_)
        refine gx_pop (pc := 172) rfl (htX7_put (172, .pop, 1) (gx_m 88 rfl)) ?_
        refine gx_aload_n (pc := 173) (n := 0) (i := 0) rfl 0 rfl (htX7_put (173, .aload_n 0, 1) (gx_m 89 rfl)) ?_
        refine gx_iconst (pc := 174) (v := 1) (by decide) (htX7_put (174, .iconst 1, 1) (gx_m 90 rfl)) ?_
        refine gx_Jpz (pc := 175) (ci := 7) (kk := 16) (by decide) (Or.inl rfl) (by decide) rfl rfl gx_b1 q322 (Or.inl rfl) (htX7_put (175, .putfield 177, 3) (gx_m 91 rfl)) ?_
        refine gx_iconst (pc := 178) (v := 1) (by decide) (htX7_put (178, .iconst 1, 1) (gx_m 92 rfl)) ?_
        exact gx_Jzret (pc := 179) rfl gx_b1 (fun _ => gx_b1) (fun _ _ => rfl) (htX7_put (179, .ireturn, 1) (gx_m 93 rfl))
      · refine gx_if_eq (pc := 81) (y := 0) (tgt := 96) (by decide) (htX7_put (81, .ifCond .eq 15, 3) (gx_m 42 rfl)) (fun c4 => ?_) (fun c4 => ?_)
        · refine gx_iconst (pc := 96) (v := 1) (by decide) (htX7_put (96, .iconst 1, 1) (gx_m 49 rfl)) ?_
          refine gx_Jw (lv := [(0, gx_r 8 (some x0)), (2, gx_i x2), (3, gx_i x3), (5, gx_i (v6 + 1))]) [0, 1, 2, 4] rfl ?_
          exact hj3 (1 : Int32) trivial
        · refine gx_aload_n (pc := 84) (n := 0) (i := 0) rfl 0 rfl (htX7_put (84, .aload_n 0, 1) (gx_m 43 rfl)) ?_
          refine gx_Jgs (pc := 85) (ci := 7) (kk := 13) (t2 := 10) (by decide) (by decide) rfl rfl rfl q319 (htX7_put (85, .getfield 58, 3) (gx_m 44 rfl)) ?_
          refine gx_Jgi (pc := 88) (ci := 9) (kk := 7) (by decide) (Or.inl rfl) (by decide) (by decide) q281 (htX7_put (88, .getfield 158, 3) (gx_m 45 rfl)) (fun v9 hv9 => ?_)
          refine gx_iconst (pc := 91) (v := 1) (by decide) (htX7_put (91, .iconst 1, 1) (gx_m 46 rfl)) ?_
          refine gx_iadd (pc := 92) (htX7_put (92, .iadd, 1) (gx_m 47 rfl)) ?_
          refine gx_goto (pc := 93) (tgt := 97) (by decide) (htX7_put (93, .goto 4, 3) (gx_m 48 rfl)) ?_
          refine gx_Jw (lv := [(0, gx_r 8 (some x0)), (2, gx_i x2), (3, gx_i x3), (5, gx_i (v6 + 1))]) [0, 1, 2, 4] rfl ?_
          exact hj3 ((v9 + 1) : Int32) trivial
    · refine gx_if_eq (pc := 57) (y := 0) (tgt := 70) (by decide) (htX7_put (57, .ifCond .eq 13, 3) (gx_m 32 rfl)) (fun c5 => ?_) (fun c5 => ?_)
      · refine gx_iload (pc := 70) (i := 5) 0 rfl (htX7_put (70, .iload 5, 2) (gx_m 37 rfl)) ?_
        refine gx_Jw (lv := [(0, gx_r 8 (some x0)), (2, gx_i x2), (3, gx_i x3), (4, gx_i v5), (5, gx_i (v6 + 1))]) [2, 4, 5, 1, 0] rfl ?_
        exact hj2 ((v6 + 1) : Int32) trivial
      · refine gx_aload_n (pc := 60) (n := 0) (i := 0) rfl 2 rfl (htX7_put (60, .aload_n 0, 1) (gx_m 33 rfl)) ?_
        refine gx_Jgs (pc := 61) (ci := 7) (kk := 13) (t2 := 10) (by decide) (by decide) rfl rfl rfl q319 (htX7_put (61, .getfield 58, 3) (gx_m 34 rfl)) ?_
        refine gx_Jgi (pc := 64) (ci := 9) (kk := 5) (by decide) (Or.inl rfl) (by decide) (by decide) q274 (htX7_put (64, .getfield 152, 3) (gx_m 35 rfl)) (fun v7 hv7 => ?_)
        refine gx_goto (pc := 67) (tgt := 72) (by decide) (htX7_put (67, .goto 5, 3) (gx_m 36 rfl)) ?_
        refine gx_Jw (lv := [(0, gx_r 8 (some x0)), (2, gx_i x2), (3, gx_i x3), (4, gx_i v5), (5, gx_i (v6 + 1))]) [2, 4, 5, 1, 0] rfl ?_
        exact hj2 (v7 : Int32) trivial
  · refine gx_if_eq (pc := 1) (y := 0) (tgt := 14) (by decide) (htX7_put (1, .ifCond .eq 13, 3) (gx_m 1 rfl)) (fun c6 => ?_) (fun c6 => ?_)
    · exact hE1
    · refine gx_aload_n (pc := 4) (n := 0) (i := 0) rfl 0 rfl (htX7_put (4, .aload_n 0, 1) (gx_m 2 rfl)) ?_
      refine gx_iload_n (pc := 5) (n := 3) (i := 3) rfl 3 rfl (htX7_put (5, .iload_n 3, 1) (gx_m 3 rfl)) ?_
      refine gx_Jcz (pc := 6) (gx_hst (as := [gx_i x3]) (b := gx_r 8 (some x0))) (gx_runV (as := [gx_i x3]) (ci := 7) (ct_X7_hasLease Y x0 x3) (by decide) (Or.inl rfl) rfl rfl rfl rfl q1328 q1330 qs24 q107 q1331 rfl dd_X7_hasLease (by decide) (by decide) (Nat.le_of_ble_eq_true rfl) (htX7_put (6, .invokevirtual 195, 3) (gx_m 4 rfl))) (fun v1 hv1 => ?_)
      refine gx_if_ne (pc := 9) (y := 0) (tgt := 14) (by decide) (htX7_put (9, .ifCond .ne 5, 3) (gx_m 5 rfl)) (fun c7 => ?_) (fun c7 => ?_)
      · exact hT1
      · exact hE1
