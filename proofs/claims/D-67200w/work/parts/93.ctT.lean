/-! ===== the machine does what f_y says (printed by gen/pprint.py) ===== -/
set_option maxRecDepth 100000
set_option maxHeartbeats 4000000
theorem ct_X1_good (Y : gx_Y) (hT : gx_Tr Y) (x0 : Int32) : gx_CtX Y yX1_good (ws_ yX1_good cX1_good 1 none) 8 300 [gx_i x0] (gx_Ox gx_Ov) (f_X1_good x0) :=
  gx_thrower hT (ix := 1) (ic := 3) (kx := 0) (by decide) pn_X1 (htX1_good (0, .iload_n 0, 1) (gx_m 0 rfl)) (htX1_good (1, .ifCond .ne 11, 3) (gx_m 1 rfl)) (htX1_good (4, .new 1, 3) (gx_m 2 rfl)) (htX1_good (7, .dup, 1) (gx_m 3 rfl)) (htX1_good (8, .invokespecial 3, 3) (gx_m 4 rfl)) (htX1_good (11, .athrow, 1) (gx_m 5 rfl)) (htX1_good (12, .return_, 1) (gx_m 6 rfl)) q762 q763 q121 (by decide +kernel) (by decide +kernel) x0
theorem ct_X1_nodes (Y : gx_Y) (hT : gx_Tr Y) (x0 : gx_Nm) (x1 : Int32) : gx_CtX Y yX1_nodes (ws_ yX1_nodes cX1_nodes 6 none) 9 320 [gx_r 2 (some x0), gx_i x1] (gx_Ox gx_Ov) (f_X1_nodes x0 x1) := by
  refine gx_startX (lv := [(0, gx_r 2 (some x0)), (1, gx_i x1)]) pn_X1 (Nat.le_of_ble_eq_true rfl) rfl ?_
  unfold f_X1_nodes
  refine gx_iload_n (pc := 0) (n := 1) (i := 1) rfl 1 rfl (htX1_nodes (0, .iload_n 1, 1) (gx_m 0 rfl)) ?_
  refine gx_iconst (pc := 1) (v := 1) (by decide) (htX1_nodes (1, .iconst 1, 1) (gx_m 1 rfl)) ?_
  refine gx_bipush (pc := 2) (v := 7) (by decide) (htX1_nodes (2, .bipush 7, 2) (gx_m 2 rfl)) ?_
  refine gx_Jcz (pc := 4) (gx_hstS (as := [gx_i x1, gx_i 1, gx_i 7])) (gx_runS (as := [gx_i x1, gx_i 1, gx_i 7]) (ct_X1_in Y x1 1 7) rfl rfl rfl q756 q757 q101 q758 rfl dd_X1_in (by decide) (by decide) (Nat.le_of_ble_eq_true rfl) (htX1_nodes (4, .invokestatic 69, 3) (gx_m 3 rfl))) (fun v1 hv1 => ?_)
  refine gx_JX (pc := 7) rfl (fun _ => rfl) (gx_runST (as := [gx_i v1]) (ct_X1_good Y hT v1) rfl rfl rfl q759 q760 q101 q761 rfl dd_X1_good (by decide) (by decide) (Nat.le_of_ble_eq_true rfl) (htX1_nodes (7, .invokestatic 73, 3) (gx_m 4 rfl))) ?_
  refine gx_Jcv (pc := 7) (gx_hstS (as := [gx_i v1])) (gx_runS (as := [gx_i v1]) (gx_CtX.un gx_Ov_r (ct_X1_good Y hT v1)) rfl rfl rfl q759 q760 q101 q761 rfl dd_X1_good (by decide) (by decide) (Nat.le_of_ble_eq_true rfl) (htX1_nodes (7, .invokestatic 73, 3) (gx_m 4 rfl))) ?_
  refine gx_aload_n (pc := 10) (n := 0) (i := 0) rfl 0 rfl (htX1_nodes (10, .aload_n 0, 1) (gx_m 5 rfl)) ?_
  refine gx_Jgs (pc := 11) (ci := 1) (kk := 0) (t2 := 3) (by decide) (by decide) rfl rfl rfl q697 (htX1_nodes (11, .getfield 22, 3) (gx_m 6 rfl)) ?_
  refine gx_iload_n (pc := 14) (n := 1) (i := 1) rfl 1 rfl (htX1_nodes (14, .iload_n 1, 1) (gx_m 7 rfl)) ?_
  refine gx_Jcv (pc := 15) (gx_hst (as := [gx_i x1]) (b := gx_r 3 (some (0 :: x0)))) (gx_runV (as := [gx_i x1]) (ci := 2) (ct_X2_clear Y (0 :: x0) x1) (by decide) (Or.inl rfl) rfl rfl rfl rfl q625 q626 q627 q102 q628 rfl dd_X2_clear (by decide) (by decide) (Nat.le_of_ble_eq_true rfl) (htX1_nodes (15, .invokevirtual 66, 3) (gx_m 8 rfl))) ?_
  refine gx_aload_n (pc := 18) (n := 0) (i := 0) rfl 0 rfl (htX1_nodes (18, .aload_n 0, 1) (gx_m 9 rfl)) ?_
  refine gx_Jgs (pc := 19) (ci := 1) (kk := 1) (t2 := 104) (by decide) (by decide) rfl rfl rfl q698 (htX1_nodes (19, .getfield 30, 3) (gx_m 10 rfl)) ?_
  refine gx_astore_n (pc := 22) (n := 2) (i := 2) (lv' := [(2, gx_r 104 (some (1 :: x0))), (0, gx_r 2 (some x0)), (1, gx_i x1)]) rfl (by decide) rfl (htX1_nodes (22, .astore_n 2, 1) (gx_m 11 rfl)) ?_
  refine gx_aload_n (pc := 23) (n := 2) (i := 2) rfl 0 rfl (htX1_nodes (23, .aload_n 2, 1) (gx_m 12 rfl)) ?_
  refine gx_Jal (pc := 24) (t := 4) (by decide) (htX1_nodes (24, .arraylength, 1) (gx_m 13 rfl)) (fun v2 => ?_)
  refine gx_istore_n (pc := 25) (n := 3) (i := 3) (lv' := [(3, gx_i v2), (2, gx_r 104 (some (1 :: x0))), (0, gx_r 2 (some x0)), (1, gx_i x1)]) rfl (by decide) rfl (htX1_nodes (25, .istore_n 3, 1) (gx_m 14 rfl)) ?_
  refine gx_iconst (pc := 26) (v := 0) (by decide) (htX1_nodes (26, .iconst 0, 1) (gx_m 15 rfl)) ?_
  refine gx_istore (pc := 27) (i := 4) (lv' := [(4, gx_i 0), (3, gx_i v2), (2, gx_r 104 (some (1 :: x0))), (0, gx_r 2 (some x0)), (1, gx_i x1)]) (by decide) rfl (htX1_nodes (27, .istore 4, 2) (gx_m 16 rfl)) ?_
  refine gx_Jjoin (pcJ := 52) (lvJ := fun (j_1 : Unit) => [(0, gx_r 2 (some x0))]) (stJ := fun (j_1 : Unit) => []) (fun _ => True) (fun j_1 _ => ?_) (fun kk1 hj1 => ?_)
  · refine gx_aload_n (pc := 52) (n := 0) (i := 0) rfl 0 rfl (htX1_nodes (52, .aload_n 0, 1) (gx_m 28 rfl)) ?_
    refine gx_Jgs (pc := 53) (ci := 1) (kk := 2) (t2 := 13) (by decide) (by decide) rfl rfl rfl q699 (htX1_nodes (53, .getfield 37, 3) (gx_m 29 rfl)) ?_
    refine gx_Jcv (pc := 56) (gx_hst (as := []) (b := gx_r 13 (some (2 :: x0)))) (gx_runV (as := []) (ci := 12) (ct_X12_clear Y (2 :: x0)) (by decide) (Or.inl rfl) rfl rfl rfl rfl q726 q727 q728 q112 q729 rfl dd_X12_clear (by decide) (by decide) (Nat.le_of_ble_eq_true rfl) (htX1_nodes (56, .invokevirtual 79, 3) (gx_m 30 rfl))) ?_
    exact gx_Jvret (pc := 59) rfl (fun _ => trivial) (fun _ _ => rfl) (htX1_nodes (59, .return_, 1) (gx_m 31 rfl))
  · refine gx_Jw (lv := [(0, gx_r 2 (some x0)), (2, gx_r 104 (some (1 :: x0))), (3, gx_i v2), (4, gx_i 0)]) [3, 2, 1, 0] rfl ?_
    refine gx_Jlp (pc := 29) (lvh := fun (s3 : Int32) => [(0, gx_r 2 (some x0)), (2, gx_r 104 (some (1 :: x0))), (3, gx_i v2), (4, gx_i s3)]) (fun s3 kl1 ha1 hb1 => ?_) _
    unfold lb_X1_nodes_1
    refine gx_iload (pc := 29) (i := 4) 3 rfl (htX1_nodes (29, .iload 4, 2) (gx_m 17 rfl)) ?_
    refine gx_iload_n (pc := 31) (n := 3) (i := 3) rfl 2 rfl (htX1_nodes (31, .iload_n 3, 1) (gx_m 18 rfl)) ?_
    refine gx_icmp_ge (pc := 32) (tgt := 52) (by decide) (htX1_nodes (32, .if_icmp .ge 20, 3) (gx_m 19 rfl)) (fun c2 => ?_) (fun c2 => ?_)
    · refine gx_Jw (lv := [(0, gx_r 2 (some x0))]) [0] rfl ?_
      exact gx_Jout hb1 (hj1 () trivial)
    · refine gx_aload_n (pc := 35) (n := 2) (i := 2) rfl 1 rfl (htX1_nodes (35, .aload_n 2, 1) (gx_m 20 rfl)) ?_
      refine gx_iload (pc := 36) (i := 4) 3 rfl (htX1_nodes (36, .iload 4, 2) (gx_m 21 rfl)) ?_
      refine gx_Jra (pc := 38) (t := 4) (t2 := 14) (by decide) (by decide) rfl (htX1_nodes (38, .aaload, 1) (gx_m 22 rfl)) (fun v4 => ?_)
      refine gx_astore (pc := 39) (i := 5) (lv' := [(5, gx_r 14 (some v4)), (0, gx_r 2 (some x0)), (2, gx_r 104 (some (1 :: x0))), (3, gx_i v2), (4, gx_i s3)]) (by decide) rfl (htX1_nodes (39, .astore 5, 2) (gx_m 23 rfl)) ?_
      refine gx_aload (pc := 41) (i := 5) 0 rfl (htX1_nodes (41, .aload 5, 2) (gx_m 24 rfl)) ?_
      refine gx_Jcv (pc := 43) (gx_hst (as := []) (b := gx_r 14 (some v4))) (gx_runV (as := []) (ci := 13) (ct_X13_clear Y v4) (by decide) (Or.inl rfl) rfl rfl rfl rfl q828 q829 q830 q113 q831 rfl dd_X13_clear (by decide) (by decide) (Nat.le_of_ble_eq_true rfl) (htX1_nodes (43, .invokevirtual 77, 3) (gx_m 25 rfl))) ?_
      refine gx_iinc (pc := 46) (i := 4) (j := 4) (v := (s3 + 1)) (lv' := [(4, gx_i (s3 + 1)), (5, gx_r 14 (some v4)), (0, gx_r 2 (some x0)), (2, gx_r 104 (some (1 :: x0))), (3, gx_i v2)]) rfl (gx_iv (by decide)) (by decide) rfl (htX1_nodes (46, .iinc 4 1, 3) (gx_m 26 rfl)) ?_
      refine gx_goto (pc := 49) (tgt := 29) (by decide) (htX1_nodes (49, .goto (-20), 3) (gx_m 27 rfl)) ?_
      refine gx_Jw (lv := [(0, gx_r 2 (some x0)), (2, gx_r 104 (some (1 :: x0))), (3, gx_i v2), (4, gx_i (s3 + 1))]) [2, 3, 4, 0] rfl ?_
      exact ha1 ((s3 + 1) : Int32)
theorem ct_X1_room (Y : gx_Y) (hT : gx_Tr Y) (x0 : Int32) : gx_CtX Y yX1_room (ws_ yX1_room cX1_room 1 none) 8 300 [gx_i x0] (gx_Ox gx_Ov) (f_X1_room x0) :=
  gx_thrower hT (ix := 13) (ic := 15) (kx := 3) (by decide) pn_X1 (htX1_room (0, .iload_n 0, 1) (gx_m 0 rfl)) (htX1_room (1, .ifCond .ne 11, 3) (gx_m 1 rfl)) (htX1_room (4, .new 13, 3) (gx_m 2 rfl)) (htX1_room (7, .dup, 1) (gx_m 3 rfl)) (htX1_room (8, .invokespecial 15, 3) (gx_m 4 rfl)) (htX1_room (11, .athrow, 1) (gx_m 5 rfl)) (htX1_room (12, .return_, 1) (gx_m 6 rfl)) q912 q913 q122 (by decide +kernel) (by decide +kernel) x0
theorem ct_X1_feed (Y : gx_Y) (hT : gx_Tr Y) (x0 : gx_Nm) (x1 : Int32) (x2 : Int32) (x3 : Int32) (x4 : Int32) (x5 : Int32) : gx_CtX Y yX1_feed (ws_ yX1_feed cX1_feed 6 (some .int)) 9 320 [gx_r 2 (some x0), gx_i x1, gx_i x2, gx_i x3, gx_i x4, gx_i x5] (gx_Ox gx_Oi) (f_X1_feed x0 x1 x2 x3 x4 x5) := by
  refine gx_startX (lv := [(0, gx_r 2 (some x0)), (1, gx_i x1), (2, gx_i x2), (3, gx_i x3), (4, gx_i x4), (5, gx_i x5)]) pn_X1 (Nat.le_of_ble_eq_true rfl) rfl ?_
  unfold f_X1_feed
  refine gx_aload_n (pc := 0) (n := 0) (i := 0) rfl 0 rfl (htX1_feed (0, .aload_n 0, 1) (gx_m 0 rfl)) ?_
  refine gx_Jgs (pc := 1) (ci := 1) (kk := 3) (t2 := 5) (by decide) (by decide) rfl rfl rfl q700 (htX1_feed (1, .getfield 46, 3) (gx_m 1 rfl)) ?_
  refine gx_Jgi (pc := 4) (ci := 4) (kk := 1) (by decide) (Or.inl rfl) (by decide) (by decide) q162 (htX1_feed (4, .getfield 94, 3) (gx_m 2 rfl)) (fun v1 hv1 => ?_)
  refine gx_bipush (pc := 7) (v := 20) (by decide) (htX1_feed (7, .bipush 20, 2) (gx_m 3 rfl)) ?_
  refine gx_iadd (pc := 9) (htX1_feed (9, .iadd, 1) (gx_m 4 rfl)) ?_
  refine gx_aload_n (pc := 10) (n := 0) (i := 0) rfl 0 rfl (htX1_feed (10, .aload_n 0, 1) (gx_m 5 rfl)) ?_
  refine gx_Jgi (pc := 11) (ci := 1) (kk := 6) (by decide) (Or.inl rfl) (by decide) (by decide) q703 (htX1_feed (11, .getfield 97, 3) (gx_m 6 rfl)) (fun v2 hv2 => ?_)
  refine gx_Jjoin (pcJ := 28) (lvJ := fun (j5 : Int32) => [(0, gx_r 2 (some x0)), (1, gx_i x1), (2, gx_i x2), (3, gx_i x3), (4, gx_i x4), (5, gx_i x5)]) (stJ := fun (j5 : Int32) => [gx_i j5, gx_i (v1 + 20)]) (fun _ => True) (fun j5 hj5 => ?_) (fun kk1 hj1 => ?_)
  · refine gx_iadd (pc := 28) (htX1_feed (28, .iadd, 1) (gx_m 13 rfl)) ?_
    refine gx_aload_n (pc := 29) (n := 0) (i := 0) rfl 0 rfl (htX1_feed (29, .aload_n 0, 1) (gx_m 14 rfl)) ?_
    refine gx_Jgi (pc := 30) (ci := 1) (kk := 6) (by decide) (Or.inl rfl) (by decide) (by decide) q703 (htX1_feed (30, .getfield 97, 3) (gx_m 15 rfl)) (fun v6 hv6 => ?_)
    refine gx_iconst (pc := 33) (v := 1) (by decide) (htX1_feed (33, .iconst 1, 1) (gx_m 16 rfl)) ?_
    refine gx_Jjoin (pcJ := 48) (lvJ := fun (j9 : Int32) => [(0, gx_r 2 (some x0)), (1, gx_i x1), (2, gx_i x2), (3, gx_i x3), (4, gx_i x4), (5, gx_i x5)]) (stJ := fun (j9 : Int32) => [gx_i j9, gx_i ((v1 + 20) + j5)]) (fun _ => True) (fun j9 hj9 => ?_) (fun kk2 hj2 => ?_)
    · refine gx_iadd (pc := 48) (htX1_feed (48, .iadd, 1) (gx_m 23 rfl)) ?_
      refine gx_sipush (pc := 49) (v := 2048) (by decide) (htX1_feed (49, .sipush 2048, 3) (gx_m 24 rfl)) ?_
      refine gx_Jjoin (pcJ := 60) (lvJ := fun (j10 : Int32) => [(0, gx_r 2 (some x0)), (1, gx_i x1), (2, gx_i x2), (3, gx_i x3), (4, gx_i x4), (5, gx_i x5)]) (stJ := fun (j10 : Int32) => [gx_i j10]) (fun (j10 : Int32) => j10 &&& 1 = j10) (fun j10 hj10 => ?_) (fun kk3 hj3 => ?_)
      · refine gx_JX (pc := 60) rfl (fun _ => rfl) (gx_runST (as := [gx_i j10]) (ct_X1_room Y hT j10) rfl rfl rfl q909 q910 q101 q911 rfl dd_X1_room (by decide) (by decide) (Nat.le_of_ble_eq_true rfl) (htX1_feed (60, .invokestatic 100, 3) (gx_m 29 rfl))) ?_
        refine gx_Jcv (pc := 60) (gx_hstS (as := [gx_i j10])) (gx_runS (as := [gx_i j10]) (gx_CtX.un gx_Ov_r (ct_X1_room Y hT j10)) rfl rfl rfl q909 q910 q101 q911 rfl dd_X1_room (by decide) (by decide) (Nat.le_of_ble_eq_true rfl) (htX1_feed (60, .invokestatic 100, 3) (gx_m 29 rfl))) ?_
        refine gx_aload_n (pc := 63) (n := 0) (i := 0) rfl 0 rfl (htX1_feed (63, .aload_n 0, 1) (gx_m 30 rfl)) ?_
        refine gx_Jgs (pc := 64) (ci := 1) (kk := 3) (t2 := 5) (by decide) (by decide) rfl rfl rfl q700 (htX1_feed (64, .getfield 46, 3) (gx_m 31 rfl)) ?_
        refine gx_iload_n (pc := 67) (n := 1) (i := 1) rfl 1 rfl (htX1_feed (67, .iload_n 1, 1) (gx_m 32 rfl)) ?_
        refine gx_Jcv (pc := 68) (gx_hst (as := [gx_i x1]) (b := gx_r 5 (some (3 :: x0)))) (gx_runV (as := [gx_i x1]) (ci := 4) (ct_X4_addInt Y (3 :: x0) x1) (by decide) (Or.inl rfl) rfl rfl rfl rfl q927 q928 q929 q104 q930 rfl dd_X4_addInt (by decide) (by decide) (Nat.le_of_ble_eq_true rfl) (htX1_feed (68, .invokevirtual 103, 3) (gx_m 33 rfl))) ?_
        refine gx_aload_n (pc := 71) (n := 0) (i := 0) rfl 0 rfl (htX1_feed (71, .aload_n 0, 1) (gx_m 34 rfl)) ?_
        refine gx_Jgs (pc := 72) (ci := 1) (kk := 3) (t2 := 5) (by decide) (by decide) rfl rfl rfl q700 (htX1_feed (72, .getfield 46, 3) (gx_m 35 rfl)) ?_
        refine gx_iload_n (pc := 75) (n := 2) (i := 2) rfl 2 rfl (htX1_feed (75, .iload_n 2, 1) (gx_m 36 rfl)) ?_
        refine gx_Jcv (pc := 76) (gx_hst (as := [gx_i x2]) (b := gx_r 5 (some (3 :: x0)))) (gx_runV (as := [gx_i x2]) (ci := 4) (ct_X4_addInt Y (3 :: x0) x2) (by decide) (Or.inl rfl) rfl rfl rfl rfl q927 q928 q929 q104 q930 rfl dd_X4_addInt (by decide) (by decide) (Nat.le_of_ble_eq_true rfl) (htX1_feed (76, .invokevirtual 103, 3) (gx_m 37 rfl))) ?_
        refine gx_aload_n (pc := 79) (n := 0) (i := 0) rfl 0 rfl (htX1_feed (79, .aload_n 0, 1) (gx_m 38 rfl)) ?_
        refine gx_Jgs (pc := 80) (ci := 1) (kk := 3) (t2 := 5) (by decide) (by decide) rfl rfl rfl q700 (htX1_feed (80, .getfield 46, 3) (gx_m 39 rfl)) ?_
        refine gx_iload_n (pc := 83) (n := 3) (i := 3) rfl 3 rfl (htX1_feed (83, .iload_n 3, 1) (gx_m 40 rfl)) ?_
        refine gx_Jcv (pc := 84) (gx_hst (as := [gx_i x3]) (b := gx_r 5 (some (3 :: x0)))) (gx_runV (as := [gx_i x3]) (ci := 4) (ct_X4_addInt Y (3 :: x0) x3) (by decide) (Or.inl rfl) rfl rfl rfl rfl q927 q928 q929 q104 q930 rfl dd_X4_addInt (by decide) (by decide) (Nat.le_of_ble_eq_true rfl) (htX1_feed (84, .invokevirtual 103, 3) (gx_m 41 rfl))) ?_
        refine gx_aload_n (pc := 87) (n := 0) (i := 0) rfl 0 rfl (htX1_feed (87, .aload_n 0, 1) (gx_m 42 rfl)) ?_
        refine gx_Jgs (pc := 88) (ci := 1) (kk := 3) (t2 := 5) (by decide) (by decide) rfl rfl rfl q700 (htX1_feed (88, .getfield 46, 3) (gx_m 43 rfl)) ?_
        refine gx_iload (pc := 91) (i := 4) 4 rfl (htX1_feed (91, .iload 4, 2) (gx_m 44 rfl)) ?_
        refine gx_Jcv (pc := 93) (gx_hst (as := [gx_i x4]) (b := gx_r 5 (some (3 :: x0)))) (gx_runV (as := [gx_i x4]) (ci := 4) (ct_X4_addInt Y (3 :: x0) x4) (by decide) (Or.inl rfl) rfl rfl rfl rfl q927 q928 q929 q104 q930 rfl dd_X4_addInt (by decide) (by decide) (Nat.le_of_ble_eq_true rfl) (htX1_feed (93, .invokevirtual 103, 3) (gx_m 45 rfl))) ?_
        refine gx_aload_n (pc := 96) (n := 0) (i := 0) rfl 0 rfl (htX1_feed (96, .aload_n 0, 1) (gx_m 46 rfl)) ?_
        refine gx_Jgs (pc := 97) (ci := 1) (kk := 3) (t2 := 5) (by decide) (by decide) rfl rfl rfl q700 (htX1_feed (97, .getfield 46, 3) (gx_m 47 rfl)) ?_
        refine gx_iload (pc := 100) (i := 5) 5 rfl (htX1_feed (100, .iload 5, 2) (gx_m 48 rfl)) ?_
        refine gx_Jcv (pc := 102) (gx_hst (as := [gx_i x5]) (b := gx_r 5 (some (3 :: x0)))) (gx_runV (as := [gx_i x5]) (ci := 4) (ct_X4_addInt Y (3 :: x0) x5) (by decide) (Or.inl rfl) rfl rfl rfl rfl q927 q928 q929 q104 q930 rfl dd_X4_addInt (by decide) (by decide) (Nat.le_of_ble_eq_true rfl) (htX1_feed (102, .invokevirtual 103, 3) (gx_m 49 rfl))) ?_
        refine gx_aload_n (pc := 105) (n := 0) (i := 0) rfl 0 rfl (htX1_feed (105, .aload_n 0, 1) (gx_m 50 rfl)) ?_
        refine gx_Jgs (pc := 106) (ci := 1) (kk := 3) (t2 := 5) (by decide) (by decide) rfl rfl rfl q700 (htX1_feed (106, .getfield 46, 3) (gx_m 51 rfl)) ?_
        refine gx_Jgi (pc := 109) (ci := 4) (kk := 1) (by decide) (Or.inl rfl) (by decide) (by decide) q162 (htX1_feed (109, .getfield 94, 3) (gx_m 52 rfl)) (fun v11 hv11 => ?_)
        exact gx_Jiret (pc := 112) rfl (fun _ => trivial) (fun _ _ => rfl) (htX1_feed (112, .ireturn, 1) (gx_m 53 rfl))
      · refine gx_icmp_gt (pc := 52) (tgt := 59) (by decide) (htX1_feed (52, .if_icmp .gt 7, 3) (gx_m 25 rfl)) (fun c4 => ?_) (fun c4 => ?_)
        · refine gx_iconst (pc := 59) (v := 0) (by decide) (htX1_feed (59, .iconst 0, 1) (gx_m 28 rfl)) ?_
          exact hj3 (0 : Int32) gx_b0
        · refine gx_iconst (pc := 55) (v := 1) (by decide) (htX1_feed (55, .iconst 1, 1) (gx_m 26 rfl)) ?_
          refine gx_goto (pc := 56) (tgt := 60) (by decide) (htX1_feed (56, .goto 4, 3) (gx_m 27 rfl)) ?_
          exact hj3 (1 : Int32) gx_b1
    · refine gx_icmp_le (pc := 34) (tgt := 47) (by decide) (htX1_feed (34, .if_icmp .le 13, 3) (gx_m 17 rfl)) (fun c5 => ?_) (fun c5 => ?_)
      · refine gx_iconst (pc := 47) (v := 0) (by decide) (htX1_feed (47, .iconst 0, 1) (gx_m 22 rfl)) ?_
        exact hj2 (0 : Int32) trivial
      · refine gx_aload_n (pc := 37) (n := 0) (i := 0) rfl 0 rfl (htX1_feed (37, .aload_n 0, 1) (gx_m 18 rfl)) ?_
        refine gx_Jgr (pc := 38) (ci := 1) (kk := 5) (t2 := 5) (by decide) (Or.inl rfl) (by decide) rfl rfl q702 (htX1_feed (38, .getfield 53, 3) (gx_m 19 rfl)) (fun v7 => ?_)
        refine gx_Jgi (pc := 41) (ci := 4) (kk := 1) (by decide) (Or.inl rfl) (by decide) (by decide) q162 (htX1_feed (41, .getfield 94, 3) (gx_m 20 rfl)) (fun v8 hv8 => ?_)
        refine gx_goto (pc := 44) (tgt := 48) (by decide) (htX1_feed (44, .goto 4, 3) (gx_m 21 rfl)) ?_
        exact hj2 (v8 : Int32) trivial
  · refine gx_if_le (pc := 14) (y := 0) (tgt := 27) (by decide) (htX1_feed (14, .ifCond .le 13, 3) (gx_m 7 rfl)) (fun c6 => ?_) (fun c6 => ?_)
    · refine gx_iconst (pc := 27) (v := 0) (by decide) (htX1_feed (27, .iconst 0, 1) (gx_m 12 rfl)) ?_
      exact hj1 (0 : Int32) trivial
    · refine gx_aload_n (pc := 17) (n := 0) (i := 0) rfl 0 rfl (htX1_feed (17, .aload_n 0, 1) (gx_m 8 rfl)) ?_
      refine gx_Jgr (pc := 18) (ci := 1) (kk := 4) (t2 := 5) (by decide) (Or.inl rfl) (by decide) rfl rfl q701 (htX1_feed (18, .getfield 50, 3) (gx_m 9 rfl)) (fun v3 => ?_)
      refine gx_Jgi (pc := 21) (ci := 4) (kk := 1) (by decide) (Or.inl rfl) (by decide) (by decide) q162 (htX1_feed (21, .getfield 94, 3) (gx_m 10 rfl)) (fun v4 hv4 => ?_)
      refine gx_goto (pc := 24) (tgt := 28) (by decide) (htX1_feed (24, .goto 4, 3) (gx_m 11 rfl)) ?_
      exact hj1 (v4 : Int32) trivial
theorem ct_X1_end (Y : gx_Y) (hT : gx_Tr Y) (x0 : gx_Nm) (x1 : Int32) : gx_CtX Y yX1_end (ws_ yX1_end cX1_end 3 (some .int)) 9 320 [gx_r 2 (some x0), gx_i x1] (gx_Ox gx_Oi) (f_X1_end x0 x1) := by
  refine gx_startX (lv := [(0, gx_r 2 (some x0)), (1, gx_i x1)]) pn_X1 (Nat.le_of_ble_eq_true rfl) rfl ?_
  unfold f_X1_end
  refine gx_iload_n (pc := 0) (n := 1) (i := 1) rfl 1 rfl (htX1_end (0, .iload_n 1, 1) (gx_m 0 rfl)) ?_
  refine gx_iconst (pc := 1) (v := 0) (by decide) (htX1_end (1, .iconst 0, 1) (gx_m 1 rfl)) ?_
  refine gx_bipush (pc := 2) (v := 19) (by decide) (htX1_end (2, .bipush 19, 2) (gx_m 2 rfl)) ?_
  refine gx_Jcz (pc := 4) (gx_hstS (as := [gx_i x1, gx_i 0, gx_i 19])) (gx_runS (as := [gx_i x1, gx_i 0, gx_i 19]) (ct_X1_in Y x1 0 19) rfl rfl rfl q756 q757 q101 q758 rfl dd_X1_in (by decide) (by decide) (Nat.le_of_ble_eq_true rfl) (htX1_end (4, .invokestatic 69, 3) (gx_m 3 rfl))) (fun v1 hv1 => ?_)
  refine gx_Jjoin (pcJ := 26) (lvJ := fun (j3 : Int32) => [(0, gx_r 2 (some x0)), (1, gx_i x1)]) (stJ := fun (j3 : Int32) => [gx_i j3]) (fun (j3 : Int32) => j3 &&& 1 = j3) (fun j3 hj3 => ?_) (fun kk1 hj1 => ?_)
  · refine gx_JX (pc := 26) rfl (fun _ => rfl) (gx_runST (as := [gx_i j3]) (ct_X1_good Y hT j3) rfl rfl rfl q759 q760 q101 q761 rfl dd_X1_good (by decide) (by decide) (Nat.le_of_ble_eq_true rfl) (htX1_end (26, .invokestatic 73, 3) (gx_m 13 rfl))) ?_
    refine gx_Jcv (pc := 26) (gx_hstS (as := [gx_i j3])) (gx_runS (as := [gx_i j3]) (gx_CtX.un gx_Ov_r (ct_X1_good Y hT j3)) rfl rfl rfl q759 q760 q101 q761 rfl dd_X1_good (by decide) (by decide) (Nat.le_of_ble_eq_true rfl) (htX1_end (26, .invokestatic 73, 3) (gx_m 13 rfl))) ?_
    refine gx_aload_n (pc := 29) (n := 0) (i := 0) rfl 0 rfl (htX1_end (29, .aload_n 0, 1) (gx_m 14 rfl)) ?_
    refine gx_Jgs (pc := 30) (ci := 1) (kk := 3) (t2 := 5) (by decide) (by decide) rfl rfl rfl q700 (htX1_end (30, .getfield 46, 3) (gx_m 15 rfl)) ?_
    refine gx_dup (pc := 33) rfl (htX1_end (33, .dup, 1) (gx_m 16 rfl)) ?_
    refine gx_Jgi (pc := 34) (ci := 4) (kk := 1) (by decide) (Or.inl rfl) (by decide) (by decide) q162 (htX1_end (34, .getfield 94, 3) (gx_m 17 rfl)) (fun v4 hv4 => ?_)
    refine gx_iload_n (pc := 37) (n := 1) (i := 1) rfl 1 rfl (htX1_end (37, .iload_n 1, 1) (gx_m 18 rfl)) ?_
    refine gx_isub (pc := 38) (htX1_end (38, .isub, 1) (gx_m 19 rfl)) ?_
    refine gx_Jpi (pc := 39) (ci := 4) (kk := 1) (by decide) (Or.inl rfl) (by decide) rfl rfl q162 (Or.inl rfl) (htX1_end (39, .putfield 94, 3) (gx_m 20 rfl)) ?_
    refine gx_aload_n (pc := 42) (n := 0) (i := 0) rfl 0 rfl (htX1_end (42, .aload_n 0, 1) (gx_m 21 rfl)) ?_
    refine gx_Jgi (pc := 43) (ci := 1) (kk := 6) (by decide) (Or.inl rfl) (by decide) (by decide) q703 (htX1_end (43, .getfield 97, 3) (gx_m 22 rfl)) (fun v5 hv5 => ?_)
    refine gx_iconst (pc := 46) (v := 2) (by decide) (htX1_end (46, .iconst 2, 1) (gx_m 23 rfl)) ?_
    refine gx_Jjoin (pcJ := 73) (lvJ := fun (j_2 : Unit) => [(0, gx_r 2 (some x0))]) (stJ := fun (j_2 : Unit) => []) (fun _ => True) (fun j_2 hj_2 => ?_) (fun kk2 hj2 => ?_)
    · refine gx_aload_n (pc := 73) (n := 0) (i := 0) rfl 0 rfl (htX1_end (73, .aload_n 0, 1) (gx_m 38 rfl)) ?_
      refine gx_Jgi (pc := 74) (ci := 1) (kk := 6) (by decide) (Or.inl rfl) (by decide) (by decide) q703 (htX1_end (74, .getfield 97, 3) (gx_m 39 rfl)) (fun v8 hv8 => ?_)
      refine gx_Jjoin (pcJ := 91) (lvJ := fun (j11 : gx_Nm) => [(0, gx_r 2 (some x0))]) (stJ := fun (j11 : gx_Nm) => [gx_r 5 (some j11)]) (fun _ => True) (fun j11 hj11 => ?_) (fun kk3 hj3 => ?_)
      · refine gx_astore_n (pc := 91) (n := 2) (i := 2) (lv' := [(2, gx_r 5 (some j11)), (0, gx_r 2 (some x0))]) rfl (by decide) rfl (htX1_end (91, .astore_n 2, 1) (gx_m 46 rfl)) ?_
        refine gx_aload_n (pc := 92) (n := 2) (i := 2) rfl 0 rfl (htX1_end (92, .aload_n 2, 1) (gx_m 47 rfl)) ?_
        refine gx_Jcv (pc := 93) (gx_hst (as := []) (b := gx_r 5 (some j11))) (gx_runV (as := []) (ci := 4) (ct_X4_clear Y j11) (by decide) (Or.inl rfl) rfl rfl rfl rfl q939 q634 q635 q104 q636 rfl dd_X4_clear (by decide) (by decide) (Nat.le_of_ble_eq_true rfl) (htX1_end (93, .invokevirtual 106, 3) (gx_m 48 rfl))) ?_
        refine gx_aload_n (pc := 96) (n := 2) (i := 2) rfl 0 rfl (htX1_end (96, .aload_n 2, 1) (gx_m 49 rfl)) ?_
        refine gx_aload_n (pc := 97) (n := 0) (i := 0) rfl 1 rfl (htX1_end (97, .aload_n 0, 1) (gx_m 50 rfl)) ?_
        refine gx_Jgs (pc := 98) (ci := 1) (kk := 3) (t2 := 5) (by decide) (by decide) rfl rfl rfl q700 (htX1_end (98, .getfield 46, 3) (gx_m 51 rfl)) ?_
        refine gx_iconst (pc := 101) (v := 0) (by decide) (htX1_end (101, .iconst 0, 1) (gx_m 52 rfl)) ?_
        refine gx_aload_n (pc := 102) (n := 0) (i := 0) rfl 1 rfl (htX1_end (102, .aload_n 0, 1) (gx_m 53 rfl)) ?_
        refine gx_Jgs (pc := 103) (ci := 1) (kk := 3) (t2 := 5) (by decide) (by decide) rfl rfl rfl q700 (htX1_end (103, .getfield 46, 3) (gx_m 54 rfl)) ?_
        refine gx_Jgi (pc := 106) (ci := 4) (kk := 1) (by decide) (Or.inl rfl) (by decide) (by decide) q162 (htX1_end (106, .getfield 94, 3) (gx_m 55 rfl)) (fun v12 hv12 => ?_)
        refine gx_Jcv (pc := 109) (gx_hst (as := [gx_r 5 (some (3 :: x0)), gx_i 0, gx_i v12]) (b := gx_r 5 (some j11))) (gx_runV (as := [gx_r 5 (some (3 :: x0)), gx_i 0, gx_i v12]) (ci := 4) (ct_X4_addAll Y j11 (3 :: x0) 0 v12) (by decide) (Or.inl rfl) rfl rfl rfl rfl q940 q941 q942 q104 q943 rfl dd_X4_addAll (by decide) (by decide) (Nat.le_of_ble_eq_true rfl) (htX1_end (109, .invokevirtual 107, 3) (gx_m 56 rfl))) ?_
        refine gx_aload_n (pc := 112) (n := 0) (i := 0) rfl 1 rfl (htX1_end (112, .aload_n 0, 1) (gx_m 57 rfl)) ?_
        refine gx_Jgs (pc := 113) (ci := 1) (kk := 3) (t2 := 5) (by decide) (by decide) rfl rfl rfl q700 (htX1_end (113, .getfield 46, 3) (gx_m 58 rfl)) ?_
        refine gx_Jcv (pc := 116) (gx_hst (as := []) (b := gx_r 5 (some (3 :: x0)))) (gx_runV (as := []) (ci := 4) (ct_X4_clear Y (3 :: x0)) (by decide) (Or.inl rfl) rfl rfl rfl rfl q939 q634 q635 q104 q636 rfl dd_X4_clear (by decide) (by decide) (Nat.le_of_ble_eq_true rfl) (htX1_end (116, .invokevirtual 106, 3) (gx_m 59 rfl))) ?_
        refine gx_aload_n (pc := 119) (n := 0) (i := 0) rfl 1 rfl (htX1_end (119, .aload_n 0, 1) (gx_m 60 rfl)) ?_
        refine gx_dup (pc := 120) rfl (htX1_end (120, .dup, 1) (gx_m 61 rfl)) ?_
        refine gx_Jgi (pc := 121) (ci := 1) (kk := 6) (by decide) (Or.inl rfl) (by decide) (by decide) q703 (htX1_end (121, .getfield 97, 3) (gx_m 62 rfl)) (fun v13 hv13 => ?_)
        refine gx_iconst (pc := 124) (v := 1) (by decide) (htX1_end (124, .iconst 1, 1) (gx_m 63 rfl)) ?_
        refine gx_iadd (pc := 125) (htX1_end (125, .iadd, 1) (gx_m 64 rfl)) ?_
        refine gx_Jpi (pc := 126) (ci := 1) (kk := 6) (by decide) (Or.inl rfl) (by decide) rfl rfl q703 (Or.inl rfl) (htX1_end (126, .putfield 97, 3) (gx_m 65 rfl)) ?_
        refine gx_aload_n (pc := 129) (n := 0) (i := 0) rfl 1 rfl (htX1_end (129, .aload_n 0, 1) (gx_m 66 rfl)) ?_
        refine gx_Jgi (pc := 130) (ci := 1) (kk := 6) (by decide) (Or.inl rfl) (by decide) (by decide) q703 (htX1_end (130, .getfield 97, 3) (gx_m 67 rfl)) (fun v14 hv14 => ?_)
        exact gx_Jiret (pc := 133) rfl (fun _ => trivial) (fun _ _ => rfl) (htX1_end (133, .ireturn, 1) (gx_m 68 rfl))
      · refine gx_if_ne (pc := 77) (y := 0) (tgt := 87) (by decide) (htX1_end (77, .ifCond .ne 10, 3) (gx_m 40 rfl)) (fun c4 => ?_) (fun c4 => ?_)
        · refine gx_aload_n (pc := 80) (n := 0) (i := 0) rfl 0 rfl (htX1_end (80, .aload_n 0, 1) (gx_m 41 rfl)) ?_
          refine gx_Jgr (pc := 81) (ci := 1) (kk := 4) (t2 := 5) (by decide) (Or.inl rfl) (by decide) rfl rfl q701 (htX1_end (81, .getfield 50, 3) (gx_m 42 rfl)) (fun v9 => ?_)
          refine gx_goto (pc := 84) (tgt := 91) (by decide) (htX1_end (84, .goto 7, 3) (gx_m 43 rfl)) ?_
          exact hj3 (v9 : gx_Nm) trivial
        · refine gx_aload_n (pc := 87) (n := 0) (i := 0) rfl 0 rfl (htX1_end (87, .aload_n 0, 1) (gx_m 44 rfl)) ?_
          refine gx_Jgr (pc := 88) (ci := 1) (kk := 5) (t2 := 5) (by decide) (Or.inl rfl) (by decide) rfl rfl q702 (htX1_end (88, .getfield 53, 3) (gx_m 45 rfl)) (fun v10 => ?_)
          exact hj3 (v10 : gx_Nm) trivial
    · refine gx_icmp_ne (pc := 47) (tgt := 73) (by decide) (htX1_end (47, .if_icmp .ne 26, 3) (gx_m 24 rfl)) (fun c5 => ?_) (fun c5 => ?_)
      · refine gx_aload_n (pc := 50) (n := 0) (i := 0) rfl 0 rfl (htX1_end (50, .aload_n 0, 1) (gx_m 25 rfl)) ?_
        refine gx_Jgr (pc := 51) (ci := 1) (kk := 4) (t2 := 5) (by decide) (Or.inl rfl) (by decide) rfl rfl q701 (htX1_end (51, .getfield 50, 3) (gx_m 26 rfl)) (fun v6 => ?_)
        refine gx_astore_n (pc := 54) (n := 2) (i := 2) (lv' := [(2, gx_r 5 (some v6)), (0, gx_r 2 (some x0)), (1, gx_i x1)]) rfl (by decide) rfl (htX1_end (54, .astore_n 2, 1) (gx_m 27 rfl)) ?_
        refine gx_aload_n (pc := 55) (n := 0) (i := 0) rfl 1 rfl (htX1_end (55, .aload_n 0, 1) (gx_m 28 rfl)) ?_
        refine gx_aload_n (pc := 56) (n := 0) (i := 0) rfl 1 rfl (htX1_end (56, .aload_n 0, 1) (gx_m 29 rfl)) ?_
        refine gx_Jgr (pc := 57) (ci := 1) (kk := 5) (t2 := 5) (by decide) (Or.inl rfl) (by decide) rfl rfl q702 (htX1_end (57, .getfield 53, 3) (gx_m 30 rfl)) (fun v7 => ?_)
        refine gx_Jpr (pc := 60) (ci := 1) (kk := 4) (by decide) (Or.inl rfl) (by decide) rfl rfl (by decide) (fun _ h => by cases h) (Or.inl ⟨_, rfl⟩) q701 (Or.inl rfl) (htX1_end (60, .putfield 50, 3) (gx_m 31 rfl)) ?_
        refine gx_aload_n (pc := 63) (n := 0) (i := 0) rfl 1 rfl (htX1_end (63, .aload_n 0, 1) (gx_m 32 rfl)) ?_
        refine gx_aload_n (pc := 64) (n := 2) (i := 2) rfl 0 rfl (htX1_end (64, .aload_n 2, 1) (gx_m 33 rfl)) ?_
        refine gx_Jpr (pc := 65) (ci := 1) (kk := 5) (by decide) (Or.inl rfl) (by decide) rfl rfl (by decide) (fun _ h => by cases h) (Or.inl ⟨_, rfl⟩) q702 (Or.inl rfl) (htX1_end (65, .putfield 53, 3) (gx_m 34 rfl)) ?_
        refine gx_aload_n (pc := 68) (n := 0) (i := 0) rfl 1 rfl (htX1_end (68, .aload_n 0, 1) (gx_m 35 rfl)) ?_
        refine gx_iconst (pc := 69) (v := 1) (by decide) (htX1_end (69, .iconst 1, 1) (gx_m 36 rfl)) ?_
        refine gx_Jpi (pc := 70) (ci := 1) (kk := 6) (by decide) (Or.inl rfl) (by decide) rfl rfl q703 (Or.inl rfl) (htX1_end (70, .putfield 97, 3) (gx_m 37 rfl)) ?_
        refine gx_Jw (lv := [(0, gx_r 2 (some x0))]) [1] rfl ?_
        exact hj2 () trivial
      · refine gx_Jw (lv := [(0, gx_r 2 (some x0))]) [0] rfl ?_
        exact hj2 () trivial
  · refine gx_if_eq (pc := 7) (y := 0) (tgt := 25) (by decide) (htX1_end (7, .ifCond .eq 18, 3) (gx_m 4 rfl)) (fun c6 => ?_) (fun c6 => ?_)
    · refine gx_iconst (pc := 25) (v := 0) (by decide) (htX1_end (25, .iconst 0, 1) (gx_m 12 rfl)) ?_
      exact hj1 (0 : Int32) gx_b0
    · refine gx_iload_n (pc := 10) (n := 1) (i := 1) rfl 1 rfl (htX1_end (10, .iload_n 1, 1) (gx_m 5 rfl)) ?_
      refine gx_aload_n (pc := 11) (n := 0) (i := 0) rfl 0 rfl (htX1_end (11, .aload_n 0, 1) (gx_m 6 rfl)) ?_
      refine gx_Jgs (pc := 12) (ci := 1) (kk := 3) (t2 := 5) (by decide) (by decide) rfl rfl rfl q700 (htX1_end (12, .getfield 46, 3) (gx_m 7 rfl)) ?_
      refine gx_Jgi (pc := 15) (ci := 4) (kk := 1) (by decide) (Or.inl rfl) (by decide) (by decide) q162 (htX1_end (15, .getfield 94, 3) (gx_m 8 rfl)) (fun v2 hv2 => ?_)
      refine gx_icmp_gt (pc := 18) (tgt := 25) (by decide) (htX1_end (18, .if_icmp .gt 7, 3) (gx_m 9 rfl)) (fun c7 => ?_) (fun c7 => ?_)
      · refine gx_iconst (pc := 25) (v := 0) (by decide) (htX1_end (25, .iconst 0, 1) (gx_m 12 rfl)) ?_
        exact hj1 (0 : Int32) gx_b0
      · refine gx_iconst (pc := 21) (v := 1) (by decide) (htX1_end (21, .iconst 1, 1) (gx_m 10 rfl)) ?_
        refine gx_goto (pc := 22) (tgt := 26) (by decide) (htX1_end (22, .goto 4, 3) (gx_m 11 rfl)) ?_
        exact hj1 (1 : Int32) gx_b1
theorem ct_X1_take (Y : gx_Y) (hT : gx_Tr Y) (x0 : gx_Nm) (x1 : Int32) : gx_CtX Y yX1_take (ws_ yX1_take cX1_take 3 none) 9 320 [gx_r 2 (some x0), gx_i x1] (gx_Ox gx_Ov) (f_X1_take x0 x1) := by
  refine gx_startX (lv := [(0, gx_r 2 (some x0)), (1, gx_i x1)]) pn_X1 (Nat.le_of_ble_eq_true rfl) rfl ?_
  unfold f_X1_take
  refine gx_aload_n (pc := 0) (n := 0) (i := 0) rfl 0 rfl (htX1_take (0, .aload_n 0, 1) (gx_m 0 rfl)) ?_
  refine gx_Jgi (pc := 1) (ci := 1) (kk := 6) (by decide) (Or.inl rfl) (by decide) (by decide) q703 (htX1_take (1, .getfield 97, 3) (gx_m 1 rfl)) (fun v1 hv1 => ?_)
  refine gx_istore_n (pc := 4) (n := 2) (i := 2) (lv' := [(2, gx_i v1), (0, gx_r 2 (some x0)), (1, gx_i x1)]) rfl (by decide) rfl (htX1_take (4, .istore_n 2, 1) (gx_m 2 rfl)) ?_
  refine gx_aload_n (pc := 5) (n := 0) (i := 0) rfl 1 rfl (htX1_take (5, .aload_n 0, 1) (gx_m 3 rfl)) ?_
  refine gx_iconst (pc := 6) (v := 0) (by decide) (htX1_take (6, .iconst 0, 1) (gx_m 4 rfl)) ?_
  refine gx_Jpi (pc := 7) (ci := 1) (kk := 6) (by decide) (Or.inl rfl) (by decide) rfl rfl q703 (Or.inl rfl) (htX1_take (7, .putfield 97, 3) (gx_m 5 rfl)) ?_
  refine gx_iload_n (pc := 10) (n := 2) (i := 2) rfl 0 rfl (htX1_take (10, .iload_n 2, 1) (gx_m 6 rfl)) ?_
  refine gx_iload_n (pc := 11) (n := 1) (i := 1) rfl 2 rfl (htX1_take (11, .iload_n 1, 1) (gx_m 7 rfl)) ?_
  refine gx_Jjoin (pcJ := 57) (lvJ := fun (j9 : Int32) => []) (stJ := fun (j9 : Int32) => [gx_i j9]) (fun (j9 : Int32) => j9 &&& 1 = j9) (fun j9 hj9 => ?_) (fun kk1 hj1 => ?_)
  · refine gx_JX (pc := 57) rfl (fun _ => rfl) (gx_runST (as := [gx_i j9]) (ct_X1_good Y hT j9) rfl rfl rfl q759 q760 q101 q761 rfl dd_X1_good (by decide) (by decide) (Nat.le_of_ble_eq_true rfl) (htX1_take (57, .invokestatic 73, 3) (gx_m 29 rfl))) ?_
    refine gx_Jcv (pc := 57) (gx_hstS (as := [gx_i j9])) (gx_runS (as := [gx_i j9]) (gx_CtX.un gx_Ov_r (ct_X1_good Y hT j9)) rfl rfl rfl q759 q760 q101 q761 rfl dd_X1_good (by decide) (by decide) (Nat.le_of_ble_eq_true rfl) (htX1_take (57, .invokestatic 73, 3) (gx_m 29 rfl))) ?_
    exact gx_Jvret (pc := 60) rfl (fun _ => trivial) (fun _ _ => rfl) (htX1_take (60, .return_, 1) (gx_m 30 rfl))
  · refine gx_icmp_ne (pc := 12) (tgt := 56) (by decide) (htX1_take (12, .if_icmp .ne 44, 3) (gx_m 8 rfl)) (fun c2 => ?_) (fun c2 => ?_)
    · refine gx_iload_n (pc := 15) (n := 1) (i := 1) rfl 2 rfl (htX1_take (15, .iload_n 1, 1) (gx_m 9 rfl)) ?_
      refine gx_if_eq (pc := 16) (y := 0) (tgt := 35) (by decide) (htX1_take (16, .ifCond .eq 19, 3) (gx_m 10 rfl)) (fun c3 => ?_) (fun c3 => ?_)
      · refine gx_iload_n (pc := 35) (n := 1) (i := 1) rfl 2 rfl (htX1_take (35, .iload_n 1, 1) (gx_m 18 rfl)) ?_
        refine gx_iconst (pc := 36) (v := 2) (by decide) (htX1_take (36, .iconst 2, 1) (gx_m 19 rfl)) ?_
        refine gx_icmp_lt (pc := 37) (tgt := 52) (by decide) (htX1_take (37, .if_icmp .lt 15, 3) (gx_m 20 rfl)) (fun c4 => ?_) (fun c4 => ?_)
        · refine gx_iconst (pc := 52) (v := 1) (by decide) (htX1_take (52, .iconst 1, 1) (gx_m 26 rfl)) ?_
          refine gx_goto (pc := 53) (tgt := 57) (by decide) (htX1_take (53, .goto 4, 3) (gx_m 27 rfl)) ?_
          refine gx_Jw (lv := []) [] rfl ?_
          exact hj1 (1 : Int32) gx_b1
        · refine gx_aload_n (pc := 40) (n := 0) (i := 0) rfl 1 rfl (htX1_take (40, .aload_n 0, 1) (gx_m 21 rfl)) ?_
          refine gx_Jgr (pc := 41) (ci := 1) (kk := 5) (t2 := 5) (by decide) (Or.inl rfl) (by decide) rfl rfl q702 (htX1_take (41, .getfield 53, 3) (gx_m 22 rfl)) (fun v2 => ?_)
          refine gx_Jgi (pc := 44) (ci := 4) (kk := 1) (by decide) (Or.inl rfl) (by decide) (by decide) q162 (htX1_take (44, .getfield 94, 3) (gx_m 23 rfl)) (fun v3 hv3 => ?_)
          refine gx_bipush (pc := 47) (v := 64) (by decide) (htX1_take (47, .bipush 64, 2) (gx_m 24 rfl)) ?_
          refine gx_icmp_gt (pc := 49) (tgt := 56) (by decide) (htX1_take (49, .if_icmp .gt 7, 3) (gx_m 25 rfl)) (fun c5 => ?_) (fun c5 => ?_)
          · refine gx_iconst (pc := 56) (v := 0) (by decide) (htX1_take (56, .iconst 0, 1) (gx_m 28 rfl)) ?_
            refine gx_Jw (lv := []) [] rfl ?_
            exact hj1 (0 : Int32) gx_b0
          · refine gx_iconst (pc := 52) (v := 1) (by decide) (htX1_take (52, .iconst 1, 1) (gx_m 26 rfl)) ?_
            refine gx_goto (pc := 53) (tgt := 57) (by decide) (htX1_take (53, .goto 4, 3) (gx_m 27 rfl)) ?_
            refine gx_Jw (lv := []) [] rfl ?_
            exact hj1 (1 : Int32) gx_b1
      · refine gx_aload_n (pc := 19) (n := 0) (i := 0) rfl 1 rfl (htX1_take (19, .aload_n 0, 1) (gx_m 11 rfl)) ?_
        refine gx_Jgr (pc := 20) (ci := 1) (kk := 4) (t2 := 5) (by decide) (Or.inl rfl) (by decide) rfl rfl q701 (htX1_take (20, .getfield 50, 3) (gx_m 12 rfl)) (fun v4 => ?_)
        refine gx_Jgi (pc := 23) (ci := 4) (kk := 1) (by decide) (Or.inl rfl) (by decide) (by decide) q162 (htX1_take (23, .getfield 94, 3) (gx_m 13 rfl)) (fun v5 hv5 => ?_)
        refine gx_iconst (pc := 26) (v := 1) (by decide) (htX1_take (26, .iconst 1, 1) (gx_m 14 rfl)) ?_
        refine gx_bipush (pc := 27) (v := 32) (by decide) (htX1_take (27, .bipush 32, 2) (gx_m 15 rfl)) ?_
        refine gx_Jcz (pc := 29) (gx_hstS (as := [gx_i v5, gx_i 1, gx_i 32])) (gx_runS (as := [gx_i v5, gx_i 1, gx_i 32]) (ct_X1_in Y v5 1 32) rfl rfl rfl q756 q757 q101 q758 rfl dd_X1_in (by decide) (by decide) (Nat.le_of_ble_eq_true rfl) (htX1_take (29, .invokestatic 69, 3) (gx_m 16 rfl))) (fun v6 hv6 => ?_)
        refine gx_if_eq (pc := 32) (y := 0) (tgt := 56) (by decide) (htX1_take (32, .ifCond .eq 24, 3) (gx_m 17 rfl)) (fun c6 => ?_) (fun c6 => ?_)
        · refine gx_iconst (pc := 56) (v := 0) (by decide) (htX1_take (56, .iconst 0, 1) (gx_m 28 rfl)) ?_
          refine gx_Jw (lv := []) [] rfl ?_
          exact hj1 (0 : Int32) gx_b0
        · refine gx_iload_n (pc := 35) (n := 1) (i := 1) rfl 2 rfl (htX1_take (35, .iload_n 1, 1) (gx_m 18 rfl)) ?_
          refine gx_iconst (pc := 36) (v := 2) (by decide) (htX1_take (36, .iconst 2, 1) (gx_m 19 rfl)) ?_
          refine gx_icmp_lt (pc := 37) (tgt := 52) (by decide) (htX1_take (37, .if_icmp .lt 15, 3) (gx_m 20 rfl)) (fun c7 => ?_) (fun c7 => ?_)
          · refine gx_iconst (pc := 52) (v := 1) (by decide) (htX1_take (52, .iconst 1, 1) (gx_m 26 rfl)) ?_
            refine gx_goto (pc := 53) (tgt := 57) (by decide) (htX1_take (53, .goto 4, 3) (gx_m 27 rfl)) ?_
            refine gx_Jw (lv := []) [] rfl ?_
            exact hj1 (1 : Int32) gx_b1
          · refine gx_aload_n (pc := 40) (n := 0) (i := 0) rfl 1 rfl (htX1_take (40, .aload_n 0, 1) (gx_m 21 rfl)) ?_
            refine gx_Jgr (pc := 41) (ci := 1) (kk := 5) (t2 := 5) (by decide) (Or.inl rfl) (by decide) rfl rfl q702 (htX1_take (41, .getfield 53, 3) (gx_m 22 rfl)) (fun v7 => ?_)
            refine gx_Jgi (pc := 44) (ci := 4) (kk := 1) (by decide) (Or.inl rfl) (by decide) (by decide) q162 (htX1_take (44, .getfield 94, 3) (gx_m 23 rfl)) (fun v8 hv8 => ?_)
            refine gx_bipush (pc := 47) (v := 64) (by decide) (htX1_take (47, .bipush 64, 2) (gx_m 24 rfl)) ?_
            refine gx_icmp_gt (pc := 49) (tgt := 56) (by decide) (htX1_take (49, .if_icmp .gt 7, 3) (gx_m 25 rfl)) (fun c8 => ?_) (fun c8 => ?_)
            · refine gx_iconst (pc := 56) (v := 0) (by decide) (htX1_take (56, .iconst 0, 1) (gx_m 28 rfl)) ?_
              refine gx_Jw (lv := []) [] rfl ?_
              exact hj1 (0 : Int32) gx_b0
            · refine gx_iconst (pc := 52) (v := 1) (by decide) (htX1_take (52, .iconst 1, 1) (gx_m 26 rfl)) ?_
              refine gx_goto (pc := 53) (tgt := 57) (by decide) (htX1_take (53, .goto 4, 3) (gx_m 27 rfl)) ?_
              refine gx_Jw (lv := []) [] rfl ?_
              exact hj1 (1 : Int32) gx_b1
    · refine gx_iconst (pc := 56) (v := 0) (by decide) (htX1_take (56, .iconst 0, 1) (gx_m 28 rfl)) ?_
      refine gx_Jw (lv := []) [] rfl ?_
      exact hj1 (0 : Int32) gx_b0
theorem ct_X1_when (Y : gx_Y) (hT : gx_Tr Y) (x0 : gx_Nm) (x1 : Int32) (x2 : Int32) (x3 : Int32) : gx_CtX Y yX1_when (ws_ yX1_when cX1_when 4 none) 10 342 [gx_r 2 (some x0), gx_i x1, gx_i x2, gx_i x3] (gx_Ox gx_Ov) (f_X1_when x0 x1 x2 x3) := by
  refine gx_startX (lv := [(0, gx_r 2 (some x0)), (1, gx_i x1), (2, gx_i x2), (3, gx_i x3)]) pn_X1 (Nat.le_of_ble_eq_true rfl) rfl ?_
  unfold f_X1_when
  refine gx_aload_n (pc := 0) (n := 0) (i := 0) rfl 0 rfl (htX1_when (0, .aload_n 0, 1) (gx_m 0 rfl)) ?_
  refine gx_iconst (pc := 1) (v := 1) (by decide) (htX1_when (1, .iconst 1, 1) (gx_m 1 rfl)) ?_
  refine gx_JX (pc := 2) rfl (fun _ => rfl) (gx_runVT (as := [gx_i 1]) (ci := 1) (ct_X1_take Y hT x0 1) (by decide) (Or.inl rfl) rfl rfl rfl rfl q951 q953 qs4 q101 q954 rfl dd_X1_take (by decide) (by decide) (Nat.le_of_ble_eq_true rfl) (htX1_when (2, .invokevirtual 111, 3) (gx_m 2 rfl))) ?_
  refine gx_Jcv (pc := 2) (gx_hst (as := [gx_i 1]) (b := gx_r 2 (some x0))) (gx_runV (as := [gx_i 1]) (ci := 1) (gx_CtX.un gx_Ov_r (ct_X1_take Y hT x0 1)) (by decide) (Or.inl rfl) rfl rfl rfl rfl q951 q953 qs4 q101 q954 rfl dd_X1_take (by decide) (by decide) (Nat.le_of_ble_eq_true rfl) (htX1_when (2, .invokevirtual 111, 3) (gx_m 2 rfl))) ?_
  refine gx_iload_n (pc := 5) (n := 1) (i := 1) rfl 1 rfl (htX1_when (5, .iload_n 1, 1) (gx_m 3 rfl)) ?_
  refine gx_iconst (pc := 6) (v := 0) (by decide) (htX1_when (6, .iconst 0, 1) (gx_m 4 rfl)) ?_
  refine gx_iconst (pc := 7) (v := 3) (by decide) (htX1_when (7, .iconst 3, 1) (gx_m 5 rfl)) ?_
  refine gx_Jcz (pc := 8) (gx_hstS (as := [gx_i x1, gx_i 0, gx_i 3])) (gx_runS (as := [gx_i x1, gx_i 0, gx_i 3]) (ct_X1_in Y x1 0 3) rfl rfl rfl q756 q757 q101 q758 rfl dd_X1_in (by decide) (by decide) (Nat.le_of_ble_eq_true rfl) (htX1_when (8, .invokestatic 69, 3) (gx_m 6 rfl))) (fun v1 hv1 => ?_)
  refine gx_Jjoin (pcJ := 28) (lvJ := fun (j3 : Int32) => [(0, gx_r 2 (some x0)), (1, gx_i x1), (2, gx_i x2), (3, gx_i x3)]) (stJ := fun (j3 : Int32) => [gx_i j3]) (fun (j3 : Int32) => j3 &&& 1 = j3) (fun j3 hj3 => ?_) (fun kk1 hj1 => ?_)
  · refine gx_JX (pc := 28) rfl (fun _ => rfl) (gx_runST (as := [gx_i j3]) (ct_X1_good Y hT j3) rfl rfl rfl q759 q760 q101 q761 rfl dd_X1_good (by decide) (by decide) (Nat.le_of_ble_eq_true rfl) (htX1_when (28, .invokestatic 73, 3) (gx_m 16 rfl))) ?_
    refine gx_Jcv (pc := 28) (gx_hstS (as := [gx_i j3])) (gx_runS (as := [gx_i j3]) (gx_CtX.un gx_Ov_r (ct_X1_good Y hT j3)) rfl rfl rfl q759 q760 q101 q761 rfl dd_X1_good (by decide) (by decide) (Nat.le_of_ble_eq_true rfl) (htX1_when (28, .invokestatic 73, 3) (gx_m 16 rfl))) ?_
    refine gx_aload_n (pc := 31) (n := 0) (i := 0) rfl 0 rfl (htX1_when (31, .aload_n 0, 1) (gx_m 17 rfl)) ?_
    refine gx_Jgs (pc := 32) (ci := 1) (kk := 2) (t2 := 13) (by decide) (by decide) rfl rfl rfl q699 (htX1_when (32, .getfield 37, 3) (gx_m 18 rfl)) ?_
    refine gx_Jgs (pc := 35) (ci := 12) (kk := 1) (t2 := 6) (by decide) (by decide) rfl rfl rfl q458 (htX1_when (35, .getfield 114, 3) (gx_m 19 rfl)) ?_
    refine gx_Jgi (pc := 38) (ci := 5) (kk := 1) (by decide) (Or.inl rfl) (by decide) (by decide) q183 (htX1_when (38, .getfield 118, 3) (gx_m 20 rfl)) (fun v4 hv4 => ?_)
    refine gx_bipush (pc := 41) (v := 20) (by decide) (htX1_when (41, .bipush 20, 2) (gx_m 21 rfl)) ?_
    refine gx_Jjoin (pcJ := 51) (lvJ := fun (j5 : Int32) => [(0, gx_r 2 (some x0)), (1, gx_i x1), (2, gx_i x2), (3, gx_i x3)]) (stJ := fun (j5 : Int32) => [gx_i j5]) (fun (j5 : Int32) => j5 &&& 1 = j5) (fun j5 hj5 => ?_) (fun kk2 hj2 => ?_)
    · refine gx_JX (pc := 51) rfl (fun _ => rfl) (gx_runST (as := [gx_i j5]) (ct_X1_room Y hT j5) rfl rfl rfl q909 q910 q101 q911 rfl dd_X1_room (by decide) (by decide) (Nat.le_of_ble_eq_true rfl) (htX1_when (51, .invokestatic 100, 3) (gx_m 26 rfl))) ?_
      refine gx_Jcv (pc := 51) (gx_hstS (as := [gx_i j5])) (gx_runS (as := [gx_i j5]) (gx_CtX.un gx_Ov_r (ct_X1_room Y hT j5)) rfl rfl rfl q909 q910 q101 q911 rfl dd_X1_room (by decide) (by decide) (Nat.le_of_ble_eq_true rfl) (htX1_when (51, .invokestatic 100, 3) (gx_m 26 rfl))) ?_
      refine gx_aload_n (pc := 54) (n := 0) (i := 0) rfl 0 rfl (htX1_when (54, .aload_n 0, 1) (gx_m 27 rfl)) ?_
      refine gx_Jgs (pc := 55) (ci := 1) (kk := 2) (t2 := 13) (by decide) (by decide) rfl rfl rfl q699 (htX1_when (55, .getfield 37, 3) (gx_m 28 rfl)) ?_
      refine gx_aload_n (pc := 58) (n := 0) (i := 0) rfl 0 rfl (htX1_when (58, .aload_n 0, 1) (gx_m 29 rfl)) ?_
      refine gx_Jgs (pc := 59) (ci := 1) (kk := 2) (t2 := 13) (by decide) (by decide) rfl rfl rfl q699 (htX1_when (59, .getfield 37, 3) (gx_m 30 rfl)) ?_
      refine gx_Jgs (pc := 62) (ci := 12) (kk := 1) (t2 := 6) (by decide) (by decide) rfl rfl rfl q458 (htX1_when (62, .getfield 114, 3) (gx_m 31 rfl)) ?_
      refine gx_aload_n (pc := 65) (n := 0) (i := 0) rfl 0 rfl (htX1_when (65, .aload_n 0, 1) (gx_m 32 rfl)) ?_
      refine gx_Jgr (pc := 66) (ci := 1) (kk := 4) (t2 := 5) (by decide) (Or.inl rfl) (by decide) rfl rfl q701 (htX1_when (66, .getfield 50, 3) (gx_m 33 rfl)) (fun v6 => ?_)
      refine gx_Jcv (pc := 69) (gx_hst (as := [gx_r 6 (some (1 :: 2 :: x0)), gx_r 5 (some v6)]) (b := gx_r 13 (some (2 :: x0)))) (gx_runV (as := [gx_r 6 (some (1 :: 2 :: x0)), gx_r 5 (some v6)]) (ci := 12) (ct_X12_letters Y (2 :: x0) (1 :: 2 :: x0) v6) (by decide) (Or.inl rfl) rfl rfl rfl rfl q955 q956 q957 q112 q958 rfl dd_X12_letters (by decide) (by decide) (Nat.le_of_ble_eq_true rfl) (htX1_when (69, .invokevirtual 123, 3) (gx_m 34 rfl))) ?_
      refine gx_aload_n (pc := 72) (n := 0) (i := 0) rfl 0 rfl (htX1_when (72, .aload_n 0, 1) (gx_m 35 rfl)) ?_
      refine gx_Jgs (pc := 73) (ci := 1) (kk := 2) (t2 := 13) (by decide) (by decide) rfl rfl rfl q699 (htX1_when (73, .getfield 37, 3) (gx_m 36 rfl)) ?_
      refine gx_Jgs (pc := 76) (ci := 12) (kk := 1) (t2 := 6) (by decide) (by decide) rfl rfl rfl q458 (htX1_when (76, .getfield 114, 3) (gx_m 37 rfl)) ?_
      refine gx_iload_n (pc := 79) (n := 1) (i := 1) rfl 1 rfl (htX1_when (79, .iload_n 1, 1) (gx_m 38 rfl)) ?_
      refine gx_Jcv (pc := 80) (gx_hst (as := [gx_i x1]) (b := gx_r 6 (some (1 :: 2 :: x0)))) (gx_runV (as := [gx_i x1]) (ci := 5) (ct_X5_add Y (1 :: 2 :: x0) x1) (by decide) (Or.inl rfl) rfl rfl rfl rfl q961 q642 q643 q105 q644 rfl dd_X5_add (by decide) (by decide) (Nat.le_of_ble_eq_true rfl) (htX1_when (80, .invokevirtual 127, 3) (gx_m 39 rfl))) ?_
      refine gx_aload_n (pc := 83) (n := 0) (i := 0) rfl 0 rfl (htX1_when (83, .aload_n 0, 1) (gx_m 40 rfl)) ?_
      refine gx_Jgs (pc := 84) (ci := 1) (kk := 2) (t2 := 13) (by decide) (by decide) rfl rfl rfl q699 (htX1_when (84, .getfield 37, 3) (gx_m 41 rfl)) ?_
      refine gx_Jgs (pc := 87) (ci := 12) (kk := 1) (t2 := 6) (by decide) (by decide) rfl rfl rfl q458 (htX1_when (87, .getfield 114, 3) (gx_m 42 rfl)) ?_
      refine gx_iload_n (pc := 90) (n := 2) (i := 2) rfl 2 rfl (htX1_when (90, .iload_n 2, 1) (gx_m 43 rfl)) ?_
      refine gx_Jcv (pc := 91) (gx_hst (as := [gx_i x2]) (b := gx_r 6 (some (1 :: 2 :: x0)))) (gx_runV (as := [gx_i x2]) (ci := 5) (ct_X5_add Y (1 :: 2 :: x0) x2) (by decide) (Or.inl rfl) rfl rfl rfl rfl q961 q642 q643 q105 q644 rfl dd_X5_add (by decide) (by decide) (Nat.le_of_ble_eq_true rfl) (htX1_when (91, .invokevirtual 127, 3) (gx_m 44 rfl))) ?_
      refine gx_aload_n (pc := 94) (n := 0) (i := 0) rfl 0 rfl (htX1_when (94, .aload_n 0, 1) (gx_m 45 rfl)) ?_
      refine gx_Jgs (pc := 95) (ci := 1) (kk := 2) (t2 := 13) (by decide) (by decide) rfl rfl rfl q699 (htX1_when (95, .getfield 37, 3) (gx_m 46 rfl)) ?_
      refine gx_Jgs (pc := 98) (ci := 12) (kk := 1) (t2 := 6) (by decide) (by decide) rfl rfl rfl q458 (htX1_when (98, .getfield 114, 3) (gx_m 47 rfl)) ?_
      refine gx_iload_n (pc := 101) (n := 3) (i := 3) rfl 3 rfl (htX1_when (101, .iload_n 3, 1) (gx_m 48 rfl)) ?_
      refine gx_Jcv (pc := 102) (gx_hst (as := [gx_i x3]) (b := gx_r 6 (some (1 :: 2 :: x0)))) (gx_runV (as := [gx_i x3]) (ci := 5) (ct_X5_add Y (1 :: 2 :: x0) x3) (by decide) (Or.inl rfl) rfl rfl rfl rfl q961 q642 q643 q105 q644 rfl dd_X5_add (by decide) (by decide) (Nat.le_of_ble_eq_true rfl) (htX1_when (102, .invokevirtual 127, 3) (gx_m 49 rfl))) ?_
      exact gx_Jvret (pc := 105) rfl (fun _ => trivial) (fun _ _ => rfl) (htX1_when (105, .return_, 1) (gx_m 50 rfl))
    · refine gx_icmp_ge (pc := 43) (tgt := 50) (by decide) (htX1_when (43, .if_icmp .ge 7, 3) (gx_m 22 rfl)) (fun c3 => ?_) (fun c3 => ?_)
      · refine gx_iconst (pc := 50) (v := 0) (by decide) (htX1_when (50, .iconst 0, 1) (gx_m 25 rfl)) ?_
        exact hj2 (0 : Int32) gx_b0
      · refine gx_iconst (pc := 46) (v := 1) (by decide) (htX1_when (46, .iconst 1, 1) (gx_m 23 rfl)) ?_
        refine gx_goto (pc := 47) (tgt := 51) (by decide) (htX1_when (47, .goto 4, 3) (gx_m 24 rfl)) ?_
        exact hj2 (1 : Int32) gx_b1
  · refine gx_if_eq (pc := 11) (y := 0) (tgt := 27) (by decide) (htX1_when (11, .ifCond .eq 16, 3) (gx_m 7 rfl)) (fun c4 => ?_) (fun c4 => ?_)
    · refine gx_iconst (pc := 27) (v := 0) (by decide) (htX1_when (27, .iconst 0, 1) (gx_m 15 rfl)) ?_
      exact hj1 (0 : Int32) gx_b0
    · refine gx_iload_n (pc := 14) (n := 2) (i := 2) rfl 2 rfl (htX1_when (14, .iload_n 2, 1) (gx_m 8 rfl)) ?_
      refine gx_iconst (pc := 15) (v := 0) (by decide) (htX1_when (15, .iconst 0, 1) (gx_m 9 rfl)) ?_
      refine gx_iconst (pc := 16) (v := 3) (by decide) (htX1_when (16, .iconst 3, 1) (gx_m 10 rfl)) ?_
      refine gx_Jcz (pc := 17) (gx_hstS (as := [gx_i x2, gx_i 0, gx_i 3])) (gx_runS (as := [gx_i x2, gx_i 0, gx_i 3]) (ct_X1_in Y x2 0 3) rfl rfl rfl q756 q757 q101 q758 rfl dd_X1_in (by decide) (by decide) (Nat.le_of_ble_eq_true rfl) (htX1_when (17, .invokestatic 69, 3) (gx_m 11 rfl))) (fun v2 hv2 => ?_)
      refine gx_if_eq (pc := 20) (y := 0) (tgt := 27) (by decide) (htX1_when (20, .ifCond .eq 7, 3) (gx_m 12 rfl)) (fun c5 => ?_) (fun c5 => ?_)
      · refine gx_iconst (pc := 27) (v := 0) (by decide) (htX1_when (27, .iconst 0, 1) (gx_m 15 rfl)) ?_
        exact hj1 (0 : Int32) gx_b0
      · refine gx_iconst (pc := 23) (v := 1) (by decide) (htX1_when (23, .iconst 1, 1) (gx_m 13 rfl)) ?_
        refine gx_goto (pc := 24) (tgt := 28) (by decide) (htX1_when (24, .goto 4, 3) (gx_m 14 rfl)) ?_
        exact hj1 (1 : Int32) gx_b1
theorem ct_X1_branch (Y : gx_Y) (hT : gx_Tr Y) (x0 : gx_Nm) (x1 : Int32) : gx_CtX Y yX1_branch (ws_ yX1_branch cX1_branch 2 (some (.object "CouncilStore$Ints"))) 9 320 [gx_r 2 (some x0), gx_i x1] (gx_Ox (gx_Or Y 6)) (f_X1_branch x0 x1) := by
  refine gx_startX (lv := [(0, gx_r 2 (some x0)), (1, gx_i x1)]) pn_X1 (Nat.le_of_ble_eq_true rfl) rfl ?_
  unfold f_X1_branch
  refine gx_iload_n (pc := 0) (n := 1) (i := 1) rfl 1 rfl (htX1_branch (0, .iload_n 1, 1) (gx_m 0 rfl)) ?_
  refine gx_iconst (pc := 1) (v := 0) (by decide) (htX1_branch (1, .iconst 0, 1) (gx_m 1 rfl)) ?_
  refine gx_iconst (pc := 2) (v := 1) (by decide) (htX1_branch (2, .iconst 1, 1) (gx_m 2 rfl)) ?_
  refine gx_Jcz (pc := 3) (gx_hstS (as := [gx_i x1, gx_i 0, gx_i 1])) (gx_runS (as := [gx_i x1, gx_i 0, gx_i 1]) (ct_X1_in Y x1 0 1) rfl rfl rfl q756 q757 q101 q758 rfl dd_X1_in (by decide) (by decide) (Nat.le_of_ble_eq_true rfl) (htX1_branch (3, .invokestatic 69, 3) (gx_m 3 rfl))) (fun v1 hv1 => ?_)
  refine gx_JX (pc := 6) rfl (fun _ => rfl) (gx_runST (as := [gx_i v1]) (ct_X1_good Y hT v1) rfl rfl rfl q759 q760 q101 q761 rfl dd_X1_good (by decide) (by decide) (Nat.le_of_ble_eq_true rfl) (htX1_branch (6, .invokestatic 73, 3) (gx_m 4 rfl))) ?_
  refine gx_Jcv (pc := 6) (gx_hstS (as := [gx_i v1])) (gx_runS (as := [gx_i v1]) (gx_CtX.un gx_Ov_r (ct_X1_good Y hT v1)) rfl rfl rfl q759 q760 q101 q761 rfl dd_X1_good (by decide) (by decide) (Nat.le_of_ble_eq_true rfl) (htX1_branch (6, .invokestatic 73, 3) (gx_m 4 rfl))) ?_
  refine gx_iload_n (pc := 9) (n := 1) (i := 1) rfl 1 rfl (htX1_branch (9, .iload_n 1, 1) (gx_m 5 rfl)) ?_
  refine gx_iconst (pc := 10) (v := 1) (by decide) (htX1_branch (10, .iconst 1, 1) (gx_m 6 rfl)) ?_
  refine gx_Jjoin (pcJ := 31) (lvJ := fun (j2 : gx_Nm) => []) (stJ := fun (j2 : gx_Nm) => [gx_r 6 (some j2)]) (fun _ => True) (fun j2 hj2 => ?_) (fun kk1 hj1 => ?_)
  · exact gx_Jaret (pc := 31) rfl (Or.inl ⟨_, rfl⟩) (fun _ h => h) (fun _ _ => rfl) (htX1_branch (31, .areturn, 1) (gx_m 15 rfl))
  · refine gx_icmp_ne (pc := 11) (tgt := 24) (by decide) (htX1_branch (11, .if_icmp .ne 13, 3) (gx_m 7 rfl)) (fun c2 => ?_) (fun c2 => ?_)
    · refine gx_aload_n (pc := 14) (n := 0) (i := 0) rfl 0 rfl (htX1_branch (14, .aload_n 0, 1) (gx_m 8 rfl)) ?_
      refine gx_Jgs (pc := 15) (ci := 1) (kk := 2) (t2 := 13) (by decide) (by decide) rfl rfl rfl q699 (htX1_branch (15, .getfield 37, 3) (gx_m 9 rfl)) ?_
      refine gx_Jgs (pc := 18) (ci := 12) (kk := 2) (t2 := 6) (by decide) (by decide) rfl rfl rfl q461 (htX1_branch (18, .getfield 130, 3) (gx_m 10 rfl)) ?_
      refine gx_goto (pc := 21) (tgt := 31) (by decide) (htX1_branch (21, .goto 10, 3) (gx_m 11 rfl)) ?_
      refine gx_Jw (lv := []) [] rfl ?_
      exact hj1 ((2 :: 2 :: x0) : gx_Nm) trivial
    · refine gx_aload_n (pc := 24) (n := 0) (i := 0) rfl 0 rfl (htX1_branch (24, .aload_n 0, 1) (gx_m 12 rfl)) ?_
      refine gx_Jgs (pc := 25) (ci := 1) (kk := 2) (t2 := 13) (by decide) (by decide) rfl rfl rfl q699 (htX1_branch (25, .getfield 37, 3) (gx_m 13 rfl)) ?_
      refine gx_Jgs (pc := 28) (ci := 12) (kk := 3) (t2 := 6) (by decide) (by decide) rfl rfl rfl q464 (htX1_branch (28, .getfield 133, 3) (gx_m 14 rfl)) ?_
      refine gx_Jw (lv := []) [] rfl ?_
      exact hj1 ((3 :: 2 :: x0) : gx_Nm) trivial
theorem ct_X1_fits (Y : gx_Y) (hT : gx_Tr Y) (x0 : gx_Nm) : gx_CtX Y yX1_fits (ws_ yX1_fits cX1_fits 1 none) 9 320 [gx_r 6 (some x0)] (gx_Ox gx_Ov) (f_X1_fits x0) := by
  refine gx_startX (lv := [(0, gx_r 6 (some x0))]) pn_X1 (Nat.le_of_ble_eq_true rfl) rfl ?_
  unfold f_X1_fits
  refine gx_aload_n (pc := 0) (n := 0) (i := 0) rfl 0 rfl (htX1_fits (0, .aload_n 0, 1) (gx_m 0 rfl)) ?_
  refine gx_Jgi (pc := 1) (ci := 5) (kk := 1) (by decide) (Or.inl rfl) (by decide) (by decide) q183 (htX1_fits (1, .getfield 118, 3) (gx_m 1 rfl)) (fun v1 hv1 => ?_)
  refine gx_bipush (pc := 4) (v := 36) (by decide) (htX1_fits (4, .bipush 36, 2) (gx_m 2 rfl)) ?_
  refine gx_Jjoin (pcJ := 14) (lvJ := fun (j2 : Int32) => []) (stJ := fun (j2 : Int32) => [gx_i j2]) (fun (j2 : Int32) => j2 &&& 1 = j2) (fun j2 hj2 => ?_) (fun kk1 hj1 => ?_)
  · refine gx_JX (pc := 14) rfl (fun _ => rfl) (gx_runST (as := [gx_i j2]) (ct_X1_room Y hT j2) rfl rfl rfl q909 q910 q101 q911 rfl dd_X1_room (by decide) (by decide) (Nat.le_of_ble_eq_true rfl) (htX1_fits (14, .invokestatic 100, 3) (gx_m 7 rfl))) ?_
    refine gx_Jcv (pc := 14) (gx_hstS (as := [gx_i j2])) (gx_runS (as := [gx_i j2]) (gx_CtX.un gx_Ov_r (ct_X1_room Y hT j2)) rfl rfl rfl q909 q910 q101 q911 rfl dd_X1_room (by decide) (by decide) (Nat.le_of_ble_eq_true rfl) (htX1_fits (14, .invokestatic 100, 3) (gx_m 7 rfl))) ?_
    exact gx_Jvret (pc := 17) rfl (fun _ => trivial) (fun _ _ => rfl) (htX1_fits (17, .return_, 1) (gx_m 8 rfl))
  · refine gx_icmp_ge (pc := 6) (tgt := 13) (by decide) (htX1_fits (6, .if_icmp .ge 7, 3) (gx_m 3 rfl)) (fun c2 => ?_) (fun c2 => ?_)
    · refine gx_iconst (pc := 13) (v := 0) (by decide) (htX1_fits (13, .iconst 0, 1) (gx_m 6 rfl)) ?_
      refine gx_Jw (lv := []) [] rfl ?_
      exact hj1 (0 : Int32) gx_b0
    · refine gx_iconst (pc := 9) (v := 1) (by decide) (htX1_fits (9, .iconst 1, 1) (gx_m 4 rfl)) ?_
      refine gx_goto (pc := 10) (tgt := 14) (by decide) (htX1_fits (10, .goto 4, 3) (gx_m 5 rfl)) ?_
      refine gx_Jw (lv := []) [] rfl ?_
      exact hj1 (1 : Int32) gx_b1
theorem ct_X1_put (Y : gx_Y) (hT : gx_Tr Y) (x0 : gx_Nm) (x1 : Int32) (x2 : Int32) : gx_CtX Y yX1_put (ws_ yX1_put cX1_put 4 none) 10 342 [gx_r 2 (some x0), gx_i x1, gx_i x2] (gx_Ox gx_Ov) (f_X1_put x0 x1 x2) := by
  refine gx_startX (lv := [(0, gx_r 2 (some x0)), (1, gx_i x1), (2, gx_i x2)]) pn_X1 (Nat.le_of_ble_eq_true rfl) rfl ?_
  unfold f_X1_put
  refine gx_aload_n (pc := 0) (n := 0) (i := 0) rfl 0 rfl (htX1_put (0, .aload_n 0, 1) (gx_m 0 rfl)) ?_
  refine gx_iconst (pc := 1) (v := 2) (by decide) (htX1_put (1, .iconst 2, 1) (gx_m 1 rfl)) ?_
  refine gx_JX (pc := 2) rfl (fun _ => rfl) (gx_runVT (as := [gx_i 2]) (ci := 1) (ct_X1_take Y hT x0 2) (by decide) (Or.inl rfl) rfl rfl rfl rfl q951 q953 qs4 q101 q954 rfl dd_X1_take (by decide) (by decide) (Nat.le_of_ble_eq_true rfl) (htX1_put (2, .invokevirtual 111, 3) (gx_m 2 rfl))) ?_
  refine gx_Jcv (pc := 2) (gx_hst (as := [gx_i 2]) (b := gx_r 2 (some x0))) (gx_runV (as := [gx_i 2]) (ci := 1) (gx_CtX.un gx_Ov_r (ct_X1_take Y hT x0 2)) (by decide) (Or.inl rfl) rfl rfl rfl rfl q951 q953 qs4 q101 q954 rfl dd_X1_take (by decide) (by decide) (Nat.le_of_ble_eq_true rfl) (htX1_put (2, .invokevirtual 111, 3) (gx_m 2 rfl))) ?_
  refine gx_aload_n (pc := 5) (n := 0) (i := 0) rfl 0 rfl (htX1_put (5, .aload_n 0, 1) (gx_m 3 rfl)) ?_
  refine gx_iload_n (pc := 6) (n := 1) (i := 1) rfl 1 rfl (htX1_put (6, .iload_n 1, 1) (gx_m 4 rfl)) ?_
  refine gx_JX (pc := 7) rfl (fun _ => rfl) (gx_runVT (as := [gx_i x1]) (ci := 1) (ct_X1_branch Y hT x0 x1) (by decide) (Or.inl rfl) rfl rfl rfl rfl q969 q971 qs5 q101 q972 rfl dd_X1_branch (by decide) (by decide) (Nat.le_of_ble_eq_true rfl) (htX1_put (7, .invokevirtual 136, 3) (gx_m 5 rfl))) ?_
  refine gx_Jcr (pc := 7) (t2 := 6) (gx_hst (as := [gx_i x1]) (b := gx_r 2 (some x0))) (gx_runV (as := [gx_i x1]) (ci := 1) (gx_CtX.un gx_Or_r (ct_X1_branch Y hT x0 x1)) (by decide) (Or.inl rfl) rfl rfl rfl rfl q969 q971 qs5 q101 q972 rfl dd_X1_branch (by decide) (by decide) (Nat.le_of_ble_eq_true rfl) (htX1_put (7, .invokevirtual 136, 3) (gx_m 5 rfl))) (fun v1 => ?_)
  refine gx_astore_n (pc := 10) (n := 3) (i := 3) (lv' := [(3, gx_r 6 (some v1)), (0, gx_r 2 (some x0)), (1, gx_i x1), (2, gx_i x2)]) rfl (by decide) rfl (htX1_put (10, .astore_n 3, 1) (gx_m 6 rfl)) ?_
  refine gx_iload_n (pc := 11) (n := 2) (i := 2) rfl 3 rfl (htX1_put (11, .iload_n 2, 1) (gx_m 7 rfl)) ?_
  refine gx_iconst (pc := 12) (v := 0) (by decide) (htX1_put (12, .iconst 0, 1) (gx_m 8 rfl)) ?_
  refine gx_bipush (pc := 13) (v := 99) (by decide) (htX1_put (13, .bipush 99, 2) (gx_m 9 rfl)) ?_
  refine gx_Jcz (pc := 15) (gx_hstS (as := [gx_i x2, gx_i 0, gx_i 99])) (gx_runS (as := [gx_i x2, gx_i 0, gx_i 99]) (ct_X1_in Y x2 0 99) rfl rfl rfl q756 q757 q101 q758 rfl dd_X1_in (by decide) (by decide) (Nat.le_of_ble_eq_true rfl) (htX1_put (15, .invokestatic 69, 3) (gx_m 10 rfl))) (fun v2 hv2 => ?_)
  refine gx_JX (pc := 18) rfl (fun _ => rfl) (gx_runST (as := [gx_i v2]) (ct_X1_good Y hT v2) rfl rfl rfl q759 q760 q101 q761 rfl dd_X1_good (by decide) (by decide) (Nat.le_of_ble_eq_true rfl) (htX1_put (18, .invokestatic 73, 3) (gx_m 11 rfl))) ?_
  refine gx_Jcv (pc := 18) (gx_hstS (as := [gx_i v2])) (gx_runS (as := [gx_i v2]) (gx_CtX.un gx_Ov_r (ct_X1_good Y hT v2)) rfl rfl rfl q759 q760 q101 q761 rfl dd_X1_good (by decide) (by decide) (Nat.le_of_ble_eq_true rfl) (htX1_put (18, .invokestatic 73, 3) (gx_m 11 rfl))) ?_
  refine gx_aload_n (pc := 21) (n := 3) (i := 3) rfl 0 rfl (htX1_put (21, .aload_n 3, 1) (gx_m 12 rfl)) ?_
  refine gx_JX (pc := 22) rfl (fun _ => rfl) (gx_runST (as := [gx_r 6 (some v1)]) (ct_X1_fits Y hT v1) rfl rfl rfl q973 q974 q101 q975 rfl dd_X1_fits (by decide) (by decide) (Nat.le_of_ble_eq_true rfl) (htX1_put (22, .invokestatic 140, 3) (gx_m 13 rfl))) ?_
  refine gx_Jcv (pc := 22) (gx_hstS (as := [gx_r 6 (some v1)])) (gx_runS (as := [gx_r 6 (some v1)]) (gx_CtX.un gx_Ov_r (ct_X1_fits Y hT v1)) rfl rfl rfl q973 q974 q101 q975 rfl dd_X1_fits (by decide) (by decide) (Nat.le_of_ble_eq_true rfl) (htX1_put (22, .invokestatic 140, 3) (gx_m 13 rfl))) ?_
  refine gx_aload_n (pc := 25) (n := 0) (i := 0) rfl 1 rfl (htX1_put (25, .aload_n 0, 1) (gx_m 14 rfl)) ?_
  refine gx_Jgs (pc := 26) (ci := 1) (kk := 2) (t2 := 13) (by decide) (by decide) rfl rfl rfl q699 (htX1_put (26, .getfield 37, 3) (gx_m 15 rfl)) ?_
  refine gx_aload_n (pc := 29) (n := 3) (i := 3) rfl 0 rfl (htX1_put (29, .aload_n 3, 1) (gx_m 16 rfl)) ?_
  refine gx_aload_n (pc := 30) (n := 0) (i := 0) rfl 1 rfl (htX1_put (30, .aload_n 0, 1) (gx_m 17 rfl)) ?_
  refine gx_Jgr (pc := 31) (ci := 1) (kk := 4) (t2 := 5) (by decide) (Or.inl rfl) (by decide) rfl rfl q701 (htX1_put (31, .getfield 50, 3) (gx_m 18 rfl)) (fun v3 => ?_)
  refine gx_Jcv (pc := 34) (gx_hst (as := [gx_r 6 (some v1), gx_r 5 (some v3)]) (b := gx_r 13 (some (2 :: x0)))) (gx_runV (as := [gx_r 6 (some v1), gx_r 5 (some v3)]) (ci := 12) (ct_X12_letters Y (2 :: x0) v1 v3) (by decide) (Or.inl rfl) rfl rfl rfl rfl q955 q956 q957 q112 q958 rfl dd_X12_letters (by decide) (by decide) (Nat.le_of_ble_eq_true rfl) (htX1_put (34, .invokevirtual 123, 3) (gx_m 19 rfl))) ?_
  refine gx_aload_n (pc := 37) (n := 0) (i := 0) rfl 1 rfl (htX1_put (37, .aload_n 0, 1) (gx_m 20 rfl)) ?_
  refine gx_Jgs (pc := 38) (ci := 1) (kk := 2) (t2 := 13) (by decide) (by decide) rfl rfl rfl q699 (htX1_put (38, .getfield 37, 3) (gx_m 21 rfl)) ?_
  refine gx_aload_n (pc := 41) (n := 3) (i := 3) rfl 0 rfl (htX1_put (41, .aload_n 3, 1) (gx_m 22 rfl)) ?_
  refine gx_aload_n (pc := 42) (n := 0) (i := 0) rfl 1 rfl (htX1_put (42, .aload_n 0, 1) (gx_m 23 rfl)) ?_
  refine gx_Jgr (pc := 43) (ci := 1) (kk := 5) (t2 := 5) (by decide) (Or.inl rfl) (by decide) rfl rfl q702 (htX1_put (43, .getfield 53, 3) (gx_m 24 rfl)) (fun v4 => ?_)
  refine gx_Jcv (pc := 46) (gx_hst (as := [gx_r 6 (some v1), gx_r 5 (some v4)]) (b := gx_r 13 (some (2 :: x0)))) (gx_runV (as := [gx_r 6 (some v1), gx_r 5 (some v4)]) (ci := 12) (ct_X12_letters Y (2 :: x0) v1 v4) (by decide) (Or.inl rfl) rfl rfl rfl rfl q955 q956 q957 q112 q958 rfl dd_X12_letters (by decide) (by decide) (Nat.le_of_ble_eq_true rfl) (htX1_put (46, .invokevirtual 123, 3) (gx_m 25 rfl))) ?_
  refine gx_aload_n (pc := 49) (n := 0) (i := 0) rfl 1 rfl (htX1_put (49, .aload_n 0, 1) (gx_m 26 rfl)) ?_
  refine gx_aload_n (pc := 50) (n := 3) (i := 3) rfl 0 rfl (htX1_put (50, .aload_n 3, 1) (gx_m 27 rfl)) ?_
  refine gx_iconst (pc := 51) (v := 0) (by decide) (htX1_put (51, .iconst 0, 1) (gx_m 28 rfl)) ?_
  refine gx_iload_n (pc := 52) (n := 2) (i := 2) rfl 3 rfl (htX1_put (52, .iload_n 2, 1) (gx_m 29 rfl)) ?_
  refine gx_Jcv (pc := 53) (gx_hst (as := [gx_r 6 (some v1), gx_i 0, gx_i x2]) (b := gx_r 2 (some x0))) (gx_runV (as := [gx_r 6 (some v1), gx_i 0, gx_i x2]) (ci := 1) (ct_X1_step Y x0 v1 0 x2) (by decide) (Or.inl rfl) rfl rfl rfl rfl q976 q978 qs6 q101 q979 rfl dd_X1_step (by decide) (by decide) (Nat.le_of_ble_eq_true rfl) (htX1_put (53, .invokevirtual 144, 3) (gx_m 30 rfl))) ?_
  exact gx_Jvret (pc := 56) rfl (fun _ => trivial) (fun _ _ => rfl) (htX1_put (56, .return_, 1) (gx_m 31 rfl))
theorem ct_X1_erase (Y : gx_Y) (hT : gx_Tr Y) (x0 : gx_Nm) (x1 : Int32) : gx_CtX Y yX1_erase (ws_ yX1_erase cX1_erase 3 none) 10 342 [gx_r 2 (some x0), gx_i x1] (gx_Ox gx_Ov) (f_X1_erase x0 x1) := by
  refine gx_startX (lv := [(0, gx_r 2 (some x0)), (1, gx_i x1)]) pn_X1 (Nat.le_of_ble_eq_true rfl) rfl ?_
  unfold f_X1_erase
  refine gx_aload_n (pc := 0) (n := 0) (i := 0) rfl 0 rfl (htX1_erase (0, .aload_n 0, 1) (gx_m 0 rfl)) ?_
  refine gx_iconst (pc := 1) (v := 2) (by decide) (htX1_erase (1, .iconst 2, 1) (gx_m 1 rfl)) ?_
  refine gx_JX (pc := 2) rfl (fun _ => rfl) (gx_runVT (as := [gx_i 2]) (ci := 1) (ct_X1_take Y hT x0 2) (by decide) (Or.inl rfl) rfl rfl rfl rfl q951 q953 qs4 q101 q954 rfl dd_X1_take (by decide) (by decide) (Nat.le_of_ble_eq_true rfl) (htX1_erase (2, .invokevirtual 111, 3) (gx_m 2 rfl))) ?_
  refine gx_Jcv (pc := 2) (gx_hst (as := [gx_i 2]) (b := gx_r 2 (some x0))) (gx_runV (as := [gx_i 2]) (ci := 1) (gx_CtX.un gx_Ov_r (ct_X1_take Y hT x0 2)) (by decide) (Or.inl rfl) rfl rfl rfl rfl q951 q953 qs4 q101 q954 rfl dd_X1_take (by decide) (by decide) (Nat.le_of_ble_eq_true rfl) (htX1_erase (2, .invokevirtual 111, 3) (gx_m 2 rfl))) ?_
  refine gx_aload_n (pc := 5) (n := 0) (i := 0) rfl 0 rfl (htX1_erase (5, .aload_n 0, 1) (gx_m 3 rfl)) ?_
  refine gx_iload_n (pc := 6) (n := 1) (i := 1) rfl 1 rfl (htX1_erase (6, .iload_n 1, 1) (gx_m 4 rfl)) ?_
  refine gx_JX (pc := 7) rfl (fun _ => rfl) (gx_runVT (as := [gx_i x1]) (ci := 1) (ct_X1_branch Y hT x0 x1) (by decide) (Or.inl rfl) rfl rfl rfl rfl q969 q971 qs5 q101 q972 rfl dd_X1_branch (by decide) (by decide) (Nat.le_of_ble_eq_true rfl) (htX1_erase (7, .invokevirtual 136, 3) (gx_m 5 rfl))) ?_
  refine gx_Jcr (pc := 7) (t2 := 6) (gx_hst (as := [gx_i x1]) (b := gx_r 2 (some x0))) (gx_runV (as := [gx_i x1]) (ci := 1) (gx_CtX.un gx_Or_r (ct_X1_branch Y hT x0 x1)) (by decide) (Or.inl rfl) rfl rfl rfl rfl q969 q971 qs5 q101 q972 rfl dd_X1_branch (by decide) (by decide) (Nat.le_of_ble_eq_true rfl) (htX1_erase (7, .invokevirtual 136, 3) (gx_m 5 rfl))) (fun v1 => ?_)
  refine gx_astore_n (pc := 10) (n := 2) (i := 2) (lv' := [(2, gx_r 6 (some v1)), (0, gx_r 2 (some x0)), (1, gx_i x1)]) rfl (by decide) rfl (htX1_erase (10, .astore_n 2, 1) (gx_m 6 rfl)) ?_
  refine gx_aload_n (pc := 11) (n := 2) (i := 2) rfl 0 rfl (htX1_erase (11, .aload_n 2, 1) (gx_m 7 rfl)) ?_
  refine gx_JX (pc := 12) rfl (fun _ => rfl) (gx_runST (as := [gx_r 6 (some v1)]) (ct_X1_fits Y hT v1) rfl rfl rfl q973 q974 q101 q975 rfl dd_X1_fits (by decide) (by decide) (Nat.le_of_ble_eq_true rfl) (htX1_erase (12, .invokestatic 140, 3) (gx_m 8 rfl))) ?_
  refine gx_Jcv (pc := 12) (gx_hstS (as := [gx_r 6 (some v1)])) (gx_runS (as := [gx_r 6 (some v1)]) (gx_CtX.un gx_Ov_r (ct_X1_fits Y hT v1)) rfl rfl rfl q973 q974 q101 q975 rfl dd_X1_fits (by decide) (by decide) (Nat.le_of_ble_eq_true rfl) (htX1_erase (12, .invokestatic 140, 3) (gx_m 8 rfl))) ?_
  refine gx_aload_n (pc := 15) (n := 0) (i := 0) rfl 1 rfl (htX1_erase (15, .aload_n 0, 1) (gx_m 9 rfl)) ?_
  refine gx_Jgs (pc := 16) (ci := 1) (kk := 2) (t2 := 13) (by decide) (by decide) rfl rfl rfl q699 (htX1_erase (16, .getfield 37, 3) (gx_m 10 rfl)) ?_
  refine gx_aload_n (pc := 19) (n := 2) (i := 2) rfl 0 rfl (htX1_erase (19, .aload_n 2, 1) (gx_m 11 rfl)) ?_
  refine gx_aload_n (pc := 20) (n := 0) (i := 0) rfl 1 rfl (htX1_erase (20, .aload_n 0, 1) (gx_m 12 rfl)) ?_
  refine gx_Jgr (pc := 21) (ci := 1) (kk := 4) (t2 := 5) (by decide) (Or.inl rfl) (by decide) rfl rfl q701 (htX1_erase (21, .getfield 50, 3) (gx_m 13 rfl)) (fun v2 => ?_)
  refine gx_Jcv (pc := 24) (gx_hst (as := [gx_r 6 (some v1), gx_r 5 (some v2)]) (b := gx_r 13 (some (2 :: x0)))) (gx_runV (as := [gx_r 6 (some v1), gx_r 5 (some v2)]) (ci := 12) (ct_X12_letters Y (2 :: x0) v1 v2) (by decide) (Or.inl rfl) rfl rfl rfl rfl q955 q956 q957 q112 q958 rfl dd_X12_letters (by decide) (by decide) (Nat.le_of_ble_eq_true rfl) (htX1_erase (24, .invokevirtual 123, 3) (gx_m 14 rfl))) ?_
  refine gx_aload_n (pc := 27) (n := 0) (i := 0) rfl 1 rfl (htX1_erase (27, .aload_n 0, 1) (gx_m 15 rfl)) ?_
  refine gx_Jgs (pc := 28) (ci := 1) (kk := 2) (t2 := 13) (by decide) (by decide) rfl rfl rfl q699 (htX1_erase (28, .getfield 37, 3) (gx_m 16 rfl)) ?_
  refine gx_aload_n (pc := 31) (n := 2) (i := 2) rfl 0 rfl (htX1_erase (31, .aload_n 2, 1) (gx_m 17 rfl)) ?_
  refine gx_aload_n (pc := 32) (n := 0) (i := 0) rfl 1 rfl (htX1_erase (32, .aload_n 0, 1) (gx_m 18 rfl)) ?_
  refine gx_Jgr (pc := 33) (ci := 1) (kk := 5) (t2 := 5) (by decide) (Or.inl rfl) (by decide) rfl rfl q702 (htX1_erase (33, .getfield 53, 3) (gx_m 19 rfl)) (fun v3 => ?_)
  refine gx_Jcv (pc := 36) (gx_hst (as := [gx_r 6 (some v1), gx_r 5 (some v3)]) (b := gx_r 13 (some (2 :: x0)))) (gx_runV (as := [gx_r 6 (some v1), gx_r 5 (some v3)]) (ci := 12) (ct_X12_letters Y (2 :: x0) v1 v3) (by decide) (Or.inl rfl) rfl rfl rfl rfl q955 q956 q957 q112 q958 rfl dd_X12_letters (by decide) (by decide) (Nat.le_of_ble_eq_true rfl) (htX1_erase (36, .invokevirtual 123, 3) (gx_m 20 rfl))) ?_
  refine gx_aload_n (pc := 39) (n := 0) (i := 0) rfl 1 rfl (htX1_erase (39, .aload_n 0, 1) (gx_m 21 rfl)) ?_
  refine gx_aload_n (pc := 40) (n := 2) (i := 2) rfl 0 rfl (htX1_erase (40, .aload_n 2, 1) (gx_m 22 rfl)) ?_
  refine gx_iconst (pc := 41) (v := 1) (by decide) (htX1_erase (41, .iconst 1, 1) (gx_m 23 rfl)) ?_
  refine gx_iconst (pc := 42) (v := 0) (by decide) (htX1_erase (42, .iconst 0, 1) (gx_m 24 rfl)) ?_
  refine gx_Jcv (pc := 43) (gx_hst (as := [gx_r 6 (some v1), gx_i 1, gx_i 0]) (b := gx_r 2 (some x0))) (gx_runV (as := [gx_r 6 (some v1), gx_i 1, gx_i 0]) (ci := 1) (ct_X1_step Y x0 v1 1 0) (by decide) (Or.inl rfl) rfl rfl rfl rfl q976 q978 qs6 q101 q979 rfl dd_X1_step (by decide) (by decide) (Nat.le_of_ble_eq_true rfl) (htX1_erase (43, .invokevirtual 144, 3) (gx_m 25 rfl))) ?_
  exact gx_Jvret (pc := 46) rfl (fun _ => trivial) (fun _ _ => rfl) (htX1_erase (46, .return_, 1) (gx_m 26 rfl))
theorem ct_X1_lease (Y : gx_Y) (hT : gx_Tr Y) (x0 : gx_Nm) (x1 : Int32) (x2 : Int32) (x3 : Int32) : gx_CtX Y yX1_lease (ws_ yX1_lease cX1_lease 6 none) 10 342 [gx_r 2 (some x0), gx_i x1, gx_i x2, gx_i x3] (gx_Ox gx_Ov) (f_X1_lease x0 x1 x2 x3) := by
  refine gx_startX (lv := [(0, gx_r 2 (some x0)), (1, gx_i x1), (2, gx_i x2), (3, gx_i x3)]) pn_X1 (Nat.le_of_ble_eq_true rfl) rfl ?_
  unfold f_X1_lease
  refine gx_aload_n (pc := 0) (n := 0) (i := 0) rfl 0 rfl (htX1_lease (0, .aload_n 0, 1) (gx_m 0 rfl)) ?_
  refine gx_iconst (pc := 1) (v := 0) (by decide) (htX1_lease (1, .iconst 0, 1) (gx_m 1 rfl)) ?_
  refine gx_JX (pc := 2) rfl (fun _ => rfl) (gx_runVT (as := [gx_i 0]) (ci := 1) (ct_X1_take Y hT x0 0) (by decide) (Or.inl rfl) rfl rfl rfl rfl q951 q953 qs4 q101 q954 rfl dd_X1_take (by decide) (by decide) (Nat.le_of_ble_eq_true rfl) (htX1_lease (2, .invokevirtual 111, 3) (gx_m 2 rfl))) ?_
  refine gx_Jcv (pc := 2) (gx_hst (as := [gx_i 0]) (b := gx_r 2 (some x0))) (gx_runV (as := [gx_i 0]) (ci := 1) (gx_CtX.un gx_Ov_r (ct_X1_take Y hT x0 0)) (by decide) (Or.inl rfl) rfl rfl rfl rfl q951 q953 qs4 q101 q954 rfl dd_X1_take (by decide) (by decide) (Nat.le_of_ble_eq_true rfl) (htX1_lease (2, .invokevirtual 111, 3) (gx_m 2 rfl))) ?_
  refine gx_aload_n (pc := 5) (n := 0) (i := 0) rfl 0 rfl (htX1_lease (5, .aload_n 0, 1) (gx_m 3 rfl)) ?_
  refine gx_iload_n (pc := 6) (n := 1) (i := 1) rfl 1 rfl (htX1_lease (6, .iload_n 1, 1) (gx_m 4 rfl)) ?_
  refine gx_JX (pc := 7) rfl (fun _ => rfl) (gx_runVT (as := [gx_i x1]) (ci := 1) (ct_X1_branch Y hT x0 x1) (by decide) (Or.inl rfl) rfl rfl rfl rfl q969 q971 qs5 q101 q972 rfl dd_X1_branch (by decide) (by decide) (Nat.le_of_ble_eq_true rfl) (htX1_lease (7, .invokevirtual 136, 3) (gx_m 5 rfl))) ?_
  refine gx_Jcr (pc := 7) (t2 := 6) (gx_hst (as := [gx_i x1]) (b := gx_r 2 (some x0))) (gx_runV (as := [gx_i x1]) (ci := 1) (gx_CtX.un gx_Or_r (ct_X1_branch Y hT x0 x1)) (by decide) (Or.inl rfl) rfl rfl rfl rfl q969 q971 qs5 q101 q972 rfl dd_X1_branch (by decide) (by decide) (Nat.le_of_ble_eq_true rfl) (htX1_lease (7, .invokevirtual 136, 3) (gx_m 5 rfl))) (fun v1 => ?_)
  refine gx_astore (pc := 10) (i := 4) (lv' := [(4, gx_r 6 (some v1)), (0, gx_r 2 (some x0)), (1, gx_i x1), (2, gx_i x2), (3, gx_i x3)]) (by decide) rfl (htX1_lease (10, .astore 4, 2) (gx_m 6 rfl)) ?_
  refine gx_iload_n (pc := 12) (n := 2) (i := 2) rfl 3 rfl (htX1_lease (12, .iload_n 2, 1) (gx_m 7 rfl)) ?_
  refine gx_iconst (pc := 13) (v := 1) (by decide) (htX1_lease (13, .iconst 1, 1) (gx_m 8 rfl)) ?_
  refine gx_bipush (pc := 14) (v := 99) (by decide) (htX1_lease (14, .bipush 99, 2) (gx_m 9 rfl)) ?_
  refine gx_Jcz (pc := 16) (gx_hstS (as := [gx_i x2, gx_i 1, gx_i 99])) (gx_runS (as := [gx_i x2, gx_i 1, gx_i 99]) (ct_X1_in Y x2 1 99) rfl rfl rfl q756 q757 q101 q758 rfl dd_X1_in (by decide) (by decide) (Nat.le_of_ble_eq_true rfl) (htX1_lease (16, .invokestatic 69, 3) (gx_m 10 rfl))) (fun v2 hv2 => ?_)
  refine gx_JX (pc := 19) rfl (fun _ => rfl) (gx_runST (as := [gx_i v2]) (ct_X1_good Y hT v2) rfl rfl rfl q759 q760 q101 q761 rfl dd_X1_good (by decide) (by decide) (Nat.le_of_ble_eq_true rfl) (htX1_lease (19, .invokestatic 73, 3) (gx_m 11 rfl))) ?_
  refine gx_Jcv (pc := 19) (gx_hstS (as := [gx_i v2])) (gx_runS (as := [gx_i v2]) (gx_CtX.un gx_Ov_r (ct_X1_good Y hT v2)) rfl rfl rfl q759 q760 q101 q761 rfl dd_X1_good (by decide) (by decide) (Nat.le_of_ble_eq_true rfl) (htX1_lease (19, .invokestatic 73, 3) (gx_m 11 rfl))) ?_
  refine gx_aload (pc := 22) (i := 4) 0 rfl (htX1_lease (22, .aload 4, 2) (gx_m 12 rfl)) ?_
  refine gx_JX (pc := 24) rfl (fun _ => rfl) (gx_runST (as := [gx_r 6 (some v1)]) (ct_X1_fits Y hT v1) rfl rfl rfl q973 q974 q101 q975 rfl dd_X1_fits (by decide) (by decide) (Nat.le_of_ble_eq_true rfl) (htX1_lease (24, .invokestatic 140, 3) (gx_m 13 rfl))) ?_
  refine gx_Jcv (pc := 24) (gx_hstS (as := [gx_r 6 (some v1)])) (gx_runS (as := [gx_r 6 (some v1)]) (gx_CtX.un gx_Ov_r (ct_X1_fits Y hT v1)) rfl rfl rfl q973 q974 q101 q975 rfl dd_X1_fits (by decide) (by decide) (Nat.le_of_ble_eq_true rfl) (htX1_lease (24, .invokestatic 140, 3) (gx_m 13 rfl))) ?_
  refine gx_iconst (pc := 27) (v := 0) (by decide) (htX1_lease (27, .iconst 0, 1) (gx_m 14 rfl)) ?_
  refine gx_istore (pc := 28) (i := 5) (lv' := [(5, gx_i 0), (4, gx_r 6 (some v1)), (0, gx_r 2 (some x0)), (1, gx_i x1), (2, gx_i x2), (3, gx_i x3)]) (by decide) rfl (htX1_lease (28, .istore 5, 2) (gx_m 15 rfl)) ?_
  refine gx_Jjoin (pcJ := 48) (lvJ := fun (j_1 : Unit) => [(0, gx_r 2 (some x0)), (2, gx_i x2), (3, gx_i x3), (4, gx_r 6 (some v1))]) (stJ := fun (j_1 : Unit) => []) (fun _ => True) (fun j_1 _ => ?_) (fun kk1 hj1 => ?_)
  · refine gx_aload_n (pc := 48) (n := 0) (i := 0) rfl 0 rfl (htX1_lease (48, .aload_n 0, 1) (gx_m 24 rfl)) ?_
    refine gx_aload (pc := 49) (i := 4) 3 rfl (htX1_lease (49, .aload 4, 2) (gx_m 25 rfl)) ?_
    refine gx_iconst (pc := 51) (v := 2) (by decide) (htX1_lease (51, .iconst 2, 1) (gx_m 26 rfl)) ?_
    refine gx_iload_n (pc := 52) (n := 3) (i := 3) rfl 2 rfl (htX1_lease (52, .iload_n 3, 1) (gx_m 27 rfl)) ?_
    refine gx_Jjoin (pcJ := 61) (lvJ := fun (j4 : Int32) => [(2, gx_i x2)]) (stJ := fun (j4 : Int32) => [gx_i j4, gx_i 2, gx_r 6 (some v1), gx_r 2 (some x0)]) (fun (j4 : Int32) => j4 &&& 1 = j4) (fun j4 hj4 => ?_) (fun kk2 hj2 => ?_)
    · refine gx_iadd (pc := 61) (htX1_lease (61, .iadd, 1) (gx_m 32 rfl)) ?_
      refine gx_iload_n (pc := 62) (n := 2) (i := 2) rfl 0 rfl (htX1_lease (62, .iload_n 2, 1) (gx_m 33 rfl)) ?_
      refine gx_Jcv (pc := 63) (gx_hst (as := [gx_r 6 (some v1), gx_i (2 + j4), gx_i x2]) (b := gx_r 2 (some x0))) (gx_runV (as := [gx_r 6 (some v1), gx_i (2 + j4), gx_i x2]) (ci := 1) (ct_X1_step Y x0 v1 (2 + j4) x2) (by decide) (Or.inl rfl) rfl rfl rfl rfl q976 q978 qs6 q101 q979 rfl dd_X1_step (by decide) (by decide) (Nat.le_of_ble_eq_true rfl) (htX1_lease (63, .invokevirtual 144, 3) (gx_m 34 rfl))) ?_
      exact gx_Jvret (pc := 66) rfl (fun _ => trivial) (fun _ _ => rfl) (htX1_lease (66, .return_, 1) (gx_m 35 rfl))
    · refine gx_if_eq (pc := 53) (y := 0) (tgt := 60) (by decide) (htX1_lease (53, .ifCond .eq 7, 3) (gx_m 28 rfl)) (fun c3 => ?_) (fun c3 => ?_)
      · refine gx_iconst (pc := 60) (v := 0) (by decide) (htX1_lease (60, .iconst 0, 1) (gx_m 31 rfl)) ?_
        refine gx_Jw (lv := [(2, gx_i x2)]) [1] rfl ?_
        exact hj2 (0 : Int32) gx_b0
      · refine gx_iconst (pc := 56) (v := 1) (by decide) (htX1_lease (56, .iconst 1, 1) (gx_m 29 rfl)) ?_
        refine gx_goto (pc := 57) (tgt := 61) (by decide) (htX1_lease (57, .goto 4, 3) (gx_m 30 rfl)) ?_
        refine gx_Jw (lv := [(2, gx_i x2)]) [1] rfl ?_
        exact hj2 (1 : Int32) gx_b1
  · refine gx_Jw (lv := [(0, gx_r 2 (some x0)), (2, gx_i x2), (3, gx_i x3), (4, gx_r 6 (some v1)), (5, gx_i 0)]) [2, 4, 5, 1, 0] rfl ?_
    refine gx_Jlp (pc := 30) (lvh := fun (s3 : Int32) => [(0, gx_r 2 (some x0)), (2, gx_i x2), (3, gx_i x3), (4, gx_r 6 (some v1)), (5, gx_i s3)]) (fun s3 kl1 ha1 hb1 => ?_) _
    unfold lb_X1_lease_1
    refine gx_iload (pc := 30) (i := 5) 4 rfl (htX1_lease (30, .iload 5, 2) (gx_m 16 rfl)) ?_
    refine gx_iconst (pc := 32) (v := 4) (by decide) (htX1_lease (32, .iconst 4, 1) (gx_m 17 rfl)) ?_
    refine gx_icmp_ge (pc := 33) (tgt := 48) (by decide) (htX1_lease (33, .if_icmp .ge 15, 3) (gx_m 18 rfl)) (fun c4 => ?_) (fun c4 => ?_)
    · refine gx_Jw (lv := [(0, gx_r 2 (some x0)), (2, gx_i x2), (3, gx_i x3), (4, gx_r 6 (some v1))]) [0, 1, 2, 3] rfl ?_
      exact gx_Jout hb1 (hj1 () trivial)
    · refine gx_aload (pc := 36) (i := 4) 3 rfl (htX1_lease (36, .aload 4, 2) (gx_m 19 rfl)) ?_
      refine gx_iconst (pc := 38) (v := 0) (by decide) (htX1_lease (38, .iconst 0, 1) (gx_m 20 rfl)) ?_
      refine gx_Jcv (pc := 39) (gx_hst (as := [gx_i 0]) (b := gx_r 6 (some v1))) (gx_runV (as := [gx_i 0]) (ci := 5) (ct_X5_add Y v1 0) (by decide) (Or.inl rfl) rfl rfl rfl rfl q961 q642 q643 q105 q644 rfl dd_X5_add (by decide) (by decide) (Nat.le_of_ble_eq_true rfl) (htX1_lease (39, .invokevirtual 127, 3) (gx_m 21 rfl))) ?_
      refine gx_iinc (pc := 42) (i := 5) (j := 4) (v := (s3 + 1)) (lv' := [(5, gx_i (s3 + 1)), (0, gx_r 2 (some x0)), (2, gx_i x2), (3, gx_i x3), (4, gx_r 6 (some v1))]) rfl (gx_iv (by decide)) (by decide) rfl (htX1_lease (42, .iinc 5 1, 3) (gx_m 22 rfl)) ?_
      refine gx_goto (pc := 45) (tgt := 30) (by decide) (htX1_lease (45, .goto (-15), 3) (gx_m 23 rfl)) ?_
      refine gx_Jw (lv := [(0, gx_r 2 (some x0)), (2, gx_i x2), (3, gx_i x3), (4, gx_r 6 (some v1)), (5, gx_i (s3 + 1))]) [1, 2, 3, 4, 0] rfl ?_
      exact ha1 ((s3 + 1) : Int32)
theorem ct_X1_there (Y : gx_Y) (hT : gx_Tr Y) (x0 : Int32) : gx_CtX Y yX1_there (ws_ yX1_there cX1_there 1 none) 8 300 [gx_i x0] (gx_Ox gx_Ov) (f_X1_there x0) :=
  gx_thrower hT (ix := 7) (ic := 9) (kx := 1) (by decide) pn_X1 (htX1_there (0, .iload_n 0, 1) (gx_m 0 rfl)) (htX1_there (1, .ifCond .ne 11, 3) (gx_m 1 rfl)) (htX1_there (4, .new 7, 3) (gx_m 2 rfl)) (htX1_there (7, .dup, 1) (gx_m 3 rfl)) (htX1_there (8, .invokespecial 9, 3) (gx_m 4 rfl)) (htX1_there (11, .athrow, 1) (gx_m 5 rfl)) (htX1_there (12, .return_, 1) (gx_m 6 rfl)) q1014 q1015 q125 (by decide +kernel) (by decide +kernel) x0
theorem ct_X1_node (Y : gx_Y) (hT : gx_Tr Y) (x0 : gx_Nm) (x1 : Int32) : gx_CtX Y yX1_node (ws_ yX1_node cX1_node 2 (some (.object "CouncilStore$Node"))) 9 320 [gx_r 2 (some x0), gx_i x1] (gx_Ox (gx_Or Y 14)) (f_X1_node x0 x1) := by
  refine gx_startX (lv := [(0, gx_r 2 (some x0)), (1, gx_i x1)]) pn_X1 (Nat.le_of_ble_eq_true rfl) rfl ?_
  unfold f_X1_node
  refine gx_iload_n (pc := 0) (n := 1) (i := 1) rfl 1 rfl (htX1_node (0, .iload_n 1, 1) (gx_m 0 rfl)) ?_
  refine gx_iconst (pc := 1) (v := 0) (by decide) (htX1_node (1, .iconst 0, 1) (gx_m 1 rfl)) ?_
  refine gx_aload_n (pc := 2) (n := 0) (i := 0) rfl 0 rfl (htX1_node (2, .aload_n 0, 1) (gx_m 2 rfl)) ?_
  refine gx_Jgs (pc := 3) (ci := 1) (kk := 0) (t2 := 3) (by decide) (by decide) rfl rfl rfl q697 (htX1_node (3, .getfield 22, 3) (gx_m 3 rfl)) ?_
  refine gx_Jgi (pc := 6) (ci := 2) (kk := 4) (by decide) (Or.inl rfl) (by decide) (by decide) q413 (htX1_node (6, .getfield 80, 3) (gx_m 4 rfl)) (fun v1 hv1 => ?_)
  refine gx_iconst (pc := 9) (v := 1) (by decide) (htX1_node (9, .iconst 1, 1) (gx_m 5 rfl)) ?_
  refine gx_isub (pc := 10) (htX1_node (10, .isub, 1) (gx_m 6 rfl)) ?_
  refine gx_Jcz (pc := 11) (gx_hstS (as := [gx_i x1, gx_i 0, gx_i (v1 - 1)])) (gx_runS (as := [gx_i x1, gx_i 0, gx_i (v1 - 1)]) (ct_X1_in Y x1 0 (v1 - 1)) rfl rfl rfl q756 q757 q101 q758 rfl dd_X1_in (by decide) (by decide) (Nat.le_of_ble_eq_true rfl) (htX1_node (11, .invokestatic 69, 3) (gx_m 7 rfl))) (fun v2 hv2 => ?_)
  refine gx_JX (pc := 14) rfl (fun _ => rfl) (gx_runST (as := [gx_i v2]) (ct_X1_there Y hT v2) rfl rfl rfl q1011 q1012 q101 q1013 rfl dd_X1_there (by decide) (by decide) (Nat.le_of_ble_eq_true rfl) (htX1_node (14, .invokestatic 83, 3) (gx_m 8 rfl))) ?_
  refine gx_Jcv (pc := 14) (gx_hstS (as := [gx_i v2])) (gx_runS (as := [gx_i v2]) (gx_CtX.un gx_Ov_r (ct_X1_there Y hT v2)) rfl rfl rfl q1011 q1012 q101 q1013 rfl dd_X1_there (by decide) (by decide) (Nat.le_of_ble_eq_true rfl) (htX1_node (14, .invokestatic 83, 3) (gx_m 8 rfl))) ?_
  refine gx_aload_n (pc := 17) (n := 0) (i := 0) rfl 0 rfl (htX1_node (17, .aload_n 0, 1) (gx_m 9 rfl)) ?_
  refine gx_Jgs (pc := 18) (ci := 1) (kk := 1) (t2 := 104) (by decide) (by decide) rfl rfl rfl q698 (htX1_node (18, .getfield 30, 3) (gx_m 10 rfl)) ?_
  refine gx_iload_n (pc := 21) (n := 1) (i := 1) rfl 1 rfl (htX1_node (21, .iload_n 1, 1) (gx_m 11 rfl)) ?_
  refine gx_Jra (pc := 22) (t := 4) (t2 := 14) (by decide) (by decide) rfl (htX1_node (22, .aaload, 1) (gx_m 12 rfl)) (fun v3 => ?_)
  exact gx_Jaret (pc := 23) rfl (Or.inl ⟨_, rfl⟩) (fun _ h => h) (fun _ _ => rfl) (htX1_node (23, .areturn, 1) (gx_m 13 rfl))
theorem ct_X1_up (Y : gx_Y) (hT : gx_Tr Y) (x0 : gx_Nm) (x1 : Int32) : gx_CtX Y yX1_up (ws_ yX1_up cX1_up 3 (some (.object "CouncilStore$Node"))) 10 341 [gx_r 2 (some x0), gx_i x1] (gx_Ox (gx_Or Y 14)) (f_X1_up x0 x1) := by
  refine gx_startX (lv := [(0, gx_r 2 (some x0)), (1, gx_i x1)]) pn_X1 (Nat.le_of_ble_eq_true rfl) rfl ?_
  unfold f_X1_up
  refine gx_aload_n (pc := 0) (n := 0) (i := 0) rfl 0 rfl (htX1_up (0, .aload_n 0, 1) (gx_m 0 rfl)) ?_
  refine gx_iload_n (pc := 1) (n := 1) (i := 1) rfl 1 rfl (htX1_up (1, .iload_n 1, 1) (gx_m 1 rfl)) ?_
  refine gx_JX (pc := 2) rfl (fun _ => rfl) (gx_runVT (as := [gx_i x1]) (ci := 1) (ct_X1_node Y hT x0 x1) (by decide) (Or.inl rfl) rfl rfl rfl rfl q1007 q1009 qs8 q101 q1010 rfl dd_X1_node (by decide) (by decide) (Nat.le_of_ble_eq_true rfl) (htX1_up (2, .invokevirtual 86, 3) (gx_m 2 rfl))) ?_
  refine gx_Jcr (pc := 2) (t2 := 14) (gx_hst (as := [gx_i x1]) (b := gx_r 2 (some x0))) (gx_runV (as := [gx_i x1]) (ci := 1) (gx_CtX.un gx_Or_r (ct_X1_node Y hT x0 x1)) (by decide) (Or.inl rfl) rfl rfl rfl rfl q1007 q1009 qs8 q101 q1010 rfl dd_X1_node (by decide) (by decide) (Nat.le_of_ble_eq_true rfl) (htX1_up (2, .invokevirtual 86, 3) (gx_m 2 rfl))) (fun v1 => ?_)
  refine gx_astore_n (pc := 5) (n := 2) (i := 2) (lv' := [(2, gx_r 14 (some v1)), (0, gx_r 2 (some x0)), (1, gx_i x1)]) rfl (by decide) rfl (htX1_up (5, .astore_n 2, 1) (gx_m 3 rfl)) ?_
  refine gx_aload_n (pc := 6) (n := 2) (i := 2) rfl 0 rfl (htX1_up (6, .aload_n 2, 1) (gx_m 4 rfl)) ?_
  refine gx_Jgi (pc := 7) (ci := 13) (kk := 7) (by decide) (Or.inl rfl) (by decide) (by decide) q558 (htX1_up (7, .getfield 90, 3) (gx_m 5 rfl)) (fun v2 hv2 => ?_)
  refine gx_Jjoin (pcJ := 18) (lvJ := fun (j3 : Int32) => [(2, gx_r 14 (some v1))]) (stJ := fun (j3 : Int32) => [gx_i j3]) (fun (j3 : Int32) => j3 &&& 1 = j3) (fun j3 hj3 => ?_) (fun kk1 hj1 => ?_)
  · refine gx_JX (pc := 18) rfl (fun _ => rfl) (gx_runST (as := [gx_i j3]) (ct_X1_there Y hT j3) rfl rfl rfl q1011 q1012 q101 q1013 rfl dd_X1_there (by decide) (by decide) (Nat.le_of_ble_eq_true rfl) (htX1_up (18, .invokestatic 83, 3) (gx_m 10 rfl))) ?_
    refine gx_Jcv (pc := 18) (gx_hstS (as := [gx_i j3])) (gx_runS (as := [gx_i j3]) (gx_CtX.un gx_Ov_r (ct_X1_there Y hT j3)) rfl rfl rfl q1011 q1012 q101 q1013 rfl dd_X1_there (by decide) (by decide) (Nat.le_of_ble_eq_true rfl) (htX1_up (18, .invokestatic 83, 3) (gx_m 10 rfl))) ?_
    refine gx_aload_n (pc := 21) (n := 2) (i := 2) rfl 0 rfl (htX1_up (21, .aload_n 2, 1) (gx_m 11 rfl)) ?_
    exact gx_Jaret (pc := 22) rfl (Or.inl ⟨_, rfl⟩) (fun _ h => h) (fun _ _ => rfl) (htX1_up (22, .areturn, 1) (gx_m 12 rfl))
  · refine gx_if_ne (pc := 10) (y := 0) (tgt := 17) (by decide) (htX1_up (10, .ifCond .ne 7, 3) (gx_m 6 rfl)) (fun c2 => ?_) (fun c2 => ?_)
    · refine gx_iconst (pc := 13) (v := 1) (by decide) (htX1_up (13, .iconst 1, 1) (gx_m 7 rfl)) ?_
      refine gx_goto (pc := 14) (tgt := 18) (by decide) (htX1_up (14, .goto 4, 3) (gx_m 8 rfl)) ?_
      refine gx_Jw (lv := [(2, gx_r 14 (some v1))]) [0] rfl ?_
      exact hj1 (1 : Int32) gx_b1
    · refine gx_iconst (pc := 17) (v := 0) (by decide) (htX1_up (17, .iconst 0, 1) (gx_m 9 rfl)) ?_
      refine gx_Jw (lv := [(2, gx_r 14 (some v1))]) [0] rfl ?_
      exact hj1 (0 : Int32) gx_b0
theorem ct_X1_allowed (Y : gx_Y) (hT : gx_Tr Y) (x0 : Int32) : gx_CtX Y yX1_allowed (ws_ yX1_allowed cX1_allowed 1 none) 8 300 [gx_i x0] (gx_Ox gx_Ov) (f_X1_allowed x0) :=
  gx_thrower hT (ix := 10) (ic := 12) (kx := 2) (by decide) pn_X1 (htX1_allowed (0, .iload_n 0, 1) (gx_m 0 rfl)) (htX1_allowed (1, .ifCond .ne 11, 3) (gx_m 1 rfl)) (htX1_allowed (4, .new 10, 3) (gx_m 2 rfl)) (htX1_allowed (7, .dup, 1) (gx_m 3 rfl)) (htX1_allowed (8, .invokespecial 12, 3) (gx_m 4 rfl)) (htX1_allowed (11, .athrow, 1) (gx_m 5 rfl)) (htX1_allowed (12, .return_, 1) (gx_m 6 rfl)) q1032 q1033 q126 (by decide +kernel) (by decide +kernel) x0
theorem ct_X1_propose (Y : gx_Y) (hT : gx_Tr Y) (x0 : gx_Nm) (x1 : Int32) : gx_CtX Y yX1_propose (ws_ yX1_propose cX1_propose 4 (some .int)) 11 363 [gx_r 2 (some x0), gx_i x1] (gx_Ox gx_Oi) (f_X1_propose x0 x1) := by
  refine gx_startX (lv := [(0, gx_r 2 (some x0)), (1, gx_i x1)]) pn_X1 (Nat.le_of_ble_eq_true rfl) rfl ?_
  unfold f_X1_propose
  refine gx_aload_n (pc := 0) (n := 0) (i := 0) rfl 0 rfl (htX1_propose (0, .aload_n 0, 1) (gx_m 0 rfl)) ?_
  refine gx_iload_n (pc := 1) (n := 1) (i := 1) rfl 1 rfl (htX1_propose (1, .iload_n 1, 1) (gx_m 1 rfl)) ?_
  refine gx_JX (pc := 2) rfl (fun _ => rfl) (gx_runVT (as := [gx_i x1]) (ci := 1) (ct_X1_up Y hT x0 x1) (by decide) (Or.inl rfl) rfl rfl rfl rfl q1003 q1005 qs7 q101 q1006 rfl dd_X1_up (by decide) (by decide) (Nat.le_of_ble_eq_true rfl) (htX1_propose (2, .invokevirtual 148, 3) (gx_m 2 rfl))) ?_
  refine gx_Jcr (pc := 2) (t2 := 14) (gx_hst (as := [gx_i x1]) (b := gx_r 2 (some x0))) (gx_runV (as := [gx_i x1]) (ci := 1) (gx_CtX.un gx_Or_r (ct_X1_up Y hT x0 x1)) (by decide) (Or.inl rfl) rfl rfl rfl rfl q1003 q1005 qs7 q101 q1006 rfl dd_X1_up (by decide) (by decide) (Nat.le_of_ble_eq_true rfl) (htX1_propose (2, .invokevirtual 148, 3) (gx_m 2 rfl))) (fun v1 => ?_)
  refine gx_astore_n (pc := 5) (n := 2) (i := 2) (lv' := [(2, gx_r 14 (some v1)), (0, gx_r 2 (some x0)), (1, gx_i x1)]) rfl (by decide) rfl (htX1_propose (5, .astore_n 2, 1) (gx_m 3 rfl)) ?_
  refine gx_aload_n (pc := 6) (n := 2) (i := 2) rfl 0 rfl (htX1_propose (6, .aload_n 2, 1) (gx_m 4 rfl)) ?_
  refine gx_Jgi (pc := 7) (ci := 13) (kk := 8) (by decide) (Or.inl rfl) (by decide) (by decide) q560 (htX1_propose (7, .getfield 151, 3) (gx_m 5 rfl)) (fun v2 hv2 => ?_)
  refine gx_iconst (pc := 10) (v := 2) (by decide) (htX1_propose (10, .iconst 2, 1) (gx_m 6 rfl)) ?_
  refine gx_Jjoin (pcJ := 19) (lvJ := fun (j3 : Int32) => [(0, gx_r 2 (some x0)), (2, gx_r 14 (some v1))]) (stJ := fun (j3 : Int32) => [gx_i j3]) (fun (j3 : Int32) => j3 &&& 1 = j3) (fun j3 hj3 => ?_) (fun kk1 hj1 => ?_)
  · refine gx_JX (pc := 19) rfl (fun _ => rfl) (gx_runST (as := [gx_i j3]) (ct_X1_allowed Y hT j3) rfl rfl rfl q1029 q1030 q101 q1031 rfl dd_X1_allowed (by decide) (by decide) (Nat.le_of_ble_eq_true rfl) (htX1_propose (19, .invokestatic 154, 3) (gx_m 11 rfl))) ?_
    refine gx_Jcv (pc := 19) (gx_hstS (as := [gx_i j3])) (gx_runS (as := [gx_i j3]) (gx_CtX.un gx_Ov_r (ct_X1_allowed Y hT j3)) rfl rfl rfl q1029 q1030 q101 q1031 rfl dd_X1_allowed (by decide) (by decide) (Nat.le_of_ble_eq_true rfl) (htX1_propose (19, .invokestatic 154, 3) (gx_m 11 rfl))) ?_
    refine gx_aload_n (pc := 22) (n := 0) (i := 0) rfl 0 rfl (htX1_propose (22, .aload_n 0, 1) (gx_m 12 rfl)) ?_
    refine gx_Jgs (pc := 23) (ci := 1) (kk := 0) (t2 := 3) (by decide) (by decide) rfl rfl rfl q697 (htX1_propose (23, .getfield 22, 3) (gx_m 13 rfl)) ?_
    refine gx_Jgs (pc := 26) (ci := 2) (kk := 0) (t2 := 4) (by decide) (by decide) rfl rfl rfl q403 (htX1_propose (26, .getfield 157, 3) (gx_m 14 rfl)) ?_
    refine gx_iconst (pc := 29) (v := 1) (by decide) (htX1_propose (29, .iconst 1, 1) (gx_m 15 rfl)) ?_
    refine gx_aload_n (pc := 30) (n := 0) (i := 0) rfl 0 rfl (htX1_propose (30, .aload_n 0, 1) (gx_m 16 rfl)) ?_
    refine gx_Jgs (pc := 31) (ci := 1) (kk := 2) (t2 := 13) (by decide) (by decide) rfl rfl rfl q699 (htX1_propose (31, .getfield 37, 3) (gx_m 17 rfl)) ?_
    refine gx_Jgs (pc := 34) (ci := 12) (kk := 0) (t2 := 5) (by decide) (by decide) rfl rfl rfl q455 (htX1_propose (34, .getfield 161, 3) (gx_m 18 rfl)) ?_
    refine gx_Jgi (pc := 37) (ci := 4) (kk := 1) (by decide) (Or.inl rfl) (by decide) (by decide) q162 (htX1_propose (37, .getfield 94, 3) (gx_m 19 rfl)) (fun v4 hv4 => ?_)
    refine gx_Jcz (pc := 40) (gx_hst (as := [gx_i 1, gx_i v4]) (b := gx_r 4 (some (0 :: 0 :: x0)))) (gx_runV (as := [gx_i 1, gx_i v4]) (ci := 3) (ct_X3_fits Y (0 :: 0 :: x0) 1 v4) (by decide) (Or.inl rfl) rfl rfl rfl rfl q1047 q1048 q1049 q103 q1050 rfl dd_X3_fits (by decide) (by decide) (Nat.le_of_ble_eq_true rfl) (htX1_propose (40, .invokevirtual 163, 3) (gx_m 20 rfl))) (fun v5 hv5 => ?_)
    refine gx_JX (pc := 43) rfl (fun _ => rfl) (gx_runST (as := [gx_i v5]) (ct_X1_room Y hT v5) rfl rfl rfl q909 q910 q101 q911 rfl dd_X1_room (by decide) (by decide) (Nat.le_of_ble_eq_true rfl) (htX1_propose (43, .invokestatic 100, 3) (gx_m 21 rfl))) ?_
    refine gx_Jcv (pc := 43) (gx_hstS (as := [gx_i v5])) (gx_runS (as := [gx_i v5]) (gx_CtX.un gx_Ov_r (ct_X1_room Y hT v5)) rfl rfl rfl q909 q910 q101 q911 rfl dd_X1_room (by decide) (by decide) (Nat.le_of_ble_eq_true rfl) (htX1_propose (43, .invokestatic 100, 3) (gx_m 21 rfl))) ?_
    refine gx_aload_n (pc := 46) (n := 0) (i := 0) rfl 0 rfl (htX1_propose (46, .aload_n 0, 1) (gx_m 22 rfl)) ?_
    refine gx_Jgs (pc := 47) (ci := 1) (kk := 0) (t2 := 3) (by decide) (by decide) rfl rfl rfl q697 (htX1_propose (47, .getfield 22, 3) (gx_m 23 rfl)) ?_
    refine gx_Jgs (pc := 50) (ci := 2) (kk := 0) (t2 := 4) (by decide) (by decide) rfl rfl rfl q403 (htX1_propose (50, .getfield 157, 3) (gx_m 24 rfl)) ?_
    refine gx_aload_n (pc := 53) (n := 0) (i := 0) rfl 0 rfl (htX1_propose (53, .aload_n 0, 1) (gx_m 25 rfl)) ?_
    refine gx_Jgs (pc := 54) (ci := 1) (kk := 2) (t2 := 13) (by decide) (by decide) rfl rfl rfl q699 (htX1_propose (54, .getfield 37, 3) (gx_m 26 rfl)) ?_
    refine gx_Jci (pc := 57) (gx_hst (as := [gx_r 13 (some (2 :: x0))]) (b := gx_r 4 (some (0 :: 0 :: x0)))) (gx_runV (as := [gx_r 13 (some (2 :: x0))]) (ci := 3) (ct_X3_add Y (0 :: 0 :: x0) (2 :: x0)) (by decide) (Or.inl rfl) rfl rfl rfl rfl q1052 q1053 q1054 q103 q1055 rfl dd_X3_add (by decide) (by decide) (Nat.le_of_ble_eq_true rfl) (htX1_propose (57, .invokevirtual 166, 3) (gx_m 27 rfl))) (fun v6 => ?_)
    refine gx_istore_n (pc := 60) (n := 3) (i := 3) (lv' := [(3, gx_i v6), (0, gx_r 2 (some x0)), (2, gx_r 14 (some v1))]) rfl (by decide) rfl (htX1_propose (60, .istore_n 3, 1) (gx_m 28 rfl)) ?_
    refine gx_aload_n (pc := 61) (n := 0) (i := 0) rfl 1 rfl (htX1_propose (61, .aload_n 0, 1) (gx_m 29 rfl)) ?_
    refine gx_Jgs (pc := 62) (ci := 1) (kk := 2) (t2 := 13) (by decide) (by decide) rfl rfl rfl q699 (htX1_propose (62, .getfield 37, 3) (gx_m 30 rfl)) ?_
    refine gx_Jcv (pc := 65) (gx_hst (as := []) (b := gx_r 13 (some (2 :: x0)))) (gx_runV (as := []) (ci := 12) (ct_X12_clear Y (2 :: x0)) (by decide) (Or.inl rfl) rfl rfl rfl rfl q726 q727 q728 q112 q729 rfl dd_X12_clear (by decide) (by decide) (Nat.le_of_ble_eq_true rfl) (htX1_propose (65, .invokevirtual 79, 3) (gx_m 31 rfl))) ?_
    refine gx_aload_n (pc := 68) (n := 2) (i := 2) rfl 2 rfl (htX1_propose (68, .aload_n 2, 1) (gx_m 32 rfl)) ?_
    refine gx_iload_n (pc := 69) (n := 3) (i := 3) rfl 0 rfl (htX1_propose (69, .iload_n 3, 1) (gx_m 33 rfl)) ?_
    refine gx_Jci (pc := 70) (gx_hst (as := [gx_i v6]) (b := gx_r 14 (some v1))) (gx_runV (as := [gx_i v6]) (ci := 13) (ct_X13_add Y v1 v6) (by decide) (Or.inl rfl) rfl rfl rfl rfl q1062 q1063 q1064 q113 q1065 rfl dd_X13_add (by decide) (by decide) (Nat.le_of_ble_eq_true rfl) (htX1_propose (70, .invokevirtual 169, 3) (gx_m 34 rfl))) (fun v7 => ?_)
    exact gx_Jiret (pc := 73) rfl (fun _ => trivial) (fun _ _ => rfl) (htX1_propose (73, .ireturn, 1) (gx_m 35 rfl))
  · refine gx_icmp_ne (pc := 11) (tgt := 18) (by decide) (htX1_propose (11, .if_icmp .ne 7, 3) (gx_m 7 rfl)) (fun c2 => ?_) (fun c2 => ?_)
    · refine gx_iconst (pc := 14) (v := 1) (by decide) (htX1_propose (14, .iconst 1, 1) (gx_m 8 rfl)) ?_
      refine gx_goto (pc := 15) (tgt := 19) (by decide) (htX1_propose (15, .goto 4, 3) (gx_m 9 rfl)) ?_
      refine gx_Jw (lv := [(0, gx_r 2 (some x0)), (2, gx_r 14 (some v1))]) [1, 0] rfl ?_
      exact hj1 (1 : Int32) gx_b1
    · refine gx_iconst (pc := 18) (v := 0) (by decide) (htX1_propose (18, .iconst 0, 1) (gx_m 10 rfl)) ?_
      refine gx_Jw (lv := [(0, gx_r 2 (some x0)), (2, gx_r 14 (some v1))]) [1, 0] rfl ?_
      exact hj1 (0 : Int32) gx_b0
theorem ct_X1_rise (Y : gx_Y) (hT : gx_Tr Y) (x0 : gx_Nm) (x1 : Int32) : gx_CtX Y yX1_rise (ws_ yX1_rise cX1_rise 3 none) 11 363 [gx_r 2 (some x0), gx_i x1] (gx_Ox gx_Ov) (f_X1_rise x0 x1) := by
  refine gx_startX (lv := [(0, gx_r 2 (some x0)), (1, gx_i x1)]) pn_X1 (Nat.le_of_ble_eq_true rfl) rfl ?_
  unfold f_X1_rise
  refine gx_aload_n (pc := 0) (n := 0) (i := 0) rfl 0 rfl (htX1_rise (0, .aload_n 0, 1) (gx_m 0 rfl)) ?_
  refine gx_iload_n (pc := 1) (n := 1) (i := 1) rfl 1 rfl (htX1_rise (1, .iload_n 1, 1) (gx_m 1 rfl)) ?_
  refine gx_JX (pc := 2) rfl (fun _ => rfl) (gx_runVT (as := [gx_i x1]) (ci := 1) (ct_X1_up Y hT x0 x1) (by decide) (Or.inl rfl) rfl rfl rfl rfl q1003 q1005 qs7 q101 q1006 rfl dd_X1_up (by decide) (by decide) (Nat.le_of_ble_eq_true rfl) (htX1_rise (2, .invokevirtual 148, 3) (gx_m 2 rfl))) ?_
  refine gx_Jcr (pc := 2) (t2 := 14) (gx_hst (as := [gx_i x1]) (b := gx_r 2 (some x0))) (gx_runV (as := [gx_i x1]) (ci := 1) (gx_CtX.un gx_Or_r (ct_X1_up Y hT x0 x1)) (by decide) (Or.inl rfl) rfl rfl rfl rfl q1003 q1005 qs7 q101 q1006 rfl dd_X1_up (by decide) (by decide) (Nat.le_of_ble_eq_true rfl) (htX1_rise (2, .invokevirtual 148, 3) (gx_m 2 rfl))) (fun v1 => ?_)
  refine gx_astore_n (pc := 5) (n := 2) (i := 2) (lv' := [(2, gx_r 14 (some v1)), (0, gx_r 2 (some x0)), (1, gx_i x1)]) rfl (by decide) rfl (htX1_rise (5, .astore_n 2, 1) (gx_m 3 rfl)) ?_
  refine gx_aload_n (pc := 6) (n := 2) (i := 2) rfl 0 rfl (htX1_rise (6, .aload_n 2, 1) (gx_m 4 rfl)) ?_
  refine gx_Jgi (pc := 7) (ci := 13) (kk := 8) (by decide) (Or.inl rfl) (by decide) (by decide) q560 (htX1_rise (7, .getfield 151, 3) (gx_m 5 rfl)) (fun v2 hv2 => ?_)
  refine gx_iconst (pc := 10) (v := 2) (by decide) (htX1_rise (10, .iconst 2, 1) (gx_m 6 rfl)) ?_
  refine gx_Jjoin (pcJ := 19) (lvJ := fun (j3 : Int32) => [(0, gx_r 2 (some x0)), (2, gx_r 14 (some v1))]) (stJ := fun (j3 : Int32) => [gx_i j3]) (fun (j3 : Int32) => j3 &&& 1 = j3) (fun j3 hj3 => ?_) (fun kk1 hj1 => ?_)
  · refine gx_JX (pc := 19) rfl (fun _ => rfl) (gx_runST (as := [gx_i j3]) (ct_X1_allowed Y hT j3) rfl rfl rfl q1029 q1030 q101 q1031 rfl dd_X1_allowed (by decide) (by decide) (Nat.le_of_ble_eq_true rfl) (htX1_rise (19, .invokestatic 154, 3) (gx_m 11 rfl))) ?_
    refine gx_Jcv (pc := 19) (gx_hstS (as := [gx_i j3])) (gx_runS (as := [gx_i j3]) (gx_CtX.un gx_Ov_r (ct_X1_allowed Y hT j3)) rfl rfl rfl q1029 q1030 q101 q1031 rfl dd_X1_allowed (by decide) (by decide) (Nat.le_of_ble_eq_true rfl) (htX1_rise (19, .invokestatic 154, 3) (gx_m 11 rfl))) ?_
    refine gx_aload_n (pc := 22) (n := 0) (i := 0) rfl 0 rfl (htX1_rise (22, .aload_n 0, 1) (gx_m 12 rfl)) ?_
    refine gx_Jgs (pc := 23) (ci := 1) (kk := 0) (t2 := 3) (by decide) (by decide) rfl rfl rfl q697 (htX1_rise (23, .getfield 22, 3) (gx_m 13 rfl)) ?_
    refine gx_Jgi (pc := 26) (ci := 2) (kk := 4) (by decide) (Or.inl rfl) (by decide) (by decide) q413 (htX1_rise (26, .getfield 80, 3) (gx_m 14 rfl)) (fun v4 hv4 => ?_)
    refine gx_iconst (pc := 29) (v := 1) (by decide) (htX1_rise (29, .iconst 1, 1) (gx_m 15 rfl)) ?_
    refine gx_Jjoin (pcJ := 53) (lvJ := fun (j6 : Int32) => [(2, gx_r 14 (some v1))]) (stJ := fun (j6 : Int32) => [gx_i j6]) (fun (j6 : Int32) => j6 &&& 1 = j6) (fun j6 hj6 => ?_) (fun kk2 hj2 => ?_)
    · refine gx_JX (pc := 53) rfl (fun _ => rfl) (gx_runST (as := [gx_i j6]) (ct_X1_room Y hT j6) rfl rfl rfl q909 q910 q101 q911 rfl dd_X1_room (by decide) (by decide) (Nat.le_of_ble_eq_true rfl) (htX1_rise (53, .invokestatic 100, 3) (gx_m 27 rfl))) ?_
      refine gx_Jcv (pc := 53) (gx_hstS (as := [gx_i j6])) (gx_runS (as := [gx_i j6]) (gx_CtX.un gx_Ov_r (ct_X1_room Y hT j6)) rfl rfl rfl q909 q910 q101 q911 rfl dd_X1_room (by decide) (by decide) (Nat.le_of_ble_eq_true rfl) (htX1_rise (53, .invokestatic 100, 3) (gx_m 27 rfl))) ?_
      refine gx_aload_n (pc := 56) (n := 2) (i := 2) rfl 0 rfl (htX1_rise (56, .aload_n 2, 1) (gx_m 28 rfl)) ?_
      refine gx_Jcv (pc := 57) (gx_hst (as := []) (b := gx_r 14 (some v1))) (gx_runV (as := []) (ci := 13) (ct_X13_stand Y v1) (by decide) (Or.inl rfl) rfl rfl rfl rfl q1189 q1190 q1191 q113 q1192 rfl dd_X13_stand (by decide) (by decide) (Nat.le_of_ble_eq_true rfl) (htX1_rise (57, .invokevirtual 172, 3) (gx_m 29 rfl))) ?_
      exact gx_Jvret (pc := 60) rfl (fun _ => trivial) (fun _ _ => rfl) (htX1_rise (60, .return_, 1) (gx_m 30 rfl))
    · refine gx_icmp_gt (pc := 30) (tgt := 48) (by decide) (htX1_rise (30, .if_icmp .gt 18, 3) (gx_m 16 rfl)) (fun c3 => ?_) (fun c3 => ?_)
      · refine gx_iconst (pc := 48) (v := 1) (by decide) (htX1_rise (48, .iconst 1, 1) (gx_m 24 rfl)) ?_
        refine gx_goto (pc := 49) (tgt := 53) (by decide) (htX1_rise (49, .goto 4, 3) (gx_m 25 rfl)) ?_
        refine gx_Jw (lv := [(2, gx_r 14 (some v1))]) [1] rfl ?_
        exact hj2 (1 : Int32) gx_b1
      · refine gx_aload_n (pc := 33) (n := 0) (i := 0) rfl 0 rfl (htX1_rise (33, .aload_n 0, 1) (gx_m 17 rfl)) ?_
        refine gx_Jgs (pc := 34) (ci := 1) (kk := 0) (t2 := 3) (by decide) (by decide) rfl rfl rfl q697 (htX1_rise (34, .getfield 22, 3) (gx_m 18 rfl)) ?_
        refine gx_Jgs (pc := 37) (ci := 2) (kk := 0) (t2 := 4) (by decide) (by decide) rfl rfl rfl q403 (htX1_rise (37, .getfield 157, 3) (gx_m 19 rfl)) ?_
        refine gx_iconst (pc := 40) (v := 1) (by decide) (htX1_rise (40, .iconst 1, 1) (gx_m 20 rfl)) ?_
        refine gx_iconst (pc := 41) (v := 0) (by decide) (htX1_rise (41, .iconst 0, 1) (gx_m 21 rfl)) ?_
        refine gx_Jcz (pc := 42) (gx_hst (as := [gx_i 1, gx_i 0]) (b := gx_r 4 (some (0 :: 0 :: x0)))) (gx_runV (as := [gx_i 1, gx_i 0]) (ci := 3) (ct_X3_fits Y (0 :: 0 :: x0) 1 0) (by decide) (Or.inl rfl) rfl rfl rfl rfl q1047 q1048 q1049 q103 q1050 rfl dd_X3_fits (by decide) (by decide) (Nat.le_of_ble_eq_true rfl) (htX1_rise (42, .invokevirtual 163, 3) (gx_m 22 rfl))) (fun v5 hv5 => ?_)
        refine gx_if_eq (pc := 45) (y := 0) (tgt := 52) (by decide) (htX1_rise (45, .ifCond .eq 7, 3) (gx_m 23 rfl)) (fun c4 => ?_) (fun c4 => ?_)
        · refine gx_iconst (pc := 52) (v := 0) (by decide) (htX1_rise (52, .iconst 0, 1) (gx_m 26 rfl)) ?_
          refine gx_Jw (lv := [(2, gx_r 14 (some v1))]) [1] rfl ?_
          exact hj2 (0 : Int32) gx_b0
        · refine gx_iconst (pc := 48) (v := 1) (by decide) (htX1_rise (48, .iconst 1, 1) (gx_m 24 rfl)) ?_
          refine gx_goto (pc := 49) (tgt := 53) (by decide) (htX1_rise (49, .goto 4, 3) (gx_m 25 rfl)) ?_
          refine gx_Jw (lv := [(2, gx_r 14 (some v1))]) [1] rfl ?_
          exact hj2 (1 : Int32) gx_b1
  · refine gx_icmp_eq (pc := 11) (tgt := 18) (by decide) (htX1_rise (11, .if_icmp .eq 7, 3) (gx_m 7 rfl)) (fun c5 => ?_) (fun c5 => ?_)
    · refine gx_iconst (pc := 18) (v := 0) (by decide) (htX1_rise (18, .iconst 0, 1) (gx_m 10 rfl)) ?_
      refine gx_Jw (lv := [(0, gx_r 2 (some x0)), (2, gx_r 14 (some v1))]) [1, 0] rfl ?_
      exact hj1 (0 : Int32) gx_b0
    · refine gx_iconst (pc := 14) (v := 1) (by decide) (htX1_rise (14, .iconst 1, 1) (gx_m 8 rfl)) ?_
      refine gx_goto (pc := 15) (tgt := 19) (by decide) (htX1_rise (15, .goto 4, 3) (gx_m 9 rfl)) ?_
      refine gx_Jw (lv := [(0, gx_r 2 (some x0)), (2, gx_r 14 (some v1))]) [1, 0] rfl ?_
      exact hj1 (1 : Int32) gx_b1
theorem ct_X1_beat (Y : gx_Y) (hT : gx_Tr Y) (x0 : gx_Nm) (x1 : Int32) : gx_CtX Y yX1_beat (ws_ yX1_beat cX1_beat 3 none) 11 363 [gx_r 2 (some x0), gx_i x1] (gx_Ox gx_Ov) (f_X1_beat x0 x1) := by
  refine gx_startX (lv := [(0, gx_r 2 (some x0)), (1, gx_i x1)]) pn_X1 (Nat.le_of_ble_eq_true rfl) rfl ?_
  unfold f_X1_beat
  refine gx_aload_n (pc := 0) (n := 0) (i := 0) rfl 0 rfl (htX1_beat (0, .aload_n 0, 1) (gx_m 0 rfl)) ?_
  refine gx_iload_n (pc := 1) (n := 1) (i := 1) rfl 1 rfl (htX1_beat (1, .iload_n 1, 1) (gx_m 1 rfl)) ?_
  refine gx_JX (pc := 2) rfl (fun _ => rfl) (gx_runVT (as := [gx_i x1]) (ci := 1) (ct_X1_up Y hT x0 x1) (by decide) (Or.inl rfl) rfl rfl rfl rfl q1003 q1005 qs7 q101 q1006 rfl dd_X1_up (by decide) (by decide) (Nat.le_of_ble_eq_true rfl) (htX1_beat (2, .invokevirtual 148, 3) (gx_m 2 rfl))) ?_
  refine gx_Jcr (pc := 2) (t2 := 14) (gx_hst (as := [gx_i x1]) (b := gx_r 2 (some x0))) (gx_runV (as := [gx_i x1]) (ci := 1) (gx_CtX.un gx_Or_r (ct_X1_up Y hT x0 x1)) (by decide) (Or.inl rfl) rfl rfl rfl rfl q1003 q1005 qs7 q101 q1006 rfl dd_X1_up (by decide) (by decide) (Nat.le_of_ble_eq_true rfl) (htX1_beat (2, .invokevirtual 148, 3) (gx_m 2 rfl))) (fun v1 => ?_)
  refine gx_astore_n (pc := 5) (n := 2) (i := 2) (lv' := [(2, gx_r 14 (some v1)), (0, gx_r 2 (some x0)), (1, gx_i x1)]) rfl (by decide) rfl (htX1_beat (5, .astore_n 2, 1) (gx_m 3 rfl)) ?_
  refine gx_aload_n (pc := 6) (n := 2) (i := 2) rfl 0 rfl (htX1_beat (6, .aload_n 2, 1) (gx_m 4 rfl)) ?_
  refine gx_Jgi (pc := 7) (ci := 13) (kk := 8) (by decide) (Or.inl rfl) (by decide) (by decide) q560 (htX1_beat (7, .getfield 151, 3) (gx_m 5 rfl)) (fun v2 hv2 => ?_)
  refine gx_iconst (pc := 10) (v := 2) (by decide) (htX1_beat (10, .iconst 2, 1) (gx_m 6 rfl)) ?_
  refine gx_Jjoin (pcJ := 19) (lvJ := fun (j3 : Int32) => [(2, gx_r 14 (some v1))]) (stJ := fun (j3 : Int32) => [gx_i j3]) (fun (j3 : Int32) => j3 &&& 1 = j3) (fun j3 hj3 => ?_) (fun kk1 hj1 => ?_)
  · refine gx_JX (pc := 19) rfl (fun _ => rfl) (gx_runST (as := [gx_i j3]) (ct_X1_allowed Y hT j3) rfl rfl rfl q1029 q1030 q101 q1031 rfl dd_X1_allowed (by decide) (by decide) (Nat.le_of_ble_eq_true rfl) (htX1_beat (19, .invokestatic 154, 3) (gx_m 11 rfl))) ?_
    refine gx_Jcv (pc := 19) (gx_hstS (as := [gx_i j3])) (gx_runS (as := [gx_i j3]) (gx_CtX.un gx_Ov_r (ct_X1_allowed Y hT j3)) rfl rfl rfl q1029 q1030 q101 q1031 rfl dd_X1_allowed (by decide) (by decide) (Nat.le_of_ble_eq_true rfl) (htX1_beat (19, .invokestatic 154, 3) (gx_m 11 rfl))) ?_
    refine gx_aload_n (pc := 22) (n := 2) (i := 2) rfl 0 rfl (htX1_beat (22, .aload_n 2, 1) (gx_m 12 rfl)) ?_
    refine gx_Jcv (pc := 23) (gx_hst (as := []) (b := gx_r 14 (some v1))) (gx_runV (as := []) (ci := 13) (ct_X13_tellAll Y v1) (by decide) (Or.inl rfl) rfl rfl rfl rfl q1237 q1094 q1095 q113 q1096 rfl dd_X13_tellAll (by decide) (by decide) (Nat.le_of_ble_eq_true rfl) (htX1_beat (23, .invokevirtual 175, 3) (gx_m 13 rfl))) ?_
    exact gx_Jvret (pc := 26) rfl (fun _ => trivial) (fun _ _ => rfl) (htX1_beat (26, .return_, 1) (gx_m 14 rfl))
  · refine gx_icmp_ne (pc := 11) (tgt := 18) (by decide) (htX1_beat (11, .if_icmp .ne 7, 3) (gx_m 7 rfl)) (fun c2 => ?_) (fun c2 => ?_)
    · refine gx_iconst (pc := 14) (v := 1) (by decide) (htX1_beat (14, .iconst 1, 1) (gx_m 8 rfl)) ?_
      refine gx_goto (pc := 15) (tgt := 19) (by decide) (htX1_beat (15, .goto 4, 3) (gx_m 9 rfl)) ?_
      refine gx_Jw (lv := [(2, gx_r 14 (some v1))]) [0] rfl ?_
      exact hj1 (1 : Int32) gx_b1
    · refine gx_iconst (pc := 18) (v := 0) (by decide) (htX1_beat (18, .iconst 0, 1) (gx_m 10 rfl)) ?_
      refine gx_Jw (lv := [(2, gx_r 14 (some v1))]) [0] rfl ?_
      exact hj1 (0 : Int32) gx_b0
theorem ct_X1_sync (Y : gx_Y) (hT : gx_Tr Y) (x0 : gx_Nm) (x1 : Int32) : gx_CtX Y yX1_sync (ws_ yX1_sync cX1_sync 2 (some .int)) 11 363 [gx_r 2 (some x0), gx_i x1] (gx_Ox gx_Oi) (f_X1_sync x0 x1) := by
  refine gx_startX (lv := [(0, gx_r 2 (some x0)), (1, gx_i x1)]) pn_X1 (Nat.le_of_ble_eq_true rfl) rfl ?_
  unfold f_X1_sync
  refine gx_aload_n (pc := 0) (n := 0) (i := 0) rfl 0 rfl (htX1_sync (0, .aload_n 0, 1) (gx_m 0 rfl)) ?_
  refine gx_iload_n (pc := 1) (n := 1) (i := 1) rfl 1 rfl (htX1_sync (1, .iload_n 1, 1) (gx_m 1 rfl)) ?_
  refine gx_JX (pc := 2) rfl (fun _ => rfl) (gx_runVT (as := [gx_i x1]) (ci := 1) (ct_X1_up Y hT x0 x1) (by decide) (Or.inl rfl) rfl rfl rfl rfl q1003 q1005 qs7 q101 q1006 rfl dd_X1_up (by decide) (by decide) (Nat.le_of_ble_eq_true rfl) (htX1_sync (2, .invokevirtual 148, 3) (gx_m 2 rfl))) ?_
  refine gx_Jcr (pc := 2) (t2 := 14) (gx_hst (as := [gx_i x1]) (b := gx_r 2 (some x0))) (gx_runV (as := [gx_i x1]) (ci := 1) (gx_CtX.un gx_Or_r (ct_X1_up Y hT x0 x1)) (by decide) (Or.inl rfl) rfl rfl rfl rfl q1003 q1005 qs7 q101 q1006 rfl dd_X1_up (by decide) (by decide) (Nat.le_of_ble_eq_true rfl) (htX1_sync (2, .invokevirtual 148, 3) (gx_m 2 rfl))) (fun v1 => ?_)
  refine gx_Jci (pc := 5) (gx_hst (as := []) (b := gx_r 14 (some v1))) (gx_runV (as := []) (ci := 13) (ct_X13_sync Y v1) (by decide) (Or.inl rfl) rfl rfl rfl rfl q1245 q1246 q1247 q113 q1248 rfl dd_X13_sync (by decide) (by decide) (Nat.le_of_ble_eq_true rfl) (htX1_sync (5, .invokevirtual 178, 3) (gx_m 3 rfl))) (fun v2 => ?_)
  exact gx_Jiret (pc := 8) rfl (fun _ => trivial) (fun _ _ => rfl) (htX1_sync (8, .ireturn, 1) (gx_m 4 rfl))
theorem ct_X1_crash (Y : gx_Y) (hT : gx_Tr Y) (x0 : gx_Nm) (x1 : Int32) (x2 : Int32) : gx_CtX Y yX1_crash (ws_ yX1_crash cX1_crash 4 none) 11 363 [gx_r 2 (some x0), gx_i x1, gx_i x2] (gx_Ox gx_Ov) (f_X1_crash x0 x1 x2) := by
  refine gx_startX (lv := [(0, gx_r 2 (some x0)), (1, gx_i x1), (2, gx_i x2)]) pn_X1 (Nat.le_of_ble_eq_true rfl) rfl ?_
  unfold f_X1_crash
  refine gx_aload_n (pc := 0) (n := 0) (i := 0) rfl 0 rfl (htX1_crash (0, .aload_n 0, 1) (gx_m 0 rfl)) ?_
  refine gx_iload_n (pc := 1) (n := 1) (i := 1) rfl 1 rfl (htX1_crash (1, .iload_n 1, 1) (gx_m 1 rfl)) ?_
  refine gx_JX (pc := 2) rfl (fun _ => rfl) (gx_runVT (as := [gx_i x1]) (ci := 1) (ct_X1_up Y hT x0 x1) (by decide) (Or.inl rfl) rfl rfl rfl rfl q1003 q1005 qs7 q101 q1006 rfl dd_X1_up (by decide) (by decide) (Nat.le_of_ble_eq_true rfl) (htX1_crash (2, .invokevirtual 148, 3) (gx_m 2 rfl))) ?_
  refine gx_Jcr (pc := 2) (t2 := 14) (gx_hst (as := [gx_i x1]) (b := gx_r 2 (some x0))) (gx_runV (as := [gx_i x1]) (ci := 1) (gx_CtX.un gx_Or_r (ct_X1_up Y hT x0 x1)) (by decide) (Or.inl rfl) rfl rfl rfl rfl q1003 q1005 qs7 q101 q1006 rfl dd_X1_up (by decide) (by decide) (Nat.le_of_ble_eq_true rfl) (htX1_crash (2, .invokevirtual 148, 3) (gx_m 2 rfl))) (fun v1 => ?_)
  refine gx_astore_n (pc := 5) (n := 3) (i := 3) (lv' := [(3, gx_r 14 (some v1)), (0, gx_r 2 (some x0)), (1, gx_i x1), (2, gx_i x2)]) rfl (by decide) rfl (htX1_crash (5, .astore_n 3, 1) (gx_m 3 rfl)) ?_
  refine gx_iload_n (pc := 6) (n := 2) (i := 2) rfl 3 rfl (htX1_crash (6, .iload_n 2, 1) (gx_m 4 rfl)) ?_
  refine gx_iconst (pc := 7) (v := 0) (by decide) (htX1_crash (7, .iconst 0, 1) (gx_m 5 rfl)) ?_
  refine gx_aload_n (pc := 8) (n := 3) (i := 3) rfl 0 rfl (htX1_crash (8, .aload_n 3, 1) (gx_m 6 rfl)) ?_
  refine gx_Jgs (pc := 9) (ci := 13) (kk := 2) (t2 := 15) (by decide) (by decide) rfl rfl rfl q549 (htX1_crash (9, .getfield 182, 3) (gx_m 7 rfl)) ?_
  refine gx_Jci (pc := 12) (gx_hst (as := []) (b := gx_r 15 (some (2 :: v1)))) (gx_runV (as := []) (ci := 14) (ct_X14_unsynced Y (2 :: v1)) (by decide) (Or.inl rfl) rfl rfl rfl rfl q1377 q1164 q1165 q114 q1166 rfl dd_X14_unsynced (by decide) (by decide) (Nat.le_of_ble_eq_true rfl) (htX1_crash (12, .invokevirtual 186, 3) (gx_m 8 rfl))) (fun v2 => ?_)
  refine gx_Jcz (pc := 15) (gx_hstS (as := [gx_i x2, gx_i 0, gx_i v2])) (gx_runS (as := [gx_i x2, gx_i 0, gx_i v2]) (ct_X1_in Y x2 0 v2) rfl rfl rfl q756 q757 q101 q758 rfl dd_X1_in (by decide) (by decide) (Nat.le_of_ble_eq_true rfl) (htX1_crash (15, .invokestatic 69, 3) (gx_m 9 rfl))) (fun v3 hv3 => ?_)
  refine gx_JX (pc := 18) rfl (fun _ => rfl) (gx_runST (as := [gx_i v3]) (ct_X1_good Y hT v3) rfl rfl rfl q759 q760 q101 q761 rfl dd_X1_good (by decide) (by decide) (Nat.le_of_ble_eq_true rfl) (htX1_crash (18, .invokestatic 73, 3) (gx_m 10 rfl))) ?_
  refine gx_Jcv (pc := 18) (gx_hstS (as := [gx_i v3])) (gx_runS (as := [gx_i v3]) (gx_CtX.un gx_Ov_r (ct_X1_good Y hT v3)) rfl rfl rfl q759 q760 q101 q761 rfl dd_X1_good (by decide) (by decide) (Nat.le_of_ble_eq_true rfl) (htX1_crash (18, .invokestatic 73, 3) (gx_m 10 rfl))) ?_
  refine gx_aload_n (pc := 21) (n := 3) (i := 3) rfl 0 rfl (htX1_crash (21, .aload_n 3, 1) (gx_m 11 rfl)) ?_
  refine gx_iload_n (pc := 22) (n := 2) (i := 2) rfl 3 rfl (htX1_crash (22, .iload_n 2, 1) (gx_m 12 rfl)) ?_
  refine gx_Jcv (pc := 23) (gx_hst (as := [gx_i x2]) (b := gx_r 14 (some v1))) (gx_runV (as := [gx_i x2]) (ci := 13) (ct_X13_fall Y v1 x2) (by decide) (Or.inl rfl) rfl rfl rfl rfl q1378 q1379 q1380 q113 q1381 rfl dd_X13_fall (by decide) (by decide) (Nat.le_of_ble_eq_true rfl) (htX1_crash (23, .invokevirtual 191, 3) (gx_m 13 rfl))) ?_
  exact gx_Jvret (pc := 26) rfl (fun _ => trivial) (fun _ _ => rfl) (htX1_crash (26, .return_, 1) (gx_m 14 rfl))
theorem ct_X1_start (Y : gx_Y) (hT : gx_Tr Y) (x0 : gx_Nm) (x1 : Int32) : gx_CtX Y yX1_start (ws_ yX1_start cX1_start 3 none) 10 341 [gx_r 2 (some x0), gx_i x1] (gx_Ox gx_Ov) (f_X1_start x0 x1) := by
  refine gx_startX (lv := [(0, gx_r 2 (some x0)), (1, gx_i x1)]) pn_X1 (Nat.le_of_ble_eq_true rfl) rfl ?_
  unfold f_X1_start
  refine gx_aload_n (pc := 0) (n := 0) (i := 0) rfl 0 rfl (htX1_start (0, .aload_n 0, 1) (gx_m 0 rfl)) ?_
  refine gx_iload_n (pc := 1) (n := 1) (i := 1) rfl 1 rfl (htX1_start (1, .iload_n 1, 1) (gx_m 1 rfl)) ?_
  refine gx_JX (pc := 2) rfl (fun _ => rfl) (gx_runVT (as := [gx_i x1]) (ci := 1) (ct_X1_node Y hT x0 x1) (by decide) (Or.inl rfl) rfl rfl rfl rfl q1007 q1009 qs8 q101 q1010 rfl dd_X1_node (by decide) (by decide) (Nat.le_of_ble_eq_true rfl) (htX1_start (2, .invokevirtual 86, 3) (gx_m 2 rfl))) ?_
  refine gx_Jcr (pc := 2) (t2 := 14) (gx_hst (as := [gx_i x1]) (b := gx_r 2 (some x0))) (gx_runV (as := [gx_i x1]) (ci := 1) (gx_CtX.un gx_Or_r (ct_X1_node Y hT x0 x1)) (by decide) (Or.inl rfl) rfl rfl rfl rfl q1007 q1009 qs8 q101 q1010 rfl dd_X1_node (by decide) (by decide) (Nat.le_of_ble_eq_true rfl) (htX1_start (2, .invokevirtual 86, 3) (gx_m 2 rfl))) (fun v1 => ?_)
  refine gx_astore_n (pc := 5) (n := 2) (i := 2) (lv' := [(2, gx_r 14 (some v1)), (0, gx_r 2 (some x0)), (1, gx_i x1)]) rfl (by decide) rfl (htX1_start (5, .astore_n 2, 1) (gx_m 3 rfl)) ?_
  refine gx_aload_n (pc := 6) (n := 2) (i := 2) rfl 0 rfl (htX1_start (6, .aload_n 2, 1) (gx_m 4 rfl)) ?_
  refine gx_Jgi (pc := 7) (ci := 13) (kk := 7) (by decide) (Or.inl rfl) (by decide) (by decide) q558 (htX1_start (7, .getfield 90, 3) (gx_m 5 rfl)) (fun v2 hv2 => ?_)
  refine gx_JX (pc := 10) rfl (fun _ => rfl) (gx_runST (as := [gx_i v2]) (ct_X1_there Y hT v2) rfl rfl rfl q1011 q1012 q101 q1013 rfl dd_X1_there (by decide) (by decide) (Nat.le_of_ble_eq_true rfl) (htX1_start (10, .invokestatic 83, 3) (gx_m 6 rfl))) ?_
  refine gx_Jcv (pc := 10) (gx_hstS (as := [gx_i v2])) (gx_runS (as := [gx_i v2]) (gx_CtX.un gx_Ov_r (ct_X1_there Y hT v2)) rfl rfl rfl q1011 q1012 q101 q1013 rfl dd_X1_there (by decide) (by decide) (Nat.le_of_ble_eq_true rfl) (htX1_start (10, .invokestatic 83, 3) (gx_m 6 rfl))) ?_
  refine gx_aload_n (pc := 13) (n := 2) (i := 2) rfl 0 rfl (htX1_start (13, .aload_n 2, 1) (gx_m 7 rfl)) ?_
  refine gx_Jcv (pc := 14) (gx_hst (as := []) (b := gx_r 14 (some v1))) (gx_runV (as := []) (ci := 13) (ct_X13_rise Y v1) (by decide) (Or.inl rfl) rfl rfl rfl rfl q1389 q848 q849 q113 q850 rfl dd_X13_rise (by decide) (by decide) (Nat.le_of_ble_eq_true rfl) (htX1_start (14, .invokevirtual 194, 3) (gx_m 8 rfl))) ?_
  exact gx_Jvret (pc := 17) rfl (fun _ => trivial) (fun _ _ => rfl) (htX1_start (17, .return_, 1) (gx_m 9 rfl))
theorem ct_X1_deliver (Y : gx_Y) (hT : gx_Tr Y) (x0 : gx_Nm) (x1 : Int32) (x2 : Int32) : gx_CtX Y yX1_deliver (ws_ yX1_deliver cX1_deliver 5 none) 12 372 [gx_r 2 (some x0), gx_i x1, gx_i x2] (gx_Ox gx_Ov) (f_X1_deliver x0 x1 x2) := by
  refine gx_startX (lv := [(0, gx_r 2 (some x0)), (1, gx_i x1), (2, gx_i x2)]) pn_X1 (Nat.le_of_ble_eq_true rfl) rfl ?_
  unfold f_X1_deliver
  refine gx_iload_n (pc := 0) (n := 1) (i := 1) rfl 1 rfl (htX1_deliver (0, .iload_n 1, 1) (gx_m 0 rfl)) ?_
  refine gx_iconst (pc := 1) (v := 0) (by decide) (htX1_deliver (1, .iconst 0, 1) (gx_m 1 rfl)) ?_
  refine gx_aload_n (pc := 2) (n := 0) (i := 0) rfl 0 rfl (htX1_deliver (2, .aload_n 0, 1) (gx_m 2 rfl)) ?_
  refine gx_Jgs (pc := 3) (ci := 1) (kk := 0) (t2 := 3) (by decide) (by decide) rfl rfl rfl q697 (htX1_deliver (3, .getfield 22, 3) (gx_m 3 rfl)) ?_
  refine gx_Jgs (pc := 6) (ci := 2) (kk := 3) (t2 := 11) (by decide) (by decide) rfl rfl rfl q411 (htX1_deliver (6, .getfield 197, 3) (gx_m 4 rfl)) ?_
  refine gx_Jgs (pc := 9) (ci := 10) (kk := 0) (t2 := 12) (by decide) (by decide) rfl rfl rfl q389 (htX1_deliver (9, .getfield 201, 3) (gx_m 5 rfl)) ?_
  refine gx_Jgi (pc := 12) (ci := 11) (kk := 1) (by decide) (Or.inl rfl) (by decide) (by decide) q382 (htX1_deliver (12, .getfield 207, 3) (gx_m 6 rfl)) (fun v1 hv1 => ?_)
  refine gx_iconst (pc := 15) (v := 1) (by decide) (htX1_deliver (15, .iconst 1, 1) (gx_m 7 rfl)) ?_
  refine gx_isub (pc := 16) (htX1_deliver (16, .isub, 1) (gx_m 8 rfl)) ?_
  refine gx_Jcz (pc := 17) (gx_hstS (as := [gx_i x1, gx_i 0, gx_i (v1 - 1)])) (gx_runS (as := [gx_i x1, gx_i 0, gx_i (v1 - 1)]) (ct_X1_in Y x1 0 (v1 - 1)) rfl rfl rfl q756 q757 q101 q758 rfl dd_X1_in (by decide) (by decide) (Nat.le_of_ble_eq_true rfl) (htX1_deliver (17, .invokestatic 69, 3) (gx_m 9 rfl))) (fun v2 hv2 => ?_)
  refine gx_JX (pc := 20) rfl (fun _ => rfl) (gx_runST (as := [gx_i v2]) (ct_X1_there Y hT v2) rfl rfl rfl q1011 q1012 q101 q1013 rfl dd_X1_there (by decide) (by decide) (Nat.le_of_ble_eq_true rfl) (htX1_deliver (20, .invokestatic 83, 3) (gx_m 10 rfl))) ?_
  refine gx_Jcv (pc := 20) (gx_hstS (as := [gx_i v2])) (gx_runS (as := [gx_i v2]) (gx_CtX.un gx_Ov_r (ct_X1_there Y hT v2)) rfl rfl rfl q1011 q1012 q101 q1013 rfl dd_X1_there (by decide) (by decide) (Nat.le_of_ble_eq_true rfl) (htX1_deliver (20, .invokestatic 83, 3) (gx_m 10 rfl))) ?_
  refine gx_aload_n (pc := 23) (n := 0) (i := 0) rfl 0 rfl (htX1_deliver (23, .aload_n 0, 1) (gx_m 11 rfl)) ?_
  refine gx_Jgs (pc := 24) (ci := 1) (kk := 0) (t2 := 3) (by decide) (by decide) rfl rfl rfl q697 (htX1_deliver (24, .getfield 22, 3) (gx_m 12 rfl)) ?_
  refine gx_Jgs (pc := 27) (ci := 2) (kk := 3) (t2 := 11) (by decide) (by decide) rfl rfl rfl q411 (htX1_deliver (27, .getfield 197, 3) (gx_m 13 rfl)) ?_
  refine gx_Jgs (pc := 30) (ci := 10) (kk := 0) (t2 := 12) (by decide) (by decide) rfl rfl rfl q389 (htX1_deliver (30, .getfield 201, 3) (gx_m 14 rfl)) ?_
  refine gx_iload_n (pc := 33) (n := 1) (i := 1) rfl 1 rfl (htX1_deliver (33, .iload_n 1, 1) (gx_m 15 rfl)) ?_
  refine gx_Jcr (pc := 34) (t2 := 18) (gx_hst (as := [gx_i x1]) (b := gx_r 12 (some (0 :: 3 :: 0 :: x0)))) (gx_runV (as := [gx_i x1]) (ci := 11) (ct_X11_get Y (0 :: 3 :: 0 :: x0) x1) (by decide) (Or.inl rfl) rfl rfl rfl rfl q1397 q1264 q1265 q111 q1266 rfl dd_X11_get (by decide) (by decide) (Nat.le_of_ble_eq_true rfl) (htX1_deliver (34, .invokevirtual 210, 3) (gx_m 16 rfl))) (fun v3 => ?_)
  refine gx_astore_n (pc := 37) (n := 3) (i := 3) (lv' := [(3, gx_r 18 (some v3)), (0, gx_r 2 (some x0)), (1, gx_i x1), (2, gx_i x2)]) rfl (by decide) rfl (htX1_deliver (37, .astore_n 3, 1) (gx_m 17 rfl)) ?_
  refine gx_aload_n (pc := 38) (n := 0) (i := 0) rfl 1 rfl (htX1_deliver (38, .aload_n 0, 1) (gx_m 18 rfl)) ?_
  refine gx_Jgs (pc := 39) (ci := 1) (kk := 1) (t2 := 104) (by decide) (by decide) rfl rfl rfl q698 (htX1_deliver (39, .getfield 30, 3) (gx_m 19 rfl)) ?_
  refine gx_aload_n (pc := 42) (n := 3) (i := 3) rfl 0 rfl (htX1_deliver (42, .aload_n 3, 1) (gx_m 20 rfl)) ?_
  refine gx_Jgi (pc := 43) (ci := 17) (kk := 2) (by decide) (Or.inl rfl) (by decide) (by decide) q1120 (htX1_deliver (43, .getfield 214, 3) (gx_m 21 rfl)) (fun v4 hv4 => ?_)
  refine gx_Jra (pc := 46) (t := 4) (t2 := 14) (by decide) (by decide) rfl (htX1_deliver (46, .aaload, 1) (gx_m 22 rfl)) (fun v5 => ?_)
  refine gx_astore (pc := 47) (i := 4) (lv' := [(4, gx_r 14 (some v5)), (3, gx_r 18 (some v3)), (0, gx_r 2 (some x0)), (1, gx_i x1), (2, gx_i x2)]) (by decide) rfl (htX1_deliver (47, .astore 4, 2) (gx_m 23 rfl)) ?_
  refine gx_aload (pc := 49) (i := 4) 0 rfl (htX1_deliver (49, .aload 4, 2) (gx_m 24 rfl)) ?_
  refine gx_Jgi (pc := 51) (ci := 13) (kk := 7) (by decide) (Or.inl rfl) (by decide) (by decide) q558 (htX1_deliver (51, .getfield 90, 3) (gx_m 25 rfl)) (fun v6 hv6 => ?_)
  refine gx_Jjoin (pcJ := 86) (lvJ := fun (j9 : Int32) => [(0, gx_r 2 (some x0)), (1, gx_i x1), (2, gx_i x2), (3, gx_r 18 (some v3)), (4, gx_r 14 (some v5))]) (stJ := fun (j9 : Int32) => [gx_i j9]) (fun (j9 : Int32) => j9 &&& 1 = j9) (fun j9 hj9 => ?_) (fun kk1 hj1 => ?_)
  · refine gx_JX (pc := 86) rfl (fun _ => rfl) (gx_runST (as := [gx_i j9]) (ct_X1_room Y hT j9) rfl rfl rfl q909 q910 q101 q911 rfl dd_X1_room (by decide) (by decide) (Nat.le_of_ble_eq_true rfl) (htX1_deliver (86, .invokestatic 100, 3) (gx_m 41 rfl))) ?_
    refine gx_Jcv (pc := 86) (gx_hstS (as := [gx_i j9])) (gx_runS (as := [gx_i j9]) (gx_CtX.un gx_Ov_r (ct_X1_room Y hT j9)) rfl rfl rfl q909 q910 q101 q911 rfl dd_X1_room (by decide) (by decide) (Nat.le_of_ble_eq_true rfl) (htX1_deliver (86, .invokestatic 100, 3) (gx_m 41 rfl))) ?_
    refine gx_iload_n (pc := 89) (n := 2) (i := 2) rfl 2 rfl (htX1_deliver (89, .iload_n 2, 1) (gx_m 42 rfl)) ?_
    refine gx_Jjoin (pcJ := 108) (lvJ := fun (j_2 : Unit) => [(0, gx_r 2 (some x0)), (2, gx_i x2), (3, gx_r 18 (some v3)), (4, gx_r 14 (some v5))]) (stJ := fun (j_2 : Unit) => []) (fun _ => True) (fun j_2 hj_2 => ?_) (fun kk2 hj2 => ?_)
    · refine gx_aload (pc := 108) (i := 4) 3 rfl (htX1_deliver (108, .aload 4, 2) (gx_m 51 rfl)) ?_
      refine gx_Jgi (pc := 110) (ci := 13) (kk := 7) (by decide) (Or.inl rfl) (by decide) (by decide) q558 (htX1_deliver (110, .getfield 90, 3) (gx_m 52 rfl)) (fun v11 hv11 => ?_)
      refine gx_Jjoin (pcJ := 122) (lvJ := fun (j_3 : Unit) => [(0, gx_r 2 (some x0)), (2, gx_i x2), (3, gx_r 18 (some v3))]) (stJ := fun (j_3 : Unit) => []) (fun _ => True) (fun j_3 hj_3 => ?_) (fun kk3 hj3 => ?_)
      · refine gx_iload_n (pc := 122) (n := 2) (i := 2) rfl 1 rfl (htX1_deliver (122, .iload_n 2, 1) (gx_m 57 rfl)) ?_
        refine gx_Jjoin (pcJ := 137) (lvJ := fun (j_4 : Unit) => []) (stJ := fun (j_4 : Unit) => []) (fun _ => True) (fun j_4 hj_4 => ?_) (fun kk4 hj4 => ?_)
        · exact gx_Jvret (pc := 137) rfl (fun _ => trivial) (fun _ _ => rfl) (htX1_deliver (137, .return_, 1) (gx_m 64 rfl))
        · refine gx_if_ne (pc := 123) (y := 0) (tgt := 137) (by decide) (htX1_deliver (123, .ifCond .ne 14, 3) (gx_m 58 rfl)) (fun c5 => ?_) (fun c5 => ?_)
          · refine gx_aload_n (pc := 126) (n := 0) (i := 0) rfl 0 rfl (htX1_deliver (126, .aload_n 0, 1) (gx_m 59 rfl)) ?_
            refine gx_Jgs (pc := 127) (ci := 1) (kk := 0) (t2 := 3) (by decide) (by decide) rfl rfl rfl q697 (htX1_deliver (127, .getfield 22, 3) (gx_m 60 rfl)) ?_
            refine gx_Jgs (pc := 130) (ci := 2) (kk := 3) (t2 := 11) (by decide) (by decide) rfl rfl rfl q411 (htX1_deliver (130, .getfield 197, 3) (gx_m 61 rfl)) ?_
            refine gx_aload_n (pc := 133) (n := 3) (i := 3) rfl 2 rfl (htX1_deliver (133, .aload_n 3, 1) (gx_m 62 rfl)) ?_
            refine gx_Jcv (pc := 134) (gx_hst (as := [gx_r 18 (some v3)]) (b := gx_r 11 (some (3 :: 0 :: x0)))) (gx_runV (as := [gx_r 18 (some v3)]) (ci := 10) (ct_X10_leave Y (3 :: 0 :: x0) v3) (by decide) (Or.inl rfl) rfl rfl rfl rfl q1460 q844 q845 q110 q846 rfl dd_X10_leave (by decide) (by decide) (Nat.le_of_ble_eq_true rfl) (htX1_deliver (134, .invokevirtual 230, 3) (gx_m 63 rfl))) ?_
            refine gx_Jw (lv := []) [] rfl ?_
            exact hj4 () trivial
          · refine gx_Jw (lv := []) [] rfl ?_
            exact hj4 () trivial
      · refine gx_if_ne (pc := 113) (y := 0) (tgt := 122) (by decide) (htX1_deliver (113, .ifCond .ne 9, 3) (gx_m 53 rfl)) (fun c6 => ?_) (fun c6 => ?_)
        · refine gx_aload (pc := 116) (i := 4) 3 rfl (htX1_deliver (116, .aload 4, 2) (gx_m 54 rfl)) ?_
          refine gx_aload_n (pc := 118) (n := 3) (i := 3) rfl 2 rfl (htX1_deliver (118, .aload_n 3, 1) (gx_m 55 rfl)) ?_
          refine gx_Jcv (pc := 119) (gx_hst (as := [gx_r 18 (some v3)]) (b := gx_r 14 (some v5))) (gx_runV (as := [gx_r 18 (some v3)]) (ci := 13) (ct_X13_receive Y v5 v3) (by decide) (Or.inl rfl) rfl rfl rfl rfl q1406 q1407 q1408 q113 q1409 rfl dd_X13_receive (by decide) (by decide) (Nat.le_of_ble_eq_true rfl) (htX1_deliver (119, .invokevirtual 226, 3) (gx_m 56 rfl))) ?_
          refine gx_Jw (lv := [(0, gx_r 2 (some x0)), (2, gx_i x2), (3, gx_r 18 (some v3))]) [0, 1, 2] rfl ?_
          exact hj3 () trivial
        · refine gx_Jw (lv := [(0, gx_r 2 (some x0)), (2, gx_i x2), (3, gx_r 18 (some v3))]) [0, 1, 2] rfl ?_
          exact hj3 () trivial
    · refine gx_if_ne (pc := 90) (y := 0) (tgt := 108) (by decide) (htX1_deliver (90, .ifCond .ne 18, 3) (gx_m 43 rfl)) (fun c7 => ?_) (fun c7 => ?_)
      · refine gx_aload_n (pc := 93) (n := 0) (i := 0) rfl 0 rfl (htX1_deliver (93, .aload_n 0, 1) (gx_m 44 rfl)) ?_
        refine gx_Jgs (pc := 94) (ci := 1) (kk := 0) (t2 := 3) (by decide) (by decide) rfl rfl rfl q697 (htX1_deliver (94, .getfield 22, 3) (gx_m 45 rfl)) ?_
        refine gx_Jgs (pc := 97) (ci := 2) (kk := 3) (t2 := 11) (by decide) (by decide) rfl rfl rfl q411 (htX1_deliver (97, .getfield 197, 3) (gx_m 46 rfl)) ?_
        refine gx_Jgs (pc := 100) (ci := 10) (kk := 0) (t2 := 12) (by decide) (by decide) rfl rfl rfl q389 (htX1_deliver (100, .getfield 201, 3) (gx_m 47 rfl)) ?_
        refine gx_iload_n (pc := 103) (n := 1) (i := 1) rfl 1 rfl (htX1_deliver (103, .iload_n 1, 1) (gx_m 48 rfl)) ?_
        refine gx_Jcr (pc := 104) (t2 := 18) (gx_hst (as := [gx_i x1]) (b := gx_r 12 (some (0 :: 3 :: 0 :: x0)))) (gx_runV (as := [gx_i x1]) (ci := 11) (ct_X11_remove Y (0 :: 3 :: 0 :: x0) x1) (by decide) (Or.inl rfl) rfl rfl rfl rfl q1402 q1403 q1404 q111 q1405 rfl dd_X11_remove (by decide) (by decide) (Nat.le_of_ble_eq_true rfl) (htX1_deliver (104, .invokevirtual 223, 3) (gx_m 49 rfl))) (fun v10 => ?_)
        refine gx_pop (pc := 107) rfl (htX1_deliver (107, .pop, 1) (gx_m 50 rfl)) ?_
        refine gx_Jw (lv := [(0, gx_r 2 (some x0)), (2, gx_i x2), (3, gx_r 18 (some v3)), (4, gx_r 14 (some v5))]) [0, 2, 3, 4] rfl ?_
        exact hj2 () trivial
      · refine gx_Jw (lv := [(0, gx_r 2 (some x0)), (2, gx_i x2), (3, gx_r 18 (some v3)), (4, gx_r 14 (some v5))]) [0, 2, 3, 4] rfl ?_
        exact hj2 () trivial
  · refine gx_if_ne (pc := 54) (y := 0) (tgt := 81) (by decide) (htX1_deliver (54, .ifCond .ne 27, 3) (gx_m 26 rfl)) (fun c8 => ?_) (fun c8 => ?_)
    · refine gx_aload (pc := 57) (i := 4) 0 rfl (htX1_deliver (57, .aload 4, 2) (gx_m 27 rfl)) ?_
      refine gx_aload_n (pc := 59) (n := 3) (i := 3) rfl 1 rfl (htX1_deliver (59, .aload_n 3, 1) (gx_m 28 rfl)) ?_
      refine gx_Jcz (pc := 60) (gx_hst (as := [gx_r 18 (some v3)]) (b := gx_r 14 (some v5))) (gx_runV (as := [gx_r 18 (some v3)]) (ci := 13) (ct_X13_wouldLead Y v5 v3) (by decide) (Or.inl rfl) rfl rfl rfl rfl q1398 q1399 q1400 q113 q1401 rfl dd_X13_wouldLead (by decide) (by decide) (Nat.le_of_ble_eq_true rfl) (htX1_deliver (60, .invokevirtual 219, 3) (gx_m 29 rfl))) (fun v7 hv7 => ?_)
      refine gx_if_eq (pc := 63) (y := 0) (tgt := 81) (by decide) (htX1_deliver (63, .ifCond .eq 18, 3) (gx_m 30 rfl)) (fun c9 => ?_) (fun c9 => ?_)
      · refine gx_iconst (pc := 81) (v := 1) (by decide) (htX1_deliver (81, .iconst 1, 1) (gx_m 38 rfl)) ?_
        refine gx_goto (pc := 82) (tgt := 86) (by decide) (htX1_deliver (82, .goto 4, 3) (gx_m 39 rfl)) ?_
        refine gx_Jw (lv := [(0, gx_r 2 (some x0)), (1, gx_i x1), (2, gx_i x2), (3, gx_r 18 (some v3)), (4, gx_r 14 (some v5))]) [2, 3, 4, 1, 0] rfl ?_
        exact hj1 (1 : Int32) gx_b1
      · refine gx_aload_n (pc := 66) (n := 0) (i := 0) rfl 2 rfl (htX1_deliver (66, .aload_n 0, 1) (gx_m 31 rfl)) ?_
        refine gx_Jgs (pc := 67) (ci := 1) (kk := 0) (t2 := 3) (by decide) (by decide) rfl rfl rfl q697 (htX1_deliver (67, .getfield 22, 3) (gx_m 32 rfl)) ?_
        refine gx_Jgs (pc := 70) (ci := 2) (kk := 0) (t2 := 4) (by decide) (by decide) rfl rfl rfl q403 (htX1_deliver (70, .getfield 157, 3) (gx_m 33 rfl)) ?_
        refine gx_iconst (pc := 73) (v := 1) (by decide) (htX1_deliver (73, .iconst 1, 1) (gx_m 34 rfl)) ?_
        refine gx_iconst (pc := 74) (v := 0) (by decide) (htX1_deliver (74, .iconst 0, 1) (gx_m 35 rfl)) ?_
        refine gx_Jcz (pc := 75) (gx_hst (as := [gx_i 1, gx_i 0]) (b := gx_r 4 (some (0 :: 0 :: x0)))) (gx_runV (as := [gx_i 1, gx_i 0]) (ci := 3) (ct_X3_fits Y (0 :: 0 :: x0) 1 0) (by decide) (Or.inl rfl) rfl rfl rfl rfl q1047 q1048 q1049 q103 q1050 rfl dd_X3_fits (by decide) (by decide) (Nat.le_of_ble_eq_true rfl) (htX1_deliver (75, .invokevirtual 163, 3) (gx_m 36 rfl))) (fun v8 hv8 => ?_)
        refine gx_if_eq (pc := 78) (y := 0) (tgt := 85) (by decide) (htX1_deliver (78, .ifCond .eq 7, 3) (gx_m 37 rfl)) (fun c10 => ?_) (fun c10 => ?_)
        · refine gx_iconst (pc := 85) (v := 0) (by decide) (htX1_deliver (85, .iconst 0, 1) (gx_m 40 rfl)) ?_
          refine gx_Jw (lv := [(0, gx_r 2 (some x0)), (1, gx_i x1), (2, gx_i x2), (3, gx_r 18 (some v3)), (4, gx_r 14 (some v5))]) [2, 3, 4, 1, 0] rfl ?_
          exact hj1 (0 : Int32) gx_b0
        · refine gx_iconst (pc := 81) (v := 1) (by decide) (htX1_deliver (81, .iconst 1, 1) (gx_m 38 rfl)) ?_
          refine gx_goto (pc := 82) (tgt := 86) (by decide) (htX1_deliver (82, .goto 4, 3) (gx_m 39 rfl)) ?_
          refine gx_Jw (lv := [(0, gx_r 2 (some x0)), (1, gx_i x1), (2, gx_i x2), (3, gx_r 18 (some v3)), (4, gx_r 14 (some v5))]) [2, 3, 4, 1, 0] rfl ?_
          exact hj1 (1 : Int32) gx_b1
    · refine gx_iconst (pc := 81) (v := 1) (by decide) (htX1_deliver (81, .iconst 1, 1) (gx_m 38 rfl)) ?_
      refine gx_goto (pc := 82) (tgt := 86) (by decide) (htX1_deliver (82, .goto 4, 3) (gx_m 39 rfl)) ?_
      refine gx_Jw (lv := [(0, gx_r 2 (some x0)), (1, gx_i x1), (2, gx_i x2), (3, gx_r 18 (some v3)), (4, gx_r 14 (some v5))]) [2, 3, 4, 1, 0] rfl ?_
      exact hj1 (1 : Int32) gx_b1
theorem ct_X1_lose (Y : gx_Y) (hT : gx_Tr Y) (x0 : gx_Nm) (x1 : Int32) : gx_CtX Y yX1_lose (ws_ yX1_lose cX1_lose 2 none) 9 320 [gx_r 2 (some x0), gx_i x1] (gx_Ox gx_Ov) (f_X1_lose x0 x1) := by
  refine gx_startX (lv := [(0, gx_r 2 (some x0)), (1, gx_i x1)]) pn_X1 (Nat.le_of_ble_eq_true rfl) rfl ?_
  unfold f_X1_lose
  refine gx_iload_n (pc := 0) (n := 1) (i := 1) rfl 1 rfl (htX1_lose (0, .iload_n 1, 1) (gx_m 0 rfl)) ?_
  refine gx_iconst (pc := 1) (v := 0) (by decide) (htX1_lose (1, .iconst 0, 1) (gx_m 1 rfl)) ?_
  refine gx_aload_n (pc := 2) (n := 0) (i := 0) rfl 0 rfl (htX1_lose (2, .aload_n 0, 1) (gx_m 2 rfl)) ?_
  refine gx_Jgs (pc := 3) (ci := 1) (kk := 0) (t2 := 3) (by decide) (by decide) rfl rfl rfl q697 (htX1_lose (3, .getfield 22, 3) (gx_m 3 rfl)) ?_
  refine gx_Jgs (pc := 6) (ci := 2) (kk := 3) (t2 := 11) (by decide) (by decide) rfl rfl rfl q411 (htX1_lose (6, .getfield 197, 3) (gx_m 4 rfl)) ?_
  refine gx_Jgs (pc := 9) (ci := 10) (kk := 0) (t2 := 12) (by decide) (by decide) rfl rfl rfl q389 (htX1_lose (9, .getfield 201, 3) (gx_m 5 rfl)) ?_
  refine gx_Jgi (pc := 12) (ci := 11) (kk := 1) (by decide) (Or.inl rfl) (by decide) (by decide) q382 (htX1_lose (12, .getfield 207, 3) (gx_m 6 rfl)) (fun v1 hv1 => ?_)
  refine gx_iconst (pc := 15) (v := 1) (by decide) (htX1_lose (15, .iconst 1, 1) (gx_m 7 rfl)) ?_
  refine gx_isub (pc := 16) (htX1_lose (16, .isub, 1) (gx_m 8 rfl)) ?_
  refine gx_Jcz (pc := 17) (gx_hstS (as := [gx_i x1, gx_i 0, gx_i (v1 - 1)])) (gx_runS (as := [gx_i x1, gx_i 0, gx_i (v1 - 1)]) (ct_X1_in Y x1 0 (v1 - 1)) rfl rfl rfl q756 q757 q101 q758 rfl dd_X1_in (by decide) (by decide) (Nat.le_of_ble_eq_true rfl) (htX1_lose (17, .invokestatic 69, 3) (gx_m 9 rfl))) (fun v2 hv2 => ?_)
  refine gx_JX (pc := 20) rfl (fun _ => rfl) (gx_runST (as := [gx_i v2]) (ct_X1_there Y hT v2) rfl rfl rfl q1011 q1012 q101 q1013 rfl dd_X1_there (by decide) (by decide) (Nat.le_of_ble_eq_true rfl) (htX1_lose (20, .invokestatic 83, 3) (gx_m 10 rfl))) ?_
  refine gx_Jcv (pc := 20) (gx_hstS (as := [gx_i v2])) (gx_runS (as := [gx_i v2]) (gx_CtX.un gx_Ov_r (ct_X1_there Y hT v2)) rfl rfl rfl q1011 q1012 q101 q1013 rfl dd_X1_there (by decide) (by decide) (Nat.le_of_ble_eq_true rfl) (htX1_lose (20, .invokestatic 83, 3) (gx_m 10 rfl))) ?_
  refine gx_aload_n (pc := 23) (n := 0) (i := 0) rfl 0 rfl (htX1_lose (23, .aload_n 0, 1) (gx_m 11 rfl)) ?_
  refine gx_Jgs (pc := 24) (ci := 1) (kk := 0) (t2 := 3) (by decide) (by decide) rfl rfl rfl q697 (htX1_lose (24, .getfield 22, 3) (gx_m 12 rfl)) ?_
  refine gx_Jgs (pc := 27) (ci := 2) (kk := 3) (t2 := 11) (by decide) (by decide) rfl rfl rfl q411 (htX1_lose (27, .getfield 197, 3) (gx_m 13 rfl)) ?_
  refine gx_aload_n (pc := 30) (n := 0) (i := 0) rfl 0 rfl (htX1_lose (30, .aload_n 0, 1) (gx_m 14 rfl)) ?_
  refine gx_Jgs (pc := 31) (ci := 1) (kk := 0) (t2 := 3) (by decide) (by decide) rfl rfl rfl q697 (htX1_lose (31, .getfield 22, 3) (gx_m 15 rfl)) ?_
  refine gx_Jgs (pc := 34) (ci := 2) (kk := 3) (t2 := 11) (by decide) (by decide) rfl rfl rfl q411 (htX1_lose (34, .getfield 197, 3) (gx_m 16 rfl)) ?_
  refine gx_Jgs (pc := 37) (ci := 10) (kk := 0) (t2 := 12) (by decide) (by decide) rfl rfl rfl q389 (htX1_lose (37, .getfield 201, 3) (gx_m 17 rfl)) ?_
  refine gx_iload_n (pc := 40) (n := 1) (i := 1) rfl 1 rfl (htX1_lose (40, .iload_n 1, 1) (gx_m 18 rfl)) ?_
  refine gx_Jcr (pc := 41) (t2 := 18) (gx_hst (as := [gx_i x1]) (b := gx_r 12 (some (0 :: 3 :: 0 :: x0)))) (gx_runV (as := [gx_i x1]) (ci := 11) (ct_X11_remove Y (0 :: 3 :: 0 :: x0) x1) (by decide) (Or.inl rfl) rfl rfl rfl rfl q1402 q1403 q1404 q111 q1405 rfl dd_X11_remove (by decide) (by decide) (Nat.le_of_ble_eq_true rfl) (htX1_lose (41, .invokevirtual 223, 3) (gx_m 19 rfl))) (fun v3 => ?_)
  refine gx_Jcv (pc := 44) (gx_hst (as := [gx_r 18 (some v3)]) (b := gx_r 11 (some (3 :: 0 :: x0)))) (gx_runV (as := [gx_r 18 (some v3)]) (ci := 10) (ct_X10_leave Y (3 :: 0 :: x0) v3) (by decide) (Or.inl rfl) rfl rfl rfl rfl q1460 q844 q845 q110 q846 rfl dd_X10_leave (by decide) (by decide) (Nat.le_of_ble_eq_true rfl) (htX1_lose (44, .invokevirtual 230, 3) (gx_m 20 rfl))) ?_
  exact gx_Jvret (pc := 47) rfl (fun _ => trivial) (fun _ _ => rfl) (htX1_lose (47, .return_, 1) (gx_m 21 rfl))
theorem ct_X1_snapshot (Y : gx_Y) (hT : gx_Tr Y) (x0 : gx_Nm) (x1 : Int32) : gx_CtX Y yX1_snapshot (ws_ yX1_snapshot cX1_snapshot 3 (some .int)) 11 363 [gx_r 2 (some x0), gx_i x1] (gx_Ox gx_Oi) (f_X1_snapshot x0 x1) := by
  refine gx_startX (lv := [(0, gx_r 2 (some x0)), (1, gx_i x1)]) pn_X1 (Nat.le_of_ble_eq_true rfl) rfl ?_
  unfold f_X1_snapshot
  refine gx_aload_n (pc := 0) (n := 0) (i := 0) rfl 0 rfl (htX1_snapshot (0, .aload_n 0, 1) (gx_m 0 rfl)) ?_
  refine gx_iload_n (pc := 1) (n := 1) (i := 1) rfl 1 rfl (htX1_snapshot (1, .iload_n 1, 1) (gx_m 1 rfl)) ?_
  refine gx_JX (pc := 2) rfl (fun _ => rfl) (gx_runVT (as := [gx_i x1]) (ci := 1) (ct_X1_up Y hT x0 x1) (by decide) (Or.inl rfl) rfl rfl rfl rfl q1003 q1005 qs7 q101 q1006 rfl dd_X1_up (by decide) (by decide) (Nat.le_of_ble_eq_true rfl) (htX1_snapshot (2, .invokevirtual 148, 3) (gx_m 2 rfl))) ?_
  refine gx_Jcr (pc := 2) (t2 := 14) (gx_hst (as := [gx_i x1]) (b := gx_r 2 (some x0))) (gx_runV (as := [gx_i x1]) (ci := 1) (gx_CtX.un gx_Or_r (ct_X1_up Y hT x0 x1)) (by decide) (Or.inl rfl) rfl rfl rfl rfl q1003 q1005 qs7 q101 q1006 rfl dd_X1_up (by decide) (by decide) (Nat.le_of_ble_eq_true rfl) (htX1_snapshot (2, .invokevirtual 148, 3) (gx_m 2 rfl))) (fun v1 => ?_)
  refine gx_astore_n (pc := 5) (n := 2) (i := 2) (lv' := [(2, gx_r 14 (some v1)), (0, gx_r 2 (some x0)), (1, gx_i x1)]) rfl (by decide) rfl (htX1_snapshot (5, .astore_n 2, 1) (gx_m 3 rfl)) ?_
  refine gx_aload_n (pc := 6) (n := 2) (i := 2) rfl 0 rfl (htX1_snapshot (6, .aload_n 2, 1) (gx_m 4 rfl)) ?_
  refine gx_Jgi (pc := 7) (ci := 13) (kk := 10) (by decide) (Or.inl rfl) (by decide) (by decide) q564 (htX1_snapshot (7, .getfield 233, 3) (gx_m 5 rfl)) (fun v2 hv2 => ?_)
  refine gx_aload_n (pc := 10) (n := 2) (i := 2) rfl 0 rfl (htX1_snapshot (10, .aload_n 2, 1) (gx_m 6 rfl)) ?_
  refine gx_Jgs (pc := 11) (ci := 13) (kk := 5) (t2 := 16) (by decide) (by decide) rfl rfl rfl q555 (htX1_snapshot (11, .getfield 236, 3) (gx_m 7 rfl)) ?_
  refine gx_Jgi (pc := 14) (ci := 15) (kk := 1) (by decide) (Or.inl rfl) (by decide) (by decide) q508 (htX1_snapshot (14, .getfield 240, 3) (gx_m 8 rfl)) (fun v3 hv3 => ?_)
  refine gx_Jjoin (pcJ := 25) (lvJ := fun (j4 : Int32) => [(2, gx_r 14 (some v1))]) (stJ := fun (j4 : Int32) => [gx_i j4]) (fun (j4 : Int32) => j4 &&& 1 = j4) (fun j4 hj4 => ?_) (fun kk1 hj1 => ?_)
  · refine gx_JX (pc := 25) rfl (fun _ => rfl) (gx_runST (as := [gx_i j4]) (ct_X1_allowed Y hT j4) rfl rfl rfl q1029 q1030 q101 q1031 rfl dd_X1_allowed (by decide) (by decide) (Nat.le_of_ble_eq_true rfl) (htX1_snapshot (25, .invokestatic 154, 3) (gx_m 13 rfl))) ?_
    refine gx_Jcv (pc := 25) (gx_hstS (as := [gx_i j4])) (gx_runS (as := [gx_i j4]) (gx_CtX.un gx_Ov_r (ct_X1_allowed Y hT j4)) rfl rfl rfl q1029 q1030 q101 q1031 rfl dd_X1_allowed (by decide) (by decide) (Nat.le_of_ble_eq_true rfl) (htX1_snapshot (25, .invokestatic 154, 3) (gx_m 13 rfl))) ?_
    refine gx_aload_n (pc := 28) (n := 2) (i := 2) rfl 0 rfl (htX1_snapshot (28, .aload_n 2, 1) (gx_m 14 rfl)) ?_
    refine gx_Jcv (pc := 29) (gx_hst (as := []) (b := gx_r 14 (some v1))) (gx_runV (as := []) (ci := 13) (ct_X13_snapshot Y v1) (by decide) (Or.inl rfl) rfl rfl rfl rfl q1475 q1476 q1477 q113 q1478 rfl dd_X13_snapshot (by decide) (by decide) (Nat.le_of_ble_eq_true rfl) (htX1_snapshot (29, .invokevirtual 245, 3) (gx_m 15 rfl))) ?_
    refine gx_aload_n (pc := 32) (n := 2) (i := 2) rfl 0 rfl (htX1_snapshot (32, .aload_n 2, 1) (gx_m 16 rfl)) ?_
    refine gx_Jgs (pc := 33) (ci := 13) (kk := 5) (t2 := 16) (by decide) (by decide) rfl rfl rfl q555 (htX1_snapshot (33, .getfield 236, 3) (gx_m 17 rfl)) ?_
    refine gx_Jgi (pc := 36) (ci := 15) (kk := 1) (by decide) (Or.inl rfl) (by decide) (by decide) q508 (htX1_snapshot (36, .getfield 240, 3) (gx_m 18 rfl)) (fun v5 hv5 => ?_)
    exact gx_Jiret (pc := 39) rfl (fun _ => trivial) (fun _ _ => rfl) (htX1_snapshot (39, .ireturn, 1) (gx_m 19 rfl))
  · refine gx_icmp_le (pc := 17) (tgt := 24) (by decide) (htX1_snapshot (17, .if_icmp .le 7, 3) (gx_m 9 rfl)) (fun c2 => ?_) (fun c2 => ?_)
    · refine gx_iconst (pc := 24) (v := 0) (by decide) (htX1_snapshot (24, .iconst 0, 1) (gx_m 12 rfl)) ?_
      refine gx_Jw (lv := [(2, gx_r 14 (some v1))]) [0] rfl ?_
      exact hj1 (0 : Int32) gx_b0
    · refine gx_iconst (pc := 20) (v := 1) (by decide) (htX1_snapshot (20, .iconst 1, 1) (gx_m 10 rfl)) ?_
      refine gx_goto (pc := 21) (tgt := 25) (by decide) (htX1_snapshot (21, .goto 4, 3) (gx_m 11 rfl)) ?_
      refine gx_Jw (lv := [(2, gx_r 14 (some v1))]) [0] rfl ?_
      exact hj1 (1 : Int32) gx_b1
theorem ct_X1_read (Y : gx_Y) (hT : gx_Tr Y) (x0 : gx_Nm) (x1 : Int32) : gx_CtX Y yX1_read (ws_ yX1_read cX1_read 5 (some .int)) 11 363 [gx_r 2 (some x0), gx_i x1] (gx_Ox gx_Oi) (f_X1_read x0 x1) := by
  refine gx_startX (lv := [(0, gx_r 2 (some x0)), (1, gx_i x1)]) pn_X1 (Nat.le_of_ble_eq_true rfl) rfl ?_
  unfold f_X1_read
  refine gx_aload_n (pc := 0) (n := 0) (i := 0) rfl 0 rfl (htX1_read (0, .aload_n 0, 1) (gx_m 0 rfl)) ?_
  refine gx_iconst (pc := 1) (v := 1) (by decide) (htX1_read (1, .iconst 1, 1) (gx_m 1 rfl)) ?_
  refine gx_JX (pc := 2) rfl (fun _ => rfl) (gx_runVT (as := [gx_i 1]) (ci := 1) (ct_X1_take Y hT x0 1) (by decide) (Or.inl rfl) rfl rfl rfl rfl q951 q953 qs4 q101 q954 rfl dd_X1_take (by decide) (by decide) (Nat.le_of_ble_eq_true rfl) (htX1_read (2, .invokevirtual 111, 3) (gx_m 2 rfl))) ?_
  refine gx_Jcv (pc := 2) (gx_hst (as := [gx_i 1]) (b := gx_r 2 (some x0))) (gx_runV (as := [gx_i 1]) (ci := 1) (gx_CtX.un gx_Ov_r (ct_X1_take Y hT x0 1)) (by decide) (Or.inl rfl) rfl rfl rfl rfl q951 q953 qs4 q101 q954 rfl dd_X1_take (by decide) (by decide) (Nat.le_of_ble_eq_true rfl) (htX1_read (2, .invokevirtual 111, 3) (gx_m 2 rfl))) ?_
  refine gx_aload_n (pc := 5) (n := 0) (i := 0) rfl 0 rfl (htX1_read (5, .aload_n 0, 1) (gx_m 3 rfl)) ?_
  refine gx_iload_n (pc := 6) (n := 1) (i := 1) rfl 1 rfl (htX1_read (6, .iload_n 1, 1) (gx_m 4 rfl)) ?_
  refine gx_JX (pc := 7) rfl (fun _ => rfl) (gx_runVT (as := [gx_i x1]) (ci := 1) (ct_X1_up Y hT x0 x1) (by decide) (Or.inl rfl) rfl rfl rfl rfl q1003 q1005 qs7 q101 q1006 rfl dd_X1_up (by decide) (by decide) (Nat.le_of_ble_eq_true rfl) (htX1_read (7, .invokevirtual 148, 3) (gx_m 5 rfl))) ?_
  refine gx_Jcr (pc := 7) (t2 := 14) (gx_hst (as := [gx_i x1]) (b := gx_r 2 (some x0))) (gx_runV (as := [gx_i x1]) (ci := 1) (gx_CtX.un gx_Or_r (ct_X1_up Y hT x0 x1)) (by decide) (Or.inl rfl) rfl rfl rfl rfl q1003 q1005 qs7 q101 q1006 rfl dd_X1_up (by decide) (by decide) (Nat.le_of_ble_eq_true rfl) (htX1_read (7, .invokevirtual 148, 3) (gx_m 5 rfl))) (fun v1 => ?_)
  refine gx_astore_n (pc := 10) (n := 2) (i := 2) (lv' := [(2, gx_r 14 (some v1)), (0, gx_r 2 (some x0)), (1, gx_i x1)]) rfl (by decide) rfl (htX1_read (10, .astore_n 2, 1) (gx_m 6 rfl)) ?_
  refine gx_aload_n (pc := 11) (n := 2) (i := 2) rfl 0 rfl (htX1_read (11, .aload_n 2, 1) (gx_m 7 rfl)) ?_
  refine gx_Jcz (pc := 12) (gx_hst (as := []) (b := gx_r 14 (some v1))) (gx_runV (as := []) (ci := 13) (ct_X13_mayRead Y v1) (by decide) (Or.inl rfl) rfl rfl rfl rfl q1486 q1487 q1488 q113 q1489 rfl dd_X13_mayRead (by decide) (by decide) (Nat.le_of_ble_eq_true rfl) (htX1_read (12, .invokevirtual 248, 3) (gx_m 8 rfl))) (fun v2 hv2 => ?_)
  refine gx_JX (pc := 15) rfl (fun _ => rfl) (gx_runST (as := [gx_i v2]) (ct_X1_allowed Y hT v2) rfl rfl rfl q1029 q1030 q101 q1031 rfl dd_X1_allowed (by decide) (by decide) (Nat.le_of_ble_eq_true rfl) (htX1_read (15, .invokestatic 154, 3) (gx_m 9 rfl))) ?_
  refine gx_Jcv (pc := 15) (gx_hstS (as := [gx_i v2])) (gx_runS (as := [gx_i v2]) (gx_CtX.un gx_Ov_r (ct_X1_allowed Y hT v2)) rfl rfl rfl q1029 q1030 q101 q1031 rfl dd_X1_allowed (by decide) (by decide) (Nat.le_of_ble_eq_true rfl) (htX1_read (15, .invokestatic 154, 3) (gx_m 9 rfl))) ?_
  refine gx_aload_n (pc := 18) (n := 2) (i := 2) rfl 0 rfl (htX1_read (18, .aload_n 2, 1) (gx_m 10 rfl)) ?_
  refine gx_Jcz (pc := 19) (gx_hst (as := []) (b := gx_r 14 (some v1))) (gx_runV (as := []) (ci := 13) (ct_X13_readsFit Y v1) (by decide) (Or.inl rfl) rfl rfl rfl rfl q1490 q1491 q1492 q113 q1493 rfl dd_X13_readsFit (by decide) (by decide) (Nat.le_of_ble_eq_true rfl) (htX1_read (19, .invokevirtual 252, 3) (gx_m 11 rfl))) (fun v3 hv3 => ?_)
  refine gx_JX (pc := 22) rfl (fun _ => rfl) (gx_runST (as := [gx_i v3]) (ct_X1_room Y hT v3) rfl rfl rfl q909 q910 q101 q911 rfl dd_X1_room (by decide) (by decide) (Nat.le_of_ble_eq_true rfl) (htX1_read (22, .invokestatic 100, 3) (gx_m 12 rfl))) ?_
  refine gx_Jcv (pc := 22) (gx_hstS (as := [gx_i v3])) (gx_runS (as := [gx_i v3]) (gx_CtX.un gx_Ov_r (ct_X1_room Y hT v3)) rfl rfl rfl q909 q910 q101 q911 rfl dd_X1_room (by decide) (by decide) (Nat.le_of_ble_eq_true rfl) (htX1_read (22, .invokestatic 100, 3) (gx_m 12 rfl))) ?_
  refine gx_aload_n (pc := 25) (n := 0) (i := 0) rfl 1 rfl (htX1_read (25, .aload_n 0, 1) (gx_m 13 rfl)) ?_
  refine gx_Jgs (pc := 26) (ci := 1) (kk := 0) (t2 := 3) (by decide) (by decide) rfl rfl rfl q697 (htX1_read (26, .getfield 22, 3) (gx_m 14 rfl)) ?_
  refine gx_Jgs (pc := 29) (ci := 2) (kk := 0) (t2 := 4) (by decide) (by decide) rfl rfl rfl q403 (htX1_read (29, .getfield 157, 3) (gx_m 15 rfl)) ?_
  refine gx_Jgs (pc := 32) (ci := 3) (kk := 0) (t2 := 5) (by decide) (by decide) rfl rfl rfl q193 (htX1_read (32, .getfield 255, 3) (gx_m 16 rfl)) ?_
  refine gx_astore_n (pc := 35) (n := 3) (i := 3) (lv' := [(3, gx_r 5 (some (0 :: 0 :: 0 :: x0))), (2, gx_r 14 (some v1)), (0, gx_r 2 (some x0)), (1, gx_i x1)]) rfl (by decide) rfl (htX1_read (35, .astore_n 3, 1) (gx_m 17 rfl)) ?_
  refine gx_aload_n (pc := 36) (n := 3) (i := 3) rfl 0 rfl (htX1_read (36, .aload_n 3, 1) (gx_m 18 rfl)) ?_
  refine gx_Jgi (pc := 37) (ci := 4) (kk := 1) (by decide) (Or.inl rfl) (by decide) (by decide) q162 (htX1_read (37, .getfield 94, 3) (gx_m 19 rfl)) (fun v4 hv4 => ?_)
  refine gx_istore (pc := 40) (i := 4) (lv' := [(4, gx_i v4), (3, gx_r 5 (some (0 :: 0 :: 0 :: x0))), (2, gx_r 14 (some v1)), (0, gx_r 2 (some x0)), (1, gx_i x1)]) (by decide) rfl (htX1_read (40, .istore 4, 2) (gx_m 20 rfl)) ?_
  refine gx_aload_n (pc := 42) (n := 3) (i := 3) rfl 1 rfl (htX1_read (42, .aload_n 3, 1) (gx_m 21 rfl)) ?_
  refine gx_aload_n (pc := 43) (n := 0) (i := 0) rfl 3 rfl (htX1_read (43, .aload_n 0, 1) (gx_m 22 rfl)) ?_
  refine gx_Jgr (pc := 44) (ci := 1) (kk := 4) (t2 := 5) (by decide) (Or.inl rfl) (by decide) rfl rfl q701 (htX1_read (44, .getfield 50, 3) (gx_m 23 rfl)) (fun v5 => ?_)
  refine gx_iconst (pc := 47) (v := 0) (by decide) (htX1_read (47, .iconst 0, 1) (gx_m 24 rfl)) ?_
  refine gx_aload_n (pc := 48) (n := 0) (i := 0) rfl 3 rfl (htX1_read (48, .aload_n 0, 1) (gx_m 25 rfl)) ?_
  refine gx_Jgr (pc := 49) (ci := 1) (kk := 4) (t2 := 5) (by decide) (Or.inl rfl) (by decide) rfl rfl q701 (htX1_read (49, .getfield 50, 3) (gx_m 26 rfl)) (fun v6 => ?_)
  refine gx_Jgi (pc := 52) (ci := 4) (kk := 1) (by decide) (Or.inl rfl) (by decide) (by decide) q162 (htX1_read (52, .getfield 94, 3) (gx_m 27 rfl)) (fun v7 hv7 => ?_)
  refine gx_Jcv (pc := 55) (gx_hst (as := [gx_r 5 (some v5), gx_i 0, gx_i v7]) (b := gx_r 5 (some (0 :: 0 :: 0 :: x0)))) (gx_runV (as := [gx_r 5 (some v5), gx_i 0, gx_i v7]) (ci := 4) (ct_X4_addAll Y (0 :: 0 :: 0 :: x0) v5 0 v7) (by decide) (Or.inl rfl) rfl rfl rfl rfl q940 q941 q942 q104 q943 rfl dd_X4_addAll (by decide) (by decide) (Nat.le_of_ble_eq_true rfl) (htX1_read (55, .invokevirtual 107, 3) (gx_m 28 rfl))) ?_
  refine gx_aload_n (pc := 58) (n := 2) (i := 2) rfl 2 rfl (htX1_read (58, .aload_n 2, 1) (gx_m 29 rfl)) ?_
  refine gx_iload (pc := 59) (i := 4) 0 rfl (htX1_read (59, .iload 4, 2) (gx_m 30 rfl)) ?_
  refine gx_aload_n (pc := 61) (n := 3) (i := 3) rfl 1 rfl (htX1_read (61, .aload_n 3, 1) (gx_m 31 rfl)) ?_
  refine gx_Jgi (pc := 62) (ci := 4) (kk := 1) (by decide) (Or.inl rfl) (by decide) (by decide) q162 (htX1_read (62, .getfield 94, 3) (gx_m 32 rfl)) (fun v8 hv8 => ?_)
  refine gx_Jci (pc := 65) (gx_hst (as := [gx_i v4, gx_i v8]) (b := gx_r 14 (some v1))) (gx_runV (as := [gx_i v4, gx_i v8]) (ci := 13) (ct_X13_read Y v1 v4 v8) (by decide) (Or.inl rfl) rfl rfl rfl rfl q1498 q1499 q1500 q113 q1501 rfl dd_X13_read (by decide) (by decide) (Nat.le_of_ble_eq_true rfl) (htX1_read (65, .invokevirtual 256, 3) (gx_m 33 rfl))) (fun v9 => ?_)
  exact gx_Jiret (pc := 68) rfl (fun _ => trivial) (fun _ _ => rfl) (htX1_read (68, .ireturn, 1) (gx_m 34 rfl))
theorem ct_X1_answer (Y : gx_Y) (hT : gx_Tr Y) (x0 : gx_Nm) (x1 : Int32) (x2 : Int32) (x3 : Int32) : gx_CtX Y yX1_answer (ws_ yX1_answer cX1_answer 5 (some .int)) 11 363 [gx_r 2 (some x0), gx_i x1, gx_i x2, gx_i x3] (gx_Ox gx_Oi) (f_X1_answer x0 x1 x2 x3) := by
  refine gx_startX (lv := [(0, gx_r 2 (some x0)), (1, gx_i x1), (2, gx_i x2), (3, gx_i x3)]) pn_X1 (Nat.le_of_ble_eq_true rfl) rfl ?_
  unfold f_X1_answer
  refine gx_iload_n (pc := 0) (n := 3) (i := 3) rfl 3 rfl (htX1_answer (0, .iload_n 3, 1) (gx_m 0 rfl)) ?_
  refine gx_iconst (pc := 1) (v := 0) (by decide) (htX1_answer (1, .iconst 0, 1) (gx_m 1 rfl)) ?_
  refine gx_iconst (pc := 2) (v := 3) (by decide) (htX1_answer (2, .iconst 3, 1) (gx_m 2 rfl)) ?_
  refine gx_Jcz (pc := 3) (gx_hstS (as := [gx_i x3, gx_i 0, gx_i 3])) (gx_runS (as := [gx_i x3, gx_i 0, gx_i 3]) (ct_X1_in Y x3 0 3) rfl rfl rfl q756 q757 q101 q758 rfl dd_X1_in (by decide) (by decide) (Nat.le_of_ble_eq_true rfl) (htX1_answer (3, .invokestatic 69, 3) (gx_m 3 rfl))) (fun v1 hv1 => ?_)
  refine gx_JX (pc := 6) rfl (fun _ => rfl) (gx_runST (as := [gx_i v1]) (ct_X1_good Y hT v1) rfl rfl rfl q759 q760 q101 q761 rfl dd_X1_good (by decide) (by decide) (Nat.le_of_ble_eq_true rfl) (htX1_answer (6, .invokestatic 73, 3) (gx_m 4 rfl))) ?_
  refine gx_Jcv (pc := 6) (gx_hstS (as := [gx_i v1])) (gx_runS (as := [gx_i v1]) (gx_CtX.un gx_Ov_r (ct_X1_good Y hT v1)) rfl rfl rfl q759 q760 q101 q761 rfl dd_X1_good (by decide) (by decide) (Nat.le_of_ble_eq_true rfl) (htX1_answer (6, .invokestatic 73, 3) (gx_m 4 rfl))) ?_
  refine gx_aload_n (pc := 9) (n := 0) (i := 0) rfl 0 rfl (htX1_answer (9, .aload_n 0, 1) (gx_m 5 rfl)) ?_
  refine gx_iload_n (pc := 10) (n := 1) (i := 1) rfl 1 rfl (htX1_answer (10, .iload_n 1, 1) (gx_m 6 rfl)) ?_
  refine gx_JX (pc := 11) rfl (fun _ => rfl) (gx_runVT (as := [gx_i x1]) (ci := 1) (ct_X1_up Y hT x0 x1) (by decide) (Or.inl rfl) rfl rfl rfl rfl q1003 q1005 qs7 q101 q1006 rfl dd_X1_up (by decide) (by decide) (Nat.le_of_ble_eq_true rfl) (htX1_answer (11, .invokevirtual 148, 3) (gx_m 7 rfl))) ?_
  refine gx_Jcr (pc := 11) (t2 := 14) (gx_hst (as := [gx_i x1]) (b := gx_r 2 (some x0))) (gx_runV (as := [gx_i x1]) (ci := 1) (gx_CtX.un gx_Or_r (ct_X1_up Y hT x0 x1)) (by decide) (Or.inl rfl) rfl rfl rfl rfl q1003 q1005 qs7 q101 q1006 rfl dd_X1_up (by decide) (by decide) (Nat.le_of_ble_eq_true rfl) (htX1_answer (11, .invokevirtual 148, 3) (gx_m 7 rfl))) (fun v2 => ?_)
  refine gx_astore (pc := 14) (i := 4) (lv' := [(4, gx_r 14 (some v2)), (0, gx_r 2 (some x0)), (1, gx_i x1), (2, gx_i x2), (3, gx_i x3)]) (by decide) rfl (htX1_answer (14, .astore 4, 2) (gx_m 8 rfl)) ?_
  refine gx_aload (pc := 16) (i := 4) 0 rfl (htX1_answer (16, .aload 4, 2) (gx_m 9 rfl)) ?_
  refine gx_iload_n (pc := 18) (n := 2) (i := 2) rfl 3 rfl (htX1_answer (18, .iload_n 2, 1) (gx_m 10 rfl)) ?_
  refine gx_Jcz (pc := 19) (gx_hst (as := [gx_i x2]) (b := gx_r 14 (some v2))) (gx_runV (as := [gx_i x2]) (ci := 13) (ct_X13_isDone Y v2 x2) (by decide) (Or.inl rfl) rfl rfl rfl rfl q1534 q1535 q1536 q113 q1537 rfl dd_X13_isDone (by decide) (by decide) (Nat.le_of_ble_eq_true rfl) (htX1_answer (19, .invokevirtual 260, 3) (gx_m 11 rfl))) (fun v3 hv3 => ?_)
  refine gx_JX (pc := 22) rfl (fun _ => rfl) (gx_runST (as := [gx_i v3]) (ct_X1_there Y hT v3) rfl rfl rfl q1011 q1012 q101 q1013 rfl dd_X1_there (by decide) (by decide) (Nat.le_of_ble_eq_true rfl) (htX1_answer (22, .invokestatic 83, 3) (gx_m 12 rfl))) ?_
  refine gx_Jcv (pc := 22) (gx_hstS (as := [gx_i v3])) (gx_runS (as := [gx_i v3]) (gx_CtX.un gx_Ov_r (ct_X1_there Y hT v3)) rfl rfl rfl q1011 q1012 q101 q1013 rfl dd_X1_there (by decide) (by decide) (Nat.le_of_ble_eq_true rfl) (htX1_answer (22, .invokestatic 83, 3) (gx_m 12 rfl))) ?_
  refine gx_aload (pc := 25) (i := 4) 0 rfl (htX1_answer (25, .aload 4, 2) (gx_m 13 rfl)) ?_
  refine gx_iload_n (pc := 27) (n := 2) (i := 2) rfl 3 rfl (htX1_answer (27, .iload_n 2, 1) (gx_m 14 rfl)) ?_
  refine gx_iload_n (pc := 28) (n := 3) (i := 3) rfl 4 rfl (htX1_answer (28, .iload_n 3, 1) (gx_m 15 rfl)) ?_
  refine gx_Jci (pc := 29) (gx_hst (as := [gx_i x2, gx_i x3]) (b := gx_r 14 (some v2))) (gx_runV (as := [gx_i x2, gx_i x3]) (ci := 13) (ct_X13_answer_2 Y v2 x2 x3) (by decide) (Or.inl rfl) rfl rfl rfl rfl q1538 q1539 q1540 q113 q1541 rfl dd_X13_answer_2 (by decide) (by decide) (Nat.le_of_ble_eq_true rfl) (htX1_answer (29, .invokevirtual 264, 3) (gx_m 16 rfl))) (fun v4 => ?_)
  exact gx_Jiret (pc := 32) rfl (fun _ => trivial) (fun _ _ => rfl) (htX1_answer (32, .ireturn, 1) (gx_m 17 rfl))
theorem ct_X1_stateAt (Y : gx_Y) (hT : gx_Tr Y) (x0 : gx_Nm) (x1 : gx_Nm) (x2 : Int32) : gx_CtX Y yX1_stateAt (ws_ yX1_stateAt cX1_stateAt 4 (some .int)) 9 320 [gx_r 2 (some x0), gx_r 14 (some x1), gx_i x2] (gx_Ox gx_Oi) (f_X1_stateAt x0 x1 x2) := by
  refine gx_startX (lv := [(0, gx_r 2 (some x0)), (1, gx_r 14 (some x1)), (2, gx_i x2)]) pn_X1 (Nat.le_of_ble_eq_true rfl) rfl ?_
  unfold f_X1_stateAt
  refine gx_aload_n (pc := 0) (n := 0) (i := 0) rfl 0 rfl (htX1_stateAt (0, .aload_n 0, 1) (gx_m 0 rfl)) ?_
  refine gx_Jgs (pc := 1) (ci := 1) (kk := 0) (t2 := 3) (by decide) (by decide) rfl rfl rfl q697 (htX1_stateAt (1, .getfield 22, 3) (gx_m 1 rfl)) ?_
  refine gx_Jgs (pc := 4) (ci := 2) (kk := 2) (t2 := 8) (by decide) (by decide) rfl rfl rfl q408 (htX1_stateAt (4, .getfield 267, 3) (gx_m 2 rfl)) ?_
  refine gx_aload_n (pc := 7) (n := 1) (i := 1) rfl 1 rfl (htX1_stateAt (7, .aload_n 1, 1) (gx_m 3 rfl)) ?_
  refine gx_Jgi (pc := 8) (ci := 13) (kk := 11) (by decide) (Or.inl rfl) (by decide) (by decide) q566 (htX1_stateAt (8, .getfield 271, 3) (gx_m 4 rfl)) (fun v1 hv1 => ?_)
  refine gx_Jci (pc := 11) (gx_hst (as := [gx_i v1]) (b := gx_r 8 (some (2 :: 0 :: x0)))) (gx_runV (as := [gx_i v1]) (ci := 7) (ct_X7_revision Y (2 :: 0 :: x0) v1) (by decide) (Or.inl rfl) rfl rfl rfl rfl q1553 q1457 q1458 q107 q1459 rfl dd_X7_revision (by decide) (by decide) (Nat.le_of_ble_eq_true rfl) (htX1_stateAt (11, .invokevirtual 274, 3) (gx_m 5 rfl))) (fun v2 => ?_)
  refine gx_istore_n (pc := 14) (n := 3) (i := 3) (lv' := [(3, gx_i v2), (0, gx_r 2 (some x0)), (1, gx_r 14 (some x1)), (2, gx_i x2)]) rfl (by decide) rfl (htX1_stateAt (14, .istore_n 3, 1) (gx_m 6 rfl)) ?_
  refine gx_iload_n (pc := 15) (n := 2) (i := 2) rfl 3 rfl (htX1_stateAt (15, .iload_n 2, 1) (gx_m 7 rfl)) ?_
  refine gx_iload_n (pc := 16) (n := 3) (i := 3) rfl 0 rfl (htX1_stateAt (16, .iload_n 3, 1) (gx_m 8 rfl)) ?_
  refine gx_Jjoin (pcJ := 37) (lvJ := fun (j4 : Int32) => [(0, gx_r 2 (some x0)), (1, gx_r 14 (some x1)), (2, gx_i x2)]) (stJ := fun (j4 : Int32) => [gx_i j4]) (fun (j4 : Int32) => j4 &&& 1 = j4) (fun j4 hj4 => ?_) (fun kk1 hj1 => ?_)
  · refine gx_JX (pc := 37) rfl (fun _ => rfl) (gx_runST (as := [gx_i j4]) (ct_X1_allowed Y hT j4) rfl rfl rfl q1029 q1030 q101 q1031 rfl dd_X1_allowed (by decide) (by decide) (Nat.le_of_ble_eq_true rfl) (htX1_stateAt (37, .invokestatic 154, 3) (gx_m 19 rfl))) ?_
    refine gx_Jcv (pc := 37) (gx_hstS (as := [gx_i j4])) (gx_runS (as := [gx_i j4]) (gx_CtX.un gx_Ov_r (ct_X1_allowed Y hT j4)) rfl rfl rfl q1029 q1030 q101 q1031 rfl dd_X1_allowed (by decide) (by decide) (Nat.le_of_ble_eq_true rfl) (htX1_stateAt (37, .invokestatic 154, 3) (gx_m 19 rfl))) ?_
    refine gx_iload_n (pc := 40) (n := 2) (i := 2) rfl 2 rfl (htX1_stateAt (40, .iload_n 2, 1) (gx_m 20 rfl)) ?_
    refine gx_Jjoin (pcJ := 66) (lvJ := fun (j8 : Int32) => []) (stJ := fun (j8 : Int32) => [gx_i j8]) (fun _ => True) (fun j8 hj8 => ?_) (fun kk2 hj2 => ?_)
    · exact gx_Jiret (pc := 66) rfl (fun _ => trivial) (fun _ _ => rfl) (htX1_stateAt (66, .ireturn, 1) (gx_m 32 rfl))
    · refine gx_if_ne (pc := 41) (y := 0) (tgt := 51) (by decide) (htX1_stateAt (41, .ifCond .ne 10, 3) (gx_m 21 rfl)) (fun c3 => ?_) (fun c3 => ?_)
      · refine gx_aload_n (pc := 44) (n := 1) (i := 1) rfl 1 rfl (htX1_stateAt (44, .aload_n 1, 1) (gx_m 22 rfl)) ?_
        refine gx_Jgi (pc := 45) (ci := 13) (kk := 11) (by decide) (Or.inl rfl) (by decide) (by decide) q566 (htX1_stateAt (45, .getfield 271, 3) (gx_m 23 rfl)) (fun v5 hv5 => ?_)
        refine gx_goto (pc := 48) (tgt := 66) (by decide) (htX1_stateAt (48, .goto 18, 3) (gx_m 24 rfl)) ?_
        refine gx_Jw (lv := []) [] rfl ?_
        exact hj2 (v5 : Int32) trivial
      · refine gx_aload_n (pc := 51) (n := 0) (i := 0) rfl 0 rfl (htX1_stateAt (51, .aload_n 0, 1) (gx_m 25 rfl)) ?_
        refine gx_Jgs (pc := 52) (ci := 1) (kk := 0) (t2 := 3) (by decide) (by decide) rfl rfl rfl q697 (htX1_stateAt (52, .getfield 22, 3) (gx_m 26 rfl)) ?_
        refine gx_Jgs (pc := 55) (ci := 2) (kk := 2) (t2 := 8) (by decide) (by decide) rfl rfl rfl q408 (htX1_stateAt (55, .getfield 267, 3) (gx_m 27 rfl)) ?_
        refine gx_aload_n (pc := 58) (n := 1) (i := 1) rfl 1 rfl (htX1_stateAt (58, .aload_n 1, 1) (gx_m 28 rfl)) ?_
        refine gx_Jgi (pc := 59) (ci := 13) (kk := 11) (by decide) (Or.inl rfl) (by decide) (by decide) q566 (htX1_stateAt (59, .getfield 271, 3) (gx_m 29 rfl)) (fun v6 hv6 => ?_)
        refine gx_iload_n (pc := 62) (n := 2) (i := 2) rfl 2 rfl (htX1_stateAt (62, .iload_n 2, 1) (gx_m 30 rfl)) ?_
        refine gx_Jci (pc := 63) (gx_hst (as := [gx_i v6, gx_i x2]) (b := gx_r 8 (some (2 :: 0 :: x0)))) (gx_runV (as := [gx_i v6, gx_i x2]) (ci := 7) (ct_X7_at Y (2 :: 0 :: x0) v6 x2) (by decide) (Or.inl rfl) rfl rfl rfl rfl q1558 q1559 q1560 q107 q1561 rfl dd_X7_at (by decide) (by decide) (Nat.le_of_ble_eq_true rfl) (htX1_stateAt (63, .invokevirtual 282, 3) (gx_m 31 rfl))) (fun v7 => ?_)
        refine gx_Jw (lv := []) [] rfl ?_
        exact hj2 (v7 : Int32) trivial
  · refine gx_icmp_gt (pc := 17) (tgt := 36) (by decide) (htX1_stateAt (17, .if_icmp .gt 19, 3) (gx_m 9 rfl)) (fun c4 => ?_) (fun c4 => ?_)
    · refine gx_iconst (pc := 36) (v := 0) (by decide) (htX1_stateAt (36, .iconst 0, 1) (gx_m 18 rfl)) ?_
      refine gx_Jw (lv := [(0, gx_r 2 (some x0)), (1, gx_r 14 (some x1)), (2, gx_i x2)]) [1, 2, 3] rfl ?_
      exact hj1 (0 : Int32) gx_b0
    · refine gx_iload_n (pc := 20) (n := 2) (i := 2) rfl 3 rfl (htX1_stateAt (20, .iload_n 2, 1) (gx_m 10 rfl)) ?_
      refine gx_if_eq (pc := 21) (y := 0) (tgt := 32) (by decide) (htX1_stateAt (21, .ifCond .eq 11, 3) (gx_m 11 rfl)) (fun c5 => ?_) (fun c5 => ?_)
      · refine gx_iconst (pc := 32) (v := 1) (by decide) (htX1_stateAt (32, .iconst 1, 1) (gx_m 16 rfl)) ?_
        refine gx_goto (pc := 33) (tgt := 37) (by decide) (htX1_stateAt (33, .goto 4, 3) (gx_m 17 rfl)) ?_
        refine gx_Jw (lv := [(0, gx_r 2 (some x0)), (1, gx_r 14 (some x1)), (2, gx_i x2)]) [1, 2, 3] rfl ?_
        exact hj1 (1 : Int32) gx_b1
      · refine gx_iload_n (pc := 24) (n := 2) (i := 2) rfl 3 rfl (htX1_stateAt (24, .iload_n 2, 1) (gx_m 12 rfl)) ?_
        refine gx_aload_n (pc := 25) (n := 1) (i := 1) rfl 2 rfl (htX1_stateAt (25, .aload_n 1, 1) (gx_m 13 rfl)) ?_
        refine gx_Jci (pc := 26) (gx_hst (as := []) (b := gx_r 14 (some x1))) (gx_runV (as := []) (ci := 13) (ct_X13_compacted Y x1) (by decide) (Or.inl rfl) rfl rfl rfl rfl q1554 q1555 q1556 q113 q1557 rfl dd_X13_compacted (by decide) (by decide) (Nat.le_of_ble_eq_true rfl) (htX1_stateAt (26, .invokevirtual 279, 3) (gx_m 14 rfl))) (fun v3 => ?_)
        refine gx_icmp_lt (pc := 29) (tgt := 36) (by decide) (htX1_stateAt (29, .if_icmp .lt 7, 3) (gx_m 15 rfl)) (fun c6 => ?_) (fun c6 => ?_)
        · refine gx_iconst (pc := 36) (v := 0) (by decide) (htX1_stateAt (36, .iconst 0, 1) (gx_m 18 rfl)) ?_
          refine gx_Jw (lv := [(0, gx_r 2 (some x0)), (1, gx_r 14 (some x1)), (2, gx_i x2)]) [1, 2, 3] rfl ?_
          exact hj1 (0 : Int32) gx_b0
        · refine gx_iconst (pc := 32) (v := 1) (by decide) (htX1_stateAt (32, .iconst 1, 1) (gx_m 16 rfl)) ?_
          refine gx_goto (pc := 33) (tgt := 37) (by decide) (htX1_stateAt (33, .goto 4, 3) (gx_m 17 rfl)) ?_
          refine gx_Jw (lv := [(0, gx_r 2 (some x0)), (1, gx_r 14 (some x1)), (2, gx_i x2)]) [1, 2, 3] rfl ?_
          exact hj1 (1 : Int32) gx_b1
theorem ct_X1_pair (Y : gx_Y) (hT : gx_Tr Y) (x0 : gx_Nm) (x1 : Int32) (x2 : Int32) (x3 : Int32) : gx_CtX Y yX1_pair (ws_ yX1_pair cX1_pair 8 (some .int)) 11 363 [gx_r 2 (some x0), gx_i x1, gx_i x2, gx_i x3] (gx_Ox gx_Oi) (f_X1_pair x0 x1 x2 x3) := by
  refine gx_startX (lv := [(0, gx_r 2 (some x0)), (1, gx_i x1), (2, gx_i x2), (3, gx_i x3)]) pn_X1 (Nat.le_of_ble_eq_true rfl) rfl ?_
  unfold f_X1_pair
  refine gx_aload_n (pc := 0) (n := 0) (i := 0) rfl 0 rfl (htX1_pair (0, .aload_n 0, 1) (gx_m 0 rfl)) ?_
  refine gx_iconst (pc := 1) (v := 1) (by decide) (htX1_pair (1, .iconst 1, 1) (gx_m 1 rfl)) ?_
  refine gx_JX (pc := 2) rfl (fun _ => rfl) (gx_runVT (as := [gx_i 1]) (ci := 1) (ct_X1_take Y hT x0 1) (by decide) (Or.inl rfl) rfl rfl rfl rfl q951 q953 qs4 q101 q954 rfl dd_X1_take (by decide) (by decide) (Nat.le_of_ble_eq_true rfl) (htX1_pair (2, .invokevirtual 111, 3) (gx_m 2 rfl))) ?_
  refine gx_Jcv (pc := 2) (gx_hst (as := [gx_i 1]) (b := gx_r 2 (some x0))) (gx_runV (as := [gx_i 1]) (ci := 1) (gx_CtX.un gx_Ov_r (ct_X1_take Y hT x0 1)) (by decide) (Or.inl rfl) rfl rfl rfl rfl q951 q953 qs4 q101 q954 rfl dd_X1_take (by decide) (by decide) (Nat.le_of_ble_eq_true rfl) (htX1_pair (2, .invokevirtual 111, 3) (gx_m 2 rfl))) ?_
  refine gx_iload_n (pc := 5) (n := 3) (i := 3) rfl 3 rfl (htX1_pair (5, .iload_n 3, 1) (gx_m 3 rfl)) ?_
  refine gx_iconst (pc := 6) (v := 0) (by decide) (htX1_pair (6, .iconst 0, 1) (gx_m 4 rfl)) ?_
  refine gx_iconst (pc := 7) (v := 5) (by decide) (htX1_pair (7, .iconst 5, 1) (gx_m 5 rfl)) ?_
  refine gx_Jcz (pc := 8) (gx_hstS (as := [gx_i x3, gx_i 0, gx_i 5])) (gx_runS (as := [gx_i x3, gx_i 0, gx_i 5]) (ct_X1_in Y x3 0 5) rfl rfl rfl q756 q757 q101 q758 rfl dd_X1_in (by decide) (by decide) (Nat.le_of_ble_eq_true rfl) (htX1_pair (8, .invokestatic 69, 3) (gx_m 6 rfl))) (fun v1 hv1 => ?_)
  refine gx_Jjoin (pcJ := 23) (lvJ := fun (j2 : Int32) => [(0, gx_r 2 (some x0)), (1, gx_i x1), (2, gx_i x2), (3, gx_i x3)]) (stJ := fun (j2 : Int32) => [gx_i j2]) (fun (j2 : Int32) => j2 &&& 1 = j2) (fun j2 hj2 => ?_) (fun kk1 hj1 => ?_)
  · refine gx_JX (pc := 23) rfl (fun _ => rfl) (gx_runST (as := [gx_i j2]) (ct_X1_good Y hT j2) rfl rfl rfl q759 q760 q101 q761 rfl dd_X1_good (by decide) (by decide) (Nat.le_of_ble_eq_true rfl) (htX1_pair (23, .invokestatic 73, 3) (gx_m 13 rfl))) ?_
    refine gx_Jcv (pc := 23) (gx_hstS (as := [gx_i j2])) (gx_runS (as := [gx_i j2]) (gx_CtX.un gx_Ov_r (ct_X1_good Y hT j2)) rfl rfl rfl q759 q760 q101 q761 rfl dd_X1_good (by decide) (by decide) (Nat.le_of_ble_eq_true rfl) (htX1_pair (23, .invokestatic 73, 3) (gx_m 13 rfl))) ?_
    refine gx_aload_n (pc := 26) (n := 0) (i := 0) rfl 0 rfl (htX1_pair (26, .aload_n 0, 1) (gx_m 14 rfl)) ?_
    refine gx_aload_n (pc := 27) (n := 0) (i := 0) rfl 0 rfl (htX1_pair (27, .aload_n 0, 1) (gx_m 15 rfl)) ?_
    refine gx_iload_n (pc := 28) (n := 1) (i := 1) rfl 1 rfl (htX1_pair (28, .iload_n 1, 1) (gx_m 16 rfl)) ?_
    refine gx_JX (pc := 29) rfl (fun _ => rfl) (gx_runVT (as := [gx_i x1]) (ci := 1) (ct_X1_up Y hT x0 x1) (by decide) (Or.inl rfl) rfl rfl rfl rfl q1003 q1005 qs7 q101 q1006 rfl dd_X1_up (by decide) (by decide) (Nat.le_of_ble_eq_true rfl) (htX1_pair (29, .invokevirtual 148, 3) (gx_m 17 rfl))) ?_
    refine gx_Jcr (pc := 29) (t2 := 14) (gx_hst (as := [gx_i x1]) (b := gx_r 2 (some x0))) (gx_runV (as := [gx_i x1]) (ci := 1) (gx_CtX.un gx_Or_r (ct_X1_up Y hT x0 x1)) (by decide) (Or.inl rfl) rfl rfl rfl rfl q1003 q1005 qs7 q101 q1006 rfl dd_X1_up (by decide) (by decide) (Nat.le_of_ble_eq_true rfl) (htX1_pair (29, .invokevirtual 148, 3) (gx_m 17 rfl))) (fun v3 => ?_)
    refine gx_iload_n (pc := 32) (n := 2) (i := 2) rfl 2 rfl (htX1_pair (32, .iload_n 2, 1) (gx_m 18 rfl)) ?_
    refine gx_JX (pc := 33) rfl (fun _ => rfl) (gx_runVT (as := [gx_r 14 (some v3), gx_i x2]) (ci := 1) (ct_X1_stateAt Y hT x0 v3 x2) (by decide) (Or.inl rfl) rfl rfl rfl rfl q1549 q1551 qs41 q101 q1552 rfl dd_X1_stateAt (by decide) (by decide) (Nat.le_of_ble_eq_true rfl) (htX1_pair (33, .invokevirtual 285, 3) (gx_m 19 rfl))) ?_
    refine gx_Jci (pc := 33) (gx_hst (as := [gx_r 14 (some v3), gx_i x2]) (b := gx_r 2 (some x0))) (gx_runV (as := [gx_r 14 (some v3), gx_i x2]) (ci := 1) (gx_CtX.un gx_Oi_r (ct_X1_stateAt Y hT x0 v3 x2)) (by decide) (Or.inl rfl) rfl rfl rfl rfl q1549 q1551 qs41 q101 q1552 rfl dd_X1_stateAt (by decide) (by decide) (Nat.le_of_ble_eq_true rfl) (htX1_pair (33, .invokevirtual 285, 3) (gx_m 19 rfl))) (fun v4 => ?_)
    refine gx_istore (pc := 36) (i := 4) (lv' := [(4, gx_i v4), (0, gx_r 2 (some x0)), (1, gx_i x1), (2, gx_i x2), (3, gx_i x3)]) (by decide) rfl (htX1_pair (36, .istore 4, 2) (gx_m 20 rfl)) ?_
    refine gx_aload_n (pc := 38) (n := 0) (i := 0) rfl 1 rfl (htX1_pair (38, .aload_n 0, 1) (gx_m 21 rfl)) ?_
    refine gx_Jgs (pc := 39) (ci := 1) (kk := 0) (t2 := 3) (by decide) (by decide) rfl rfl rfl q697 (htX1_pair (39, .getfield 22, 3) (gx_m 22 rfl)) ?_
    refine gx_Jgs (pc := 42) (ci := 2) (kk := 0) (t2 := 4) (by decide) (by decide) rfl rfl rfl q403 (htX1_pair (42, .getfield 157, 3) (gx_m 23 rfl)) ?_
    refine gx_Jgs (pc := 45) (ci := 3) (kk := 0) (t2 := 5) (by decide) (by decide) rfl rfl rfl q193 (htX1_pair (45, .getfield 255, 3) (gx_m 24 rfl)) ?_
    refine gx_astore (pc := 48) (i := 5) (lv' := [(5, gx_r 5 (some (0 :: 0 :: 0 :: x0))), (4, gx_i v4), (0, gx_r 2 (some x0)), (1, gx_i x1), (2, gx_i x2), (3, gx_i x3)]) (by decide) rfl (htX1_pair (48, .astore 5, 2) (gx_m 25 rfl)) ?_
    refine gx_aload (pc := 50) (i := 5) 0 rfl (htX1_pair (50, .aload 5, 2) (gx_m 26 rfl)) ?_
    refine gx_Jgi (pc := 52) (ci := 4) (kk := 1) (by decide) (Or.inl rfl) (by decide) (by decide) q162 (htX1_pair (52, .getfield 94, 3) (gx_m 27 rfl)) (fun v5 hv5 => ?_)
    refine gx_istore (pc := 55) (i := 6) (lv' := [(6, gx_i v5), (5, gx_r 5 (some (0 :: 0 :: 0 :: x0))), (4, gx_i v4), (0, gx_r 2 (some x0)), (1, gx_i x1), (2, gx_i x2), (3, gx_i x3)]) (by decide) rfl (htX1_pair (55, .istore 6, 2) (gx_m 28 rfl)) ?_
    refine gx_aload (pc := 57) (i := 5) 1 rfl (htX1_pair (57, .aload 5, 2) (gx_m 29 rfl)) ?_
    refine gx_aload_n (pc := 59) (n := 0) (i := 0) rfl 3 rfl (htX1_pair (59, .aload_n 0, 1) (gx_m 30 rfl)) ?_
    refine gx_Jgr (pc := 60) (ci := 1) (kk := 4) (t2 := 5) (by decide) (Or.inl rfl) (by decide) rfl rfl q701 (htX1_pair (60, .getfield 50, 3) (gx_m 31 rfl)) (fun v6 => ?_)
    refine gx_iconst (pc := 63) (v := 0) (by decide) (htX1_pair (63, .iconst 0, 1) (gx_m 32 rfl)) ?_
    refine gx_aload_n (pc := 64) (n := 0) (i := 0) rfl 3 rfl (htX1_pair (64, .aload_n 0, 1) (gx_m 33 rfl)) ?_
    refine gx_Jgr (pc := 65) (ci := 1) (kk := 4) (t2 := 5) (by decide) (Or.inl rfl) (by decide) rfl rfl q701 (htX1_pair (65, .getfield 50, 3) (gx_m 34 rfl)) (fun v7 => ?_)
    refine gx_Jgi (pc := 68) (ci := 4) (kk := 1) (by decide) (Or.inl rfl) (by decide) (by decide) q162 (htX1_pair (68, .getfield 94, 3) (gx_m 35 rfl)) (fun v8 hv8 => ?_)
    refine gx_Jcv (pc := 71) (gx_hst (as := [gx_r 5 (some v6), gx_i 0, gx_i v8]) (b := gx_r 5 (some (0 :: 0 :: 0 :: x0)))) (gx_runV (as := [gx_r 5 (some v6), gx_i 0, gx_i v8]) (ci := 4) (ct_X4_addAll Y (0 :: 0 :: 0 :: x0) v6 0 v8) (by decide) (Or.inl rfl) rfl rfl rfl rfl q940 q941 q942 q104 q943 rfl dd_X4_addAll (by decide) (by decide) (Nat.le_of_ble_eq_true rfl) (htX1_pair (71, .invokevirtual 107, 3) (gx_m 36 rfl))) ?_
    refine gx_aload_n (pc := 74) (n := 0) (i := 0) rfl 3 rfl (htX1_pair (74, .aload_n 0, 1) (gx_m 37 rfl)) ?_
    refine gx_Jgs (pc := 75) (ci := 1) (kk := 0) (t2 := 3) (by decide) (by decide) rfl rfl rfl q697 (htX1_pair (75, .getfield 22, 3) (gx_m 38 rfl)) ?_
    refine gx_Jgs (pc := 78) (ci := 2) (kk := 2) (t2 := 8) (by decide) (by decide) rfl rfl rfl q408 (htX1_pair (78, .getfield 267, 3) (gx_m 39 rfl)) ?_
    refine gx_iload (pc := 81) (i := 4) 2 rfl (htX1_pair (81, .iload 4, 2) (gx_m 40 rfl)) ?_
    refine gx_iload (pc := 83) (i := 6) 0 rfl (htX1_pair (83, .iload 6, 2) (gx_m 41 rfl)) ?_
    refine gx_aload (pc := 85) (i := 5) 1 rfl (htX1_pair (85, .aload 5, 2) (gx_m 42 rfl)) ?_
    refine gx_Jgi (pc := 87) (ci := 4) (kk := 1) (by decide) (Or.inl rfl) (by decide) (by decide) q162 (htX1_pair (87, .getfield 94, 3) (gx_m 43 rfl)) (fun v9 hv9 => ?_)
    refine gx_Jco (pc := 90) (t2 := 10) (gx_hst (as := [gx_i v4, gx_i v5, gx_i v9]) (b := gx_r 8 (some (2 :: 0 :: x0)))) (gx_runV (as := [gx_i v4, gx_i v5, gx_i v9]) (ci := 7) (ct_X7_find Y (2 :: 0 :: x0) v4 v5 v9) (by decide) (Or.inl rfl) rfl rfl rfl rfl q1562 q1301 q1302 q107 q1303 rfl dd_X7_find (by decide) (by decide) (Nat.le_of_ble_eq_true rfl) (htX1_pair (90, .invokevirtual 289, 3) (gx_m 44 rfl))) (fun v10 => ?_)
    refine gx_astore (pc := 93) (i := 7) (lv' := [(7, gx_r 10 v10), (6, gx_i v5), (5, gx_r 5 (some (0 :: 0 :: 0 :: x0))), (4, gx_i v4), (0, gx_r 2 (some x0)), (1, gx_i x1), (2, gx_i x2), (3, gx_i x3)]) (by decide) rfl (htX1_pair (93, .astore 7, 2) (gx_m 45 rfl)) ?_
    refine gx_aload (pc := 95) (i := 5) 2 rfl (htX1_pair (95, .aload 5, 2) (gx_m 46 rfl)) ?_
    refine gx_iload (pc := 97) (i := 6) 1 rfl (htX1_pair (97, .iload 6, 2) (gx_m 47 rfl)) ?_
    refine gx_Jpi (pc := 99) (ci := 4) (kk := 1) (by decide) (Or.inl rfl) (by decide) rfl rfl q162 (Or.inl rfl) (htX1_pair (99, .putfield 94, 3) (gx_m 48 rfl)) ?_
    refine gx_aload (pc := 102) (i := 7) 0 rfl (htX1_pair (102, .aload 7, 2) (gx_m 49 rfl)) ?_
    refine gx_ifnonnull (pc := 104) (tgt := 109) (by decide) (htX1_pair (104, .ifnonnull 5, 3) (gx_m 50 rfl)) (fun c2 => ?_) (fun c2 => ?_)
    · refine gx_iconst (pc := 107) (v := 0) (by decide) (htX1_pair (107, .iconst 0, 1) (gx_m 51 rfl)) ?_
      exact gx_Jiret (pc := 108) rfl (fun _ => trivial) (fun _ _ => rfl) (htX1_pair (108, .ireturn, 1) (gx_m 52 rfl))
    · refine gx_iload_n (pc := 109) (n := 3) (i := 3) rfl 7 rfl (htX1_pair (109, .iload_n 3, 1) (gx_m 53 rfl)) ?_
      refine gx_Jite (fun c3 => ?_) (fun c3 => ?_)
      · refine gx_Jtab (pc := 110) (tgt := 144) (htX1_pair (110, .tableswitch 60 0 4 #[34, 36, 42, 48, 54], 34) (gx_m 54 rfl)) (by decide) (gx_tD c3 (by decide)) (gx_tI c3 (by decide)) ?_
        refine gx_iconst (pc := 144) (v := 1) (by decide) (htX1_pair (144, .iconst 1, 1) (gx_m 55 rfl)) ?_
        exact gx_Jiret (pc := 145) rfl (fun _ => trivial) (fun _ _ => rfl) (htX1_pair (145, .ireturn, 1) (gx_m 56 rfl))
      · refine gx_Jite (fun c4 => ?_) (fun c4 => ?_)
        · refine gx_Jtab (pc := 110) (tgt := 146) (htX1_pair (110, .tableswitch 60 0 4 #[34, 36, 42, 48, 54], 34) (gx_m 54 rfl)) (by decide) (gx_tD c4 (by decide)) (gx_tI c4 (by decide)) ?_
          refine gx_aload (pc := 146) (i := 7) 0 rfl (htX1_pair (146, .aload 7, 2) (gx_m 57 rfl)) ?_
          refine gx_Jnn (st0 := fun v11 => [gx_r 10 (some v11)]) (fun _ h => by rw [h]) (fun v11 => ?_)
          refine gx_Jgi (pc := 148) (ci := 9) (kk := 5) (by decide) (Or.inl rfl) (by decide) (by decide) q275 (htX1_pair (148, .getfield 293, 3) (gx_m 58 rfl)) (fun v12 hv12 => ?_)
          exact gx_Jiret (pc := 151) rfl (fun _ => trivial) (fun _ _ => rfl) (htX1_pair (151, .ireturn, 1) (gx_m 59 rfl))
        · refine gx_Jite (fun c5 => ?_) (fun c5 => ?_)
          · refine gx_Jtab (pc := 110) (tgt := 152) (htX1_pair (110, .tableswitch 60 0 4 #[34, 36, 42, 48, 54], 34) (gx_m 54 rfl)) (by decide) (gx_tD c5 (by decide)) (gx_tI c5 (by decide)) ?_
            refine gx_aload (pc := 152) (i := 7) 0 rfl (htX1_pair (152, .aload 7, 2) (gx_m 60 rfl)) ?_
            refine gx_Jnn (st0 := fun v13 => [gx_r 10 (some v13)]) (fun _ h => by rw [h]) (fun v13 => ?_)
            refine gx_Jgi (pc := 154) (ci := 9) (kk := 6) (by decide) (Or.inl rfl) (by decide) (by decide) q278 (htX1_pair (154, .getfield 298, 3) (gx_m 61 rfl)) (fun v14 hv14 => ?_)
            exact gx_Jiret (pc := 157) rfl (fun _ => trivial) (fun _ _ => rfl) (htX1_pair (157, .ireturn, 1) (gx_m 62 rfl))
          · refine gx_Jite (fun c6 => ?_) (fun c6 => ?_)
            · refine gx_Jtab (pc := 110) (tgt := 158) (htX1_pair (110, .tableswitch 60 0 4 #[34, 36, 42, 48, 54], 34) (gx_m 54 rfl)) (by decide) (gx_tD c6 (by decide)) (gx_tI c6 (by decide)) ?_
              refine gx_aload (pc := 158) (i := 7) 0 rfl (htX1_pair (158, .aload 7, 2) (gx_m 63 rfl)) ?_
              refine gx_Jnn (st0 := fun v15 => [gx_r 10 (some v15)]) (fun _ h => by rw [h]) (fun v15 => ?_)
              refine gx_Jgi (pc := 160) (ci := 9) (kk := 7) (by decide) (Or.inl rfl) (by decide) (by decide) q282 (htX1_pair (160, .getfield 301, 3) (gx_m 64 rfl)) (fun v16 hv16 => ?_)
              exact gx_Jiret (pc := 163) rfl (fun _ => trivial) (fun _ _ => rfl) (htX1_pair (163, .ireturn, 1) (gx_m 65 rfl))
            · refine gx_Jite (fun c7 => ?_) (fun c7 => ?_)
              · refine gx_Jtab (pc := 110) (tgt := 164) (htX1_pair (110, .tableswitch 60 0 4 #[34, 36, 42, 48, 54], 34) (gx_m 54 rfl)) (by decide) (gx_tD c7 (by decide)) (gx_tI c7 (by decide)) ?_
                refine gx_aload (pc := 164) (i := 7) 0 rfl (htX1_pair (164, .aload 7, 2) (gx_m 66 rfl)) ?_
                refine gx_Jnn (st0 := fun v17 => [gx_r 10 (some v17)]) (fun _ h => by rw [h]) (fun v17 => ?_)
                refine gx_Jgi (pc := 166) (ci := 9) (kk := 8) (by decide) (Or.inl rfl) (by decide) (by decide) q286 (htX1_pair (166, .getfield 304, 3) (gx_m 67 rfl)) (fun v18 hv18 => ?_)
                exact gx_Jiret (pc := 169) rfl (fun _ => trivial) (fun _ _ => rfl) (htX1_pair (169, .ireturn, 1) (gx_m 68 rfl))
              · refine gx_Jtab (pc := 110) (tgt := 170) (htX1_pair (110, .tableswitch 60 0 4 #[34, 36, 42, 48, 54], 34) (gx_m 54 rfl)) (by decide) (fun _ => by decide) (gx_tN (ks := [0, 1, 2, 3, 4]) (by simp only [List.mem_cons, List.not_mem_nil, or_false, not_or]; exact ⟨c3, c4, c5, c6, c7⟩) (by decide)) ?_
                refine gx_aload (pc := 170) (i := 7) 0 rfl (htX1_pair (170, .aload 7, 2) (gx_m 69 rfl)) ?_
                refine gx_Jnn (st0 := fun v19 => [gx_r 10 (some v19)]) (fun _ h => by rw [h]) (fun v19 => ?_)
                refine gx_Jgi (pc := 172) (ci := 9) (kk := 4) (by decide) (Or.inl rfl) (by decide) (by decide) q272 (htX1_pair (172, .getfield 307, 3) (gx_m 70 rfl)) (fun v20 hv20 => ?_)
                refine gx_aload (pc := 175) (i := 7) 0 rfl (htX1_pair (175, .aload 7, 2) (gx_m 71 rfl)) ?_
                refine gx_Jnn (st0 := fun v21 => [gx_r 10 (some v21), gx_i v20]) (fun _ h => by rw [h]) (fun v21 => ?_)
                refine gx_Jgi (pc := 177) (ci := 9) (kk := 3) (by decide) (Or.inl rfl) (by decide) (by decide) q269 (htX1_pair (177, .getfield 310, 3) (gx_m 72 rfl)) (fun v22 hv22 => ?_)
                refine gx_isub (pc := 180) (htX1_pair (180, .isub, 1) (gx_m 73 rfl)) ?_
                exact gx_Jiret (pc := 181) rfl (fun _ => trivial) (fun _ _ => rfl) (htX1_pair (181, .ireturn, 1) (gx_m 74 rfl))
  · refine gx_if_eq (pc := 11) (y := 0) (tgt := 22) (by decide) (htX1_pair (11, .ifCond .eq 11, 3) (gx_m 7 rfl)) (fun c8 => ?_) (fun c8 => ?_)
    · refine gx_iconst (pc := 22) (v := 0) (by decide) (htX1_pair (22, .iconst 0, 1) (gx_m 12 rfl)) ?_
      exact hj1 (0 : Int32) gx_b0
    · refine gx_iload_n (pc := 14) (n := 2) (i := 2) rfl 2 rfl (htX1_pair (14, .iload_n 2, 1) (gx_m 8 rfl)) ?_
      refine gx_if_lt (pc := 15) (y := 0) (tgt := 22) (by decide) (htX1_pair (15, .ifCond .lt 7, 3) (gx_m 9 rfl)) (fun c9 => ?_) (fun c9 => ?_)
      · refine gx_iconst (pc := 22) (v := 0) (by decide) (htX1_pair (22, .iconst 0, 1) (gx_m 12 rfl)) ?_
        exact hj1 (0 : Int32) gx_b0
      · refine gx_iconst (pc := 18) (v := 1) (by decide) (htX1_pair (18, .iconst 1, 1) (gx_m 10 rfl)) ?_
        refine gx_goto (pc := 19) (tgt := 23) (by decide) (htX1_pair (19, .goto 4, 3) (gx_m 11 rfl)) ?_
        exact hj1 (1 : Int32) gx_b1
theorem ct_X1_letter (Y : gx_Y) (hT : gx_Tr Y) (x0 : gx_Nm) (x1 : Int32) (x2 : Int32) (x3 : Int32) : gx_CtX Y yX1_letter (ws_ yX1_letter cX1_letter 4 (some .int)) 9 320 [gx_r 2 (some x0), gx_i x1, gx_i x2, gx_i x3] (gx_Ox gx_Oi) (f_X1_letter x0 x1 x2 x3) := by
  refine gx_startX (lv := [(0, gx_r 2 (some x0)), (1, gx_i x1), (2, gx_i x2), (3, gx_i x3)]) pn_X1 (Nat.le_of_ble_eq_true rfl) rfl ?_
  unfold f_X1_letter
  refine gx_iload_n (pc := 0) (n := 3) (i := 3) rfl 3 rfl (htX1_letter (0, .iload_n 3, 1) (gx_m 0 rfl)) ?_
  refine gx_iconst (pc := 1) (v := 0) (by decide) (htX1_letter (1, .iconst 0, 1) (gx_m 1 rfl)) ?_
  refine gx_iload_n (pc := 2) (n := 2) (i := 2) rfl 2 rfl (htX1_letter (2, .iload_n 2, 1) (gx_m 2 rfl)) ?_
  refine gx_iload_n (pc := 3) (n := 1) (i := 1) rfl 1 rfl (htX1_letter (3, .iload_n 1, 1) (gx_m 3 rfl)) ?_
  refine gx_isub (pc := 4) (htX1_letter (4, .isub, 1) (gx_m 4 rfl)) ?_
  refine gx_iconst (pc := 5) (v := 1) (by decide) (htX1_letter (5, .iconst 1, 1) (gx_m 5 rfl)) ?_
  refine gx_isub (pc := 6) (htX1_letter (6, .isub, 1) (gx_m 6 rfl)) ?_
  refine gx_Jcz (pc := 7) (gx_hstS (as := [gx_i x3, gx_i 0, gx_i ((x2 - x1) - 1)])) (gx_runS (as := [gx_i x3, gx_i 0, gx_i ((x2 - x1) - 1)]) (ct_X1_in Y x3 0 ((x2 - x1) - 1)) rfl rfl rfl q756 q757 q101 q758 rfl dd_X1_in (by decide) (by decide) (Nat.le_of_ble_eq_true rfl) (htX1_letter (7, .invokestatic 69, 3) (gx_m 7 rfl))) (fun v1 hv1 => ?_)
  refine gx_JX (pc := 10) rfl (fun _ => rfl) (gx_runST (as := [gx_i v1]) (ct_X1_there Y hT v1) rfl rfl rfl q1011 q1012 q101 q1013 rfl dd_X1_there (by decide) (by decide) (Nat.le_of_ble_eq_true rfl) (htX1_letter (10, .invokestatic 83, 3) (gx_m 8 rfl))) ?_
  refine gx_Jcv (pc := 10) (gx_hstS (as := [gx_i v1])) (gx_runS (as := [gx_i v1]) (gx_CtX.un gx_Ov_r (ct_X1_there Y hT v1)) rfl rfl rfl q1011 q1012 q101 q1013 rfl dd_X1_there (by decide) (by decide) (Nat.le_of_ble_eq_true rfl) (htX1_letter (10, .invokestatic 83, 3) (gx_m 8 rfl))) ?_
  refine gx_aload_n (pc := 13) (n := 0) (i := 0) rfl 0 rfl (htX1_letter (13, .aload_n 0, 1) (gx_m 9 rfl)) ?_
  refine gx_Jgs (pc := 14) (ci := 1) (kk := 0) (t2 := 3) (by decide) (by decide) rfl rfl rfl q697 (htX1_letter (14, .getfield 22, 3) (gx_m 10 rfl)) ?_
  refine gx_Jgs (pc := 17) (ci := 2) (kk := 0) (t2 := 4) (by decide) (by decide) rfl rfl rfl q403 (htX1_letter (17, .getfield 157, 3) (gx_m 11 rfl)) ?_
  refine gx_Jgs (pc := 20) (ci := 3) (kk := 0) (t2 := 5) (by decide) (by decide) rfl rfl rfl q193 (htX1_letter (20, .getfield 255, 3) (gx_m 12 rfl)) ?_
  refine gx_iload_n (pc := 23) (n := 1) (i := 1) rfl 1 rfl (htX1_letter (23, .iload_n 1, 1) (gx_m 13 rfl)) ?_
  refine gx_iload_n (pc := 24) (n := 3) (i := 3) rfl 3 rfl (htX1_letter (24, .iload_n 3, 1) (gx_m 14 rfl)) ?_
  refine gx_iadd (pc := 25) (htX1_letter (25, .iadd, 1) (gx_m 15 rfl)) ?_
  refine gx_Jci (pc := 26) (gx_hst (as := [gx_i (x1 + x3)]) (b := gx_r 5 (some (0 :: 0 :: 0 :: x0)))) (gx_runV (as := [gx_i (x1 + x3)]) (ci := 4) (ct_X4_get Y (0 :: 0 :: 0 :: x0) (x1 + x3)) (by decide) (Or.inl rfl) rfl rfl rfl rfl q1576 q1317 q1318 q104 q1319 rfl dd_X4_get (by decide) (by decide) (Nat.le_of_ble_eq_true rfl) (htX1_letter (26, .invokevirtual 331, 3) (gx_m 16 rfl))) (fun v2 => ?_)
  exact gx_Jiret (pc := 29) rfl (fun _ => trivial) (fun _ _ => rfl) (htX1_letter (29, .ireturn, 1) (gx_m 17 rfl))
theorem ct_X1_range (Y : gx_Y) (hT : gx_Tr Y) (x0 : gx_Nm) (x1 : Int32) (x2 : Int32) (x3 : Int32) (x4 : Int32) (x5 : Int32) : gx_CtX Y yX1_range (ws_ yX1_range cX1_range 11 (some .int)) 11 363 [gx_r 2 (some x0), gx_i x1, gx_i x2, gx_i x3, gx_i x4, gx_i x5] (gx_Ox gx_Oi) (f_X1_range x0 x1 x2 x3 x4 x5) := by
  refine gx_startX (lv := [(0, gx_r 2 (some x0)), (1, gx_i x1), (2, gx_i x2), (3, gx_i x3), (4, gx_i x4), (5, gx_i x5)]) pn_X1 (Nat.le_of_ble_eq_true rfl) rfl ?_
  unfold f_X1_range
  refine gx_aload_n (pc := 0) (n := 0) (i := 0) rfl 0 rfl (htX1_range_0 (0, .aload_n 0, 1) (gx_m 0 rfl)) ?_
  refine gx_iconst (pc := 1) (v := 2) (by decide) (htX1_range_0 (1, .iconst 2, 1) (gx_m 1 rfl)) ?_
  refine gx_JX (pc := 2) rfl (fun _ => rfl) (gx_runVT (as := [gx_i 2]) (ci := 1) (ct_X1_take Y hT x0 2) (by decide) (Or.inl rfl) rfl rfl rfl rfl q951 q953 qs4 q101 q954 rfl dd_X1_take (by decide) (by decide) (Nat.le_of_ble_eq_true rfl) (htX1_range_0 (2, .invokevirtual 111, 3) (gx_m 2 rfl))) ?_
  refine gx_Jcv (pc := 2) (gx_hst (as := [gx_i 2]) (b := gx_r 2 (some x0))) (gx_runV (as := [gx_i 2]) (ci := 1) (gx_CtX.un gx_Ov_r (ct_X1_take Y hT x0 2)) (by decide) (Or.inl rfl) rfl rfl rfl rfl q951 q953 qs4 q101 q954 rfl dd_X1_take (by decide) (by decide) (Nat.le_of_ble_eq_true rfl) (htX1_range_0 (2, .invokevirtual 111, 3) (gx_m 2 rfl))) ?_
  refine gx_iload_n (pc := 5) (n := 3) (i := 3) rfl 3 rfl (htX1_range_0 (5, .iload_n 3, 1) (gx_m 3 rfl)) ?_
  refine gx_iconst (pc := 6) (v := 0) (by decide) (htX1_range_0 (6, .iconst 0, 1) (gx_m 4 rfl)) ?_
  refine gx_iconst (pc := 7) (v := 3) (by decide) (htX1_range_0 (7, .iconst 3, 1) (gx_m 5 rfl)) ?_
  refine gx_Jcz (pc := 8) (gx_hstS (as := [gx_i x3, gx_i 0, gx_i 3])) (gx_runS (as := [gx_i x3, gx_i 0, gx_i 3]) (ct_X1_in Y x3 0 3) rfl rfl rfl q756 q757 q101 q758 rfl dd_X1_in (by decide) (by decide) (Nat.le_of_ble_eq_true rfl) (htX1_range_0 (8, .invokestatic 69, 3) (gx_m 6 rfl))) (fun v1 hv1 => ?_)
  refine gx_Jjoin (pcJ := 23) (lvJ := fun (j2 : Int32) => [(0, gx_r 2 (some x0)), (1, gx_i x1), (2, gx_i x2), (3, gx_i x3), (4, gx_i x4), (5, gx_i x5)]) (stJ := fun (j2 : Int32) => [gx_i j2]) (fun (j2 : Int32) => j2 &&& 1 = j2) (fun j2 hj2 => ?_) (fun kk1 hj1 => ?_)
  · refine gx_JX (pc := 23) rfl (fun _ => rfl) (gx_runST (as := [gx_i j2]) (ct_X1_good Y hT j2) rfl rfl rfl q759 q760 q101 q761 rfl dd_X1_good (by decide) (by decide) (Nat.le_of_ble_eq_true rfl) (htX1_range_0 (23, .invokestatic 73, 3) (gx_m 13 rfl))) ?_
    refine gx_Jcv (pc := 23) (gx_hstS (as := [gx_i j2])) (gx_runS (as := [gx_i j2]) (gx_CtX.un gx_Ov_r (ct_X1_good Y hT j2)) rfl rfl rfl q759 q760 q101 q761 rfl dd_X1_good (by decide) (by decide) (Nat.le_of_ble_eq_true rfl) (htX1_range_0 (23, .invokestatic 73, 3) (gx_m 13 rfl))) ?_
    refine gx_aload_n (pc := 26) (n := 0) (i := 0) rfl 0 rfl (htX1_range_0 (26, .aload_n 0, 1) (gx_m 14 rfl)) ?_
    refine gx_aload_n (pc := 27) (n := 0) (i := 0) rfl 0 rfl (htX1_range_0 (27, .aload_n 0, 1) (gx_m 15 rfl)) ?_
    refine gx_iload_n (pc := 28) (n := 1) (i := 1) rfl 1 rfl (htX1_range_0 (28, .iload_n 1, 1) (gx_m 16 rfl)) ?_
    refine gx_JX (pc := 29) rfl (fun _ => rfl) (gx_runVT (as := [gx_i x1]) (ci := 1) (ct_X1_up Y hT x0 x1) (by decide) (Or.inl rfl) rfl rfl rfl rfl q1003 q1005 qs7 q101 q1006 rfl dd_X1_up (by decide) (by decide) (Nat.le_of_ble_eq_true rfl) (htX1_range_0 (29, .invokevirtual 148, 3) (gx_m 17 rfl))) ?_
    refine gx_Jcr (pc := 29) (t2 := 14) (gx_hst (as := [gx_i x1]) (b := gx_r 2 (some x0))) (gx_runV (as := [gx_i x1]) (ci := 1) (gx_CtX.un gx_Or_r (ct_X1_up Y hT x0 x1)) (by decide) (Or.inl rfl) rfl rfl rfl rfl q1003 q1005 qs7 q101 q1006 rfl dd_X1_up (by decide) (by decide) (Nat.le_of_ble_eq_true rfl) (htX1_range_0 (29, .invokevirtual 148, 3) (gx_m 17 rfl))) (fun v3 => ?_)
    refine gx_iload_n (pc := 32) (n := 2) (i := 2) rfl 2 rfl (htX1_range_0 (32, .iload_n 2, 1) (gx_m 18 rfl)) ?_
    refine gx_JX (pc := 33) rfl (fun _ => rfl) (gx_runVT (as := [gx_r 14 (some v3), gx_i x2]) (ci := 1) (ct_X1_stateAt Y hT x0 v3 x2) (by decide) (Or.inl rfl) rfl rfl rfl rfl q1549 q1551 qs41 q101 q1552 rfl dd_X1_stateAt (by decide) (by decide) (Nat.le_of_ble_eq_true rfl) (htX1_range_0 (33, .invokevirtual 285, 3) (gx_m 19 rfl))) ?_
    refine gx_Jci (pc := 33) (gx_hst (as := [gx_r 14 (some v3), gx_i x2]) (b := gx_r 2 (some x0))) (gx_runV (as := [gx_r 14 (some v3), gx_i x2]) (ci := 1) (gx_CtX.un gx_Oi_r (ct_X1_stateAt Y hT x0 v3 x2)) (by decide) (Or.inl rfl) rfl rfl rfl rfl q1549 q1551 qs41 q101 q1552 rfl dd_X1_stateAt (by decide) (by decide) (Nat.le_of_ble_eq_true rfl) (htX1_range_0 (33, .invokevirtual 285, 3) (gx_m 19 rfl))) (fun v4 => ?_)
    refine gx_istore (pc := 36) (i := 6) (lv' := [(6, gx_i v4), (0, gx_r 2 (some x0)), (1, gx_i x1), (2, gx_i x2), (3, gx_i x3), (4, gx_i x4), (5, gx_i x5)]) (by decide) rfl (htX1_range_0 (36, .istore 6, 2) (gx_m 20 rfl)) ?_
    refine gx_aload_n (pc := 38) (n := 0) (i := 0) rfl 1 rfl (htX1_range_0 (38, .aload_n 0, 1) (gx_m 21 rfl)) ?_
    refine gx_Jgs (pc := 39) (ci := 1) (kk := 0) (t2 := 3) (by decide) (by decide) rfl rfl rfl q697 (htX1_range_0 (39, .getfield 22, 3) (gx_m 22 rfl)) ?_
    refine gx_Jgs (pc := 42) (ci := 2) (kk := 0) (t2 := 4) (by decide) (by decide) rfl rfl rfl q403 (htX1_range_0 (42, .getfield 157, 3) (gx_m 23 rfl)) ?_
    refine gx_Jgs (pc := 45) (ci := 3) (kk := 0) (t2 := 5) (by decide) (by decide) rfl rfl rfl q193 (htX1_range_0 (45, .getfield 255, 3) (gx_m 24 rfl)) ?_
    refine gx_astore (pc := 48) (i := 7) (lv' := [(7, gx_r 5 (some (0 :: 0 :: 0 :: x0))), (6, gx_i v4), (0, gx_r 2 (some x0)), (1, gx_i x1), (2, gx_i x2), (3, gx_i x3), (4, gx_i x4), (5, gx_i x5)]) (by decide) rfl (htX1_range_0 (48, .astore 7, 2) (gx_m 25 rfl)) ?_
    refine gx_aload (pc := 50) (i := 7) 0 rfl (htX1_range_0 (50, .aload 7, 2) (gx_m 26 rfl)) ?_
    refine gx_Jgi (pc := 52) (ci := 4) (kk := 1) (by decide) (Or.inl rfl) (by decide) (by decide) q162 (htX1_range_0 (52, .getfield 94, 3) (gx_m 27 rfl)) (fun v5 hv5 => ?_)
    refine gx_istore (pc := 55) (i := 8) (lv' := [(8, gx_i v5), (7, gx_r 5 (some (0 :: 0 :: 0 :: x0))), (6, gx_i v4), (0, gx_r 2 (some x0)), (1, gx_i x1), (2, gx_i x2), (3, gx_i x3), (4, gx_i x4), (5, gx_i x5)]) (by decide) rfl (htX1_range_0 (55, .istore 8, 2) (gx_m 28 rfl)) ?_
    refine gx_aload (pc := 57) (i := 7) 1 rfl (htX1_range_0 (57, .aload 7, 2) (gx_m 29 rfl)) ?_
    refine gx_aload_n (pc := 59) (n := 0) (i := 0) rfl 3 rfl (htX1_range_0 (59, .aload_n 0, 1) (gx_m 30 rfl)) ?_
    refine gx_Jgr (pc := 60) (ci := 1) (kk := 4) (t2 := 5) (by decide) (Or.inl rfl) (by decide) rfl rfl q701 (htX1_range_0 (60, .getfield 50, 3) (gx_m 31 rfl)) (fun v6 => ?_)
    refine gx_iconst (pc := 63) (v := 0) (by decide) (htX1_range_0 (63, .iconst 0, 1) (gx_m 32 rfl)) ?_
    refine gx_aload_n (pc := 64) (n := 0) (i := 0) rfl 3 rfl (htX1_range_0 (64, .aload_n 0, 1) (gx_m 33 rfl)) ?_
    refine gx_Jgr (pc := 65) (ci := 1) (kk := 4) (t2 := 5) (by decide) (Or.inl rfl) (by decide) rfl rfl q701 (htX1_range_0 (65, .getfield 50, 3) (gx_m 34 rfl)) (fun v7 => ?_)
    refine gx_Jgi (pc := 68) (ci := 4) (kk := 1) (by decide) (Or.inl rfl) (by decide) (by decide) q162 (htX1_range_0 (68, .getfield 94, 3) (gx_m 35 rfl)) (fun v8 hv8 => ?_)
    refine gx_Jcv (pc := 71) (gx_hst (as := [gx_r 5 (some v6), gx_i 0, gx_i v8]) (b := gx_r 5 (some (0 :: 0 :: 0 :: x0)))) (gx_runV (as := [gx_r 5 (some v6), gx_i 0, gx_i v8]) (ci := 4) (ct_X4_addAll Y (0 :: 0 :: 0 :: x0) v6 0 v8) (by decide) (Or.inl rfl) rfl rfl rfl rfl q940 q941 q942 q104 q943 rfl dd_X4_addAll (by decide) (by decide) (Nat.le_of_ble_eq_true rfl) (htX1_range_0 (71, .invokevirtual 107, 3) (gx_m 36 rfl))) ?_
    refine gx_aload (pc := 74) (i := 7) 1 rfl (htX1_range_0 (74, .aload 7, 2) (gx_m 37 rfl)) ?_
    refine gx_Jgi (pc := 76) (ci := 4) (kk := 1) (by decide) (Or.inl rfl) (by decide) (by decide) q162 (htX1_range_0 (76, .getfield 94, 3) (gx_m 38 rfl)) (fun v9 hv9 => ?_)
    refine gx_istore (pc := 79) (i := 9) (lv' := [(9, gx_i v9), (8, gx_i v5), (7, gx_r 5 (some (0 :: 0 :: 0 :: x0))), (6, gx_i v4), (0, gx_r 2 (some x0)), (1, gx_i x1), (2, gx_i x2), (3, gx_i x3), (4, gx_i x4), (5, gx_i x5)]) (by decide) rfl (htX1_range_0 (79, .istore 9, 2) (gx_m 39 rfl)) ?_
    refine gx_aload (pc := 81) (i := 7) 2 rfl (htX1_range_0 (81, .aload 7, 2) (gx_m 40 rfl)) ?_
    refine gx_aload_n (pc := 83) (n := 0) (i := 0) rfl 4 rfl (htX1_range_0 (83, .aload_n 0, 1) (gx_m 41 rfl)) ?_
    refine gx_Jgr (pc := 84) (ci := 1) (kk := 5) (t2 := 5) (by decide) (Or.inl rfl) (by decide) rfl rfl q702 (htX1_range_0 (84, .getfield 53, 3) (gx_m 42 rfl)) (fun v10 => ?_)
    refine gx_iconst (pc := 87) (v := 0) (by decide) (htX1_range_0 (87, .iconst 0, 1) (gx_m 43 rfl)) ?_
    refine gx_aload_n (pc := 88) (n := 0) (i := 0) rfl 4 rfl (htX1_range_0 (88, .aload_n 0, 1) (gx_m 44 rfl)) ?_
    refine gx_Jgr (pc := 89) (ci := 1) (kk := 5) (t2 := 5) (by decide) (Or.inl rfl) (by decide) rfl rfl q702 (htX1_range_0 (89, .getfield 53, 3) (gx_m 45 rfl)) (fun v11 => ?_)
    refine gx_Jgi (pc := 92) (ci := 4) (kk := 1) (by decide) (Or.inl rfl) (by decide) (by decide) q162 (htX1_range_0 (92, .getfield 94, 3) (gx_m 46 rfl)) (fun v12 hv12 => ?_)
    refine gx_Jcv (pc := 95) (gx_hst (as := [gx_r 5 (some v10), gx_i 0, gx_i v12]) (b := gx_r 5 (some (0 :: 0 :: 0 :: x0)))) (gx_runV (as := [gx_r 5 (some v10), gx_i 0, gx_i v12]) (ci := 4) (ct_X4_addAll Y (0 :: 0 :: 0 :: x0) v10 0 v12) (by decide) (Or.inl rfl) rfl rfl rfl rfl q940 q941 q942 q104 q943 rfl dd_X4_addAll (by decide) (by decide) (Nat.le_of_ble_eq_true rfl) (htX1_range_0 (95, .invokevirtual 107, 3) (gx_m 47 rfl))) ?_
    refine gx_aload_n (pc := 98) (n := 0) (i := 0) rfl 4 rfl (htX1_range_0 (98, .aload_n 0, 1) (gx_m 48 rfl)) ?_
    refine gx_Jgs (pc := 99) (ci := 1) (kk := 0) (t2 := 3) (by decide) (by decide) rfl rfl rfl q697 (htX1_range_0 (99, .getfield 22, 3) (gx_m 49 rfl)) ?_
    refine gx_Jgs (pc := 102) (ci := 2) (kk := 2) (t2 := 8) (by decide) (by decide) rfl rfl rfl q408 (htX1_range_0 (102, .getfield 267, 3) (gx_m 50 rfl)) ?_
    refine gx_iload (pc := 105) (i := 6) 3 rfl (htX1_range_0 (105, .iload 6, 2) (gx_m 51 rfl)) ?_
    refine gx_iload (pc := 107) (i := 8) 1 rfl (htX1_range_0 (107, .iload 8, 2) (gx_m 52 rfl)) ?_
    refine gx_iload (pc := 109) (i := 9) 0 rfl (htX1_range_0 (109, .iload 9, 2) (gx_m 53 rfl)) ?_
    refine gx_iload (pc := 111) (i := 9) 0 rfl (htX1_range_0 (111, .iload 9, 2) (gx_m 54 rfl)) ?_
    refine gx_aload (pc := 113) (i := 7) 2 rfl (htX1_range_0 (113, .aload 7, 2) (gx_m 55 rfl)) ?_
    refine gx_Jgi (pc := 115) (ci := 4) (kk := 1) (by decide) (Or.inl rfl) (by decide) (by decide) q162 (htX1_range_0 (115, .getfield 94, 3) (gx_m 56 rfl)) (fun v13 hv13 => ?_)
    refine gx_aload_n (pc := 118) (n := 0) (i := 0) rfl 4 rfl (htX1_range_0 (118, .aload_n 0, 1) (gx_m 57 rfl)) ?_
    refine gx_Jgs (pc := 119) (ci := 1) (kk := 7) (t2 := 9) (by decide) (by decide) rfl rfl rfl q704 (htX1_range_0 (119, .getfield 59, 3) (gx_m 58 rfl)) ?_
    refine gx_Jcv (pc := 122) (gx_hst (as := [gx_i v4, gx_i v5, gx_i v9, gx_i v9, gx_i v13, gx_r 9 (some (7 :: x0))]) (b := gx_r 8 (some (2 :: 0 :: x0)))) (gx_runV (as := [gx_i v4, gx_i v5, gx_i v9, gx_i v9, gx_i v13, gx_r 9 (some (7 :: x0))]) (ci := 7) (ct_X7_range Y (2 :: 0 :: x0) v4 v5 v9 v9 v13 (7 :: x0)) (by decide) (Or.inl rfl) rfl rfl rfl rfl q1570 q1354 q1355 q107 q1356 rfl dd_X7_range (by decide) (by decide) (Nat.le_of_ble_eq_true rfl) (htX1_range_0 (122, .invokevirtual 313, 3) (gx_m 59 rfl))) ?_
    refine gx_aload (pc := 125) (i := 7) 2 rfl (htX1_range_0 (125, .aload 7, 2) (gx_m 60 rfl)) ?_
    refine gx_iload (pc := 127) (i := 8) 1 rfl (htX1_range_0 (127, .iload 8, 2) (gx_m 61 rfl)) ?_
    refine gx_Jpi (pc := 129) (ci := 4) (kk := 1) (by decide) (Or.inl rfl) (by decide) rfl rfl q162 (Or.inl rfl) (htX1_range_0 (129, .putfield 94, 3) (gx_m 62 rfl)) ?_
    refine gx_iload_n (pc := 132) (n := 3) (i := 3) rfl 7 rfl (htX1_range_0 (132, .iload_n 3, 1) (gx_m 63 rfl)) ?_
    refine gx_if_ne (pc := 133) (y := 0) (tgt := 144) (by decide) (htX1_range_0 (133, .ifCond .ne 11, 3) (gx_m 64 rfl)) (fun c2 => ?_) (fun c2 => ?_)
    · refine gx_aload_n (pc := 136) (n := 0) (i := 0) rfl 4 rfl (htX1_range_0 (136, .aload_n 0, 1) (gx_m 65 rfl)) ?_
      refine gx_Jgs (pc := 137) (ci := 1) (kk := 7) (t2 := 9) (by decide) (by decide) rfl rfl rfl q704 (htX1_range_0 (137, .getfield 59, 3) (gx_m 66 rfl)) ?_
      refine gx_Jgi (pc := 140) (ci := 8) (kk := 1) (by decide) (Or.inl rfl) (by decide) (by decide) q246 (htX1_range_0 (140, .getfield 317, 3) (gx_m 67 rfl)) (fun v14 hv14 => ?_)
      exact gx_Jiret (pc := 143) rfl (fun _ => trivial) (fun _ _ => rfl) (htX1_range_0 (143, .ireturn, 1) (gx_m 68 rfl))
    · refine gx_iload (pc := 144) (i := 4) 8 rfl (htX1_range_0 (144, .iload 4, 2) (gx_m 69 rfl)) ?_
      refine gx_iconst (pc := 146) (v := 0) (by decide) (htX1_range_0 (146, .iconst 0, 1) (gx_m 70 rfl)) ?_
      refine gx_aload_n (pc := 147) (n := 0) (i := 0) rfl 4 rfl (htX1_range_0 (147, .aload_n 0, 1) (gx_m 71 rfl)) ?_
      refine gx_Jgs (pc := 148) (ci := 1) (kk := 7) (t2 := 9) (by decide) (by decide) rfl rfl rfl q704 (htX1_range_0 (148, .getfield 59, 3) (gx_m 72 rfl)) ?_
      refine gx_Jgi (pc := 151) (ci := 8) (kk := 1) (by decide) (Or.inl rfl) (by decide) (by decide) q246 (htX1_range_0 (151, .getfield 317, 3) (gx_m 73 rfl)) (fun v15 hv15 => ?_)
      refine gx_iconst (pc := 154) (v := 1) (by decide) (htX1_range_0 (154, .iconst 1, 1) (gx_m 74 rfl)) ?_
      refine gx_isub (pc := 155) (htX1_range_0 (155, .isub, 1) (gx_m 75 rfl)) ?_
      refine gx_Jcz (pc := 156) (gx_hstS (as := [gx_i x4, gx_i 0, gx_i (v15 - 1)])) (gx_runS (as := [gx_i x4, gx_i 0, gx_i (v15 - 1)]) (ct_X1_in Y x4 0 (v15 - 1)) rfl rfl rfl q756 q757 q101 q758 rfl dd_X1_in (by decide) (by decide) (Nat.le_of_ble_eq_true rfl) (htX1_range_0 (156, .invokestatic 69, 3) (gx_m 76 rfl))) (fun v16 hv16 => ?_)
      refine gx_JX (pc := 159) rfl (fun _ => rfl) (gx_runST (as := [gx_i v16]) (ct_X1_there Y hT v16) rfl rfl rfl q1011 q1012 q101 q1013 rfl dd_X1_there (by decide) (by decide) (Nat.le_of_ble_eq_true rfl) (htX1_range_0 (159, .invokestatic 83, 3) (gx_m 77 rfl))) ?_
      refine gx_Jcv (pc := 159) (gx_hstS (as := [gx_i v16])) (gx_runS (as := [gx_i v16]) (gx_CtX.un gx_Ov_r (ct_X1_there Y hT v16)) rfl rfl rfl q1011 q1012 q101 q1013 rfl dd_X1_there (by decide) (by decide) (Nat.le_of_ble_eq_true rfl) (htX1_range_0 (159, .invokestatic 83, 3) (gx_m 77 rfl))) ?_
      refine gx_aload_n (pc := 162) (n := 0) (i := 0) rfl 4 rfl (htX1_range_0 (162, .aload_n 0, 1) (gx_m 78 rfl)) ?_
      refine gx_Jgs (pc := 163) (ci := 1) (kk := 7) (t2 := 9) (by decide) (by decide) rfl rfl rfl q704 (htX1_range_0 (163, .getfield 59, 3) (gx_m 79 rfl)) ?_
      refine gx_iload (pc := 166) (i := 4) 8 rfl (htX1_range_0 (166, .iload 4, 2) (gx_m 80 rfl)) ?_
      refine gx_Jcr (pc := 168) (t2 := 10) (gx_hst (as := [gx_i x4]) (b := gx_r 9 (some (7 :: x0)))) (gx_runV (as := [gx_i x4]) (ci := 8) (ct_X8_get Y (7 :: x0) x4) (by decide) (Or.inl rfl) rfl rfl rfl rfl q1571 q1309 q1310 q108 q1311 rfl dd_X8_get (by decide) (by decide) (Nat.le_of_ble_eq_true rfl) (htX1_range_0 (168, .invokevirtual 318, 3) (gx_m 81 rfl))) (fun v17 => ?_)
      refine gx_astore (pc := 171) (i := 10) (lv' := [(10, gx_r 10 (some v17)), (9, gx_i v9), (8, gx_i v5), (7, gx_r 5 (some (0 :: 0 :: 0 :: x0))), (6, gx_i v4), (0, gx_r 2 (some x0)), (1, gx_i x1), (2, gx_i x2), (3, gx_i x3), (4, gx_i x4), (5, gx_i x5)]) (by decide) rfl (htX1_range_0 (171, .astore 10, 2) (gx_m 82 rfl)) ?_
      refine gx_iload_n (pc := 173) (n := 3) (i := 3) rfl 8 rfl (htX1_range_0 (173, .iload_n 3, 1) (gx_m 83 rfl)) ?_
      refine gx_iconst (pc := 174) (v := 1) (by decide) (htX1_range_0 (174, .iconst 1, 1) (gx_m 84 rfl)) ?_
      refine gx_icmp_ne (pc := 175) (tgt := 190) (by decide) (htX1_range_0 (175, .if_icmp .ne 15, 3) (gx_m 85 rfl)) (fun c3 => ?_) (fun c3 => ?_)
      · refine gx_aload (pc := 178) (i := 10) 0 rfl (htX1_range_0 (178, .aload 10, 2) (gx_m 86 rfl)) ?_
        refine gx_Jgi (pc := 180) (ci := 9) (kk := 1) (by decide) (Or.inl rfl) (by decide) (by decide) q263 (htX1_range_0 (180, .getfield 321, 3) (gx_m 87 rfl)) (fun v18 hv18 => ?_)
        refine gx_aload (pc := 183) (i := 10) 0 rfl (htX1_range_0 (183, .aload 10, 2) (gx_m 88 rfl)) ?_
        refine gx_Jgi (pc := 185) (ci := 9) (kk := 0) (by decide) (Or.inl rfl) (by decide) (by decide) q260 (htX1_range_0 (185, .getfield 324, 3) (gx_m 89 rfl)) (fun v19 hv19 => ?_)
        refine gx_isub (pc := 188) (htX1_range_0 (188, .isub, 1) (gx_m 90 rfl)) ?_
        exact gx_Jiret (pc := 189) rfl (fun _ => trivial) (fun _ _ => rfl) (htX1_range_0 (189, .ireturn, 1) (gx_m 91 rfl))
      · refine gx_iload_n (pc := 190) (n := 3) (i := 3) rfl 8 rfl (htX1_range_0 (190, .iload_n 3, 1) (gx_m 92 rfl)) ?_
        refine gx_iconst (pc := 191) (v := 2) (by decide) (htX1_range_0 (191, .iconst 2, 1) (gx_m 93 rfl)) ?_
        refine gx_icmp_ne (pc := 192) (tgt := 214) (by decide) (htX1_range_0 (192, .if_icmp .ne 22, 3) (gx_m 94 rfl)) (fun c4 => ?_) (fun c4 => ?_)
        · refine gx_aload_n (pc := 195) (n := 0) (i := 0) rfl 5 rfl (htX1_range_0 (195, .aload_n 0, 1) (gx_m 95 rfl)) ?_
          refine gx_aload (pc := 196) (i := 10) 0 rfl (htX1_range_0 (196, .aload 10, 2) (gx_m 96 rfl)) ?_
          refine gx_Jgi (pc := 198) (ci := 9) (kk := 0) (by decide) (Or.inl rfl) (by decide) (by decide) q260 (htX1_range_0 (198, .getfield 324, 3) (gx_m 97 rfl)) (fun v20 hv20 => ?_)
          refine gx_aload (pc := 201) (i := 10) 0 rfl (htX1_range_0 (201, .aload 10, 2) (gx_m 98 rfl)) ?_
          refine gx_Jgi (pc := 203) (ci := 9) (kk := 1) (by decide) (Or.inl rfl) (by decide) (by decide) q263 (htX1_range_0 (203, .getfield 321, 3) (gx_m 99 rfl)) (fun v21 hv21 => ?_)
          refine gx_iload (pc := 206) (i := 5) 10 rfl (htX1_range_1 (206, .iload 5, 2) (gx_m 0 rfl)) ?_
          refine gx_JX (pc := 208) rfl (fun _ => rfl) (gx_runVT (as := [gx_i v20, gx_i v21, gx_i x5]) (ci := 1) (ct_X1_letter Y hT x0 v20 v21 x5) (by decide) (Or.inl rfl) rfl rfl rfl rfl q1572 q1574 qs42 q101 q1575 rfl dd_X1_letter (by decide) (by decide) (Nat.le_of_ble_eq_true rfl) (htX1_range_1 (208, .invokevirtual 327, 3) (gx_m 1 rfl))) ?_
          refine gx_Jci (pc := 208) (gx_hst (as := [gx_i v20, gx_i v21, gx_i x5]) (b := gx_r 2 (some x0))) (gx_runV (as := [gx_i v20, gx_i v21, gx_i x5]) (ci := 1) (gx_CtX.un gx_Oi_r (ct_X1_letter Y hT x0 v20 v21 x5)) (by decide) (Or.inl rfl) rfl rfl rfl rfl q1572 q1574 qs42 q101 q1575 rfl dd_X1_letter (by decide) (by decide) (Nat.le_of_ble_eq_true rfl) (htX1_range_1 (208, .invokevirtual 327, 3) (gx_m 1 rfl))) (fun v22 => ?_)
          refine gx_goto (pc := 211) (tgt := 230) (by decide) (htX1_range_1 (211, .goto 19, 3) (gx_m 2 rfl)) ?_
          exact gx_Jiret (pc := 230) rfl (fun _ => trivial) (fun _ _ => rfl) (htX1_range_1 (230, .ireturn, 1) (gx_m 10 rfl))
        · refine gx_aload_n (pc := 214) (n := 0) (i := 0) rfl 5 rfl (htX1_range_1 (214, .aload_n 0, 1) (gx_m 3 rfl)) ?_
          refine gx_aload (pc := 215) (i := 10) 0 rfl (htX1_range_1 (215, .aload 10, 2) (gx_m 4 rfl)) ?_
          refine gx_Jgi (pc := 217) (ci := 9) (kk := 3) (by decide) (Or.inl rfl) (by decide) (by decide) q269 (htX1_range_1 (217, .getfield 310, 3) (gx_m 5 rfl)) (fun v23 hv23 => ?_)
          refine gx_aload (pc := 220) (i := 10) 0 rfl (htX1_range_1 (220, .aload 10, 2) (gx_m 6 rfl)) ?_
          refine gx_Jgi (pc := 222) (ci := 9) (kk := 4) (by decide) (Or.inl rfl) (by decide) (by decide) q272 (htX1_range_1 (222, .getfield 307, 3) (gx_m 7 rfl)) (fun v24 hv24 => ?_)
          refine gx_iload (pc := 225) (i := 5) 10 rfl (htX1_range_1 (225, .iload 5, 2) (gx_m 8 rfl)) ?_
          refine gx_JX (pc := 227) rfl (fun _ => rfl) (gx_runVT (as := [gx_i v23, gx_i v24, gx_i x5]) (ci := 1) (ct_X1_letter Y hT x0 v23 v24 x5) (by decide) (Or.inl rfl) rfl rfl rfl rfl q1572 q1574 qs42 q101 q1575 rfl dd_X1_letter (by decide) (by decide) (Nat.le_of_ble_eq_true rfl) (htX1_range_1 (227, .invokevirtual 327, 3) (gx_m 9 rfl))) ?_
          refine gx_Jci (pc := 227) (gx_hst (as := [gx_i v23, gx_i v24, gx_i x5]) (b := gx_r 2 (some x0))) (gx_runV (as := [gx_i v23, gx_i v24, gx_i x5]) (ci := 1) (gx_CtX.un gx_Oi_r (ct_X1_letter Y hT x0 v23 v24 x5)) (by decide) (Or.inl rfl) rfl rfl rfl rfl q1572 q1574 qs42 q101 q1575 rfl dd_X1_letter (by decide) (by decide) (Nat.le_of_ble_eq_true rfl) (htX1_range_1 (227, .invokevirtual 327, 3) (gx_m 9 rfl))) (fun v25 => ?_)
          exact gx_Jiret (pc := 230) rfl (fun _ => trivial) (fun _ _ => rfl) (htX1_range_1 (230, .ireturn, 1) (gx_m 10 rfl))
  · refine gx_if_eq (pc := 11) (y := 0) (tgt := 22) (by decide) (htX1_range_0 (11, .ifCond .eq 11, 3) (gx_m 7 rfl)) (fun c5 => ?_) (fun c5 => ?_)
    · refine gx_iconst (pc := 22) (v := 0) (by decide) (htX1_range_0 (22, .iconst 0, 1) (gx_m 12 rfl)) ?_
      exact hj1 (0 : Int32) gx_b0
    · refine gx_iload_n (pc := 14) (n := 2) (i := 2) rfl 2 rfl (htX1_range_0 (14, .iload_n 2, 1) (gx_m 8 rfl)) ?_
      refine gx_if_lt (pc := 15) (y := 0) (tgt := 22) (by decide) (htX1_range_0 (15, .ifCond .lt 7, 3) (gx_m 9 rfl)) (fun c6 => ?_) (fun c6 => ?_)
      · refine gx_iconst (pc := 22) (v := 0) (by decide) (htX1_range_0 (22, .iconst 0, 1) (gx_m 12 rfl)) ?_
        exact hj1 (0 : Int32) gx_b0
      · refine gx_iconst (pc := 18) (v := 1) (by decide) (htX1_range_0 (18, .iconst 1, 1) (gx_m 10 rfl)) ?_
        refine gx_goto (pc := 19) (tgt := 23) (by decide) (htX1_range_0 (19, .goto 4, 3) (gx_m 11 rfl)) ?_
        exact hj1 (1 : Int32) gx_b1
theorem ct_X1_event (Y : gx_Y) (hT : gx_Tr Y) (x0 : gx_Nm) (x1 : Int32) (x2 : Int32) (x3 : Int32) (x4 : Int32) (x5 : Int32) : gx_CtX Y yX1_event (ws_ yX1_event cX1_event 9 (some .int)) 11 363 [gx_r 2 (some x0), gx_i x1, gx_i x2, gx_i x3, gx_i x4, gx_i x5] (gx_Ox gx_Oi) (f_X1_event x0 x1 x2 x3 x4 x5) := by
  refine gx_startX (lv := [(0, gx_r 2 (some x0)), (1, gx_i x1), (2, gx_i x2), (3, gx_i x3), (4, gx_i x4), (5, gx_i x5)]) pn_X1 (Nat.le_of_ble_eq_true rfl) rfl ?_
  unfold f_X1_event
  refine gx_iload_n (pc := 0) (n := 3) (i := 3) rfl 3 rfl (htX1_event (0, .iload_n 3, 1) (gx_m 0 rfl)) ?_
  refine gx_iconst (pc := 1) (v := 0) (by decide) (htX1_event (1, .iconst 0, 1) (gx_m 1 rfl)) ?_
  refine gx_iconst (pc := 2) (v := 3) (by decide) (htX1_event (2, .iconst 3, 1) (gx_m 2 rfl)) ?_
  refine gx_Jcz (pc := 3) (gx_hstS (as := [gx_i x3, gx_i 0, gx_i 3])) (gx_runS (as := [gx_i x3, gx_i 0, gx_i 3]) (ct_X1_in Y x3 0 3) rfl rfl rfl q756 q757 q101 q758 rfl dd_X1_in (by decide) (by decide) (Nat.le_of_ble_eq_true rfl) (htX1_event (3, .invokestatic 69, 3) (gx_m 3 rfl))) (fun v1 hv1 => ?_)
  refine gx_JX (pc := 6) rfl (fun _ => rfl) (gx_runST (as := [gx_i v1]) (ct_X1_good Y hT v1) rfl rfl rfl q759 q760 q101 q761 rfl dd_X1_good (by decide) (by decide) (Nat.le_of_ble_eq_true rfl) (htX1_event (6, .invokestatic 73, 3) (gx_m 4 rfl))) ?_
  refine gx_Jcv (pc := 6) (gx_hstS (as := [gx_i v1])) (gx_runS (as := [gx_i v1]) (gx_CtX.un gx_Ov_r (ct_X1_good Y hT v1)) rfl rfl rfl q759 q760 q101 q761 rfl dd_X1_good (by decide) (by decide) (Nat.le_of_ble_eq_true rfl) (htX1_event (6, .invokestatic 73, 3) (gx_m 4 rfl))) ?_
  refine gx_aload_n (pc := 9) (n := 0) (i := 0) rfl 0 rfl (htX1_event (9, .aload_n 0, 1) (gx_m 5 rfl)) ?_
  refine gx_iload_n (pc := 10) (n := 1) (i := 1) rfl 1 rfl (htX1_event (10, .iload_n 1, 1) (gx_m 6 rfl)) ?_
  refine gx_JX (pc := 11) rfl (fun _ => rfl) (gx_runVT (as := [gx_i x1]) (ci := 1) (ct_X1_up Y hT x0 x1) (by decide) (Or.inl rfl) rfl rfl rfl rfl q1003 q1005 qs7 q101 q1006 rfl dd_X1_up (by decide) (by decide) (Nat.le_of_ble_eq_true rfl) (htX1_event (11, .invokevirtual 148, 3) (gx_m 7 rfl))) ?_
  refine gx_Jcr (pc := 11) (t2 := 14) (gx_hst (as := [gx_i x1]) (b := gx_r 2 (some x0))) (gx_runV (as := [gx_i x1]) (ci := 1) (gx_CtX.un gx_Or_r (ct_X1_up Y hT x0 x1)) (by decide) (Or.inl rfl) rfl rfl rfl rfl q1003 q1005 qs7 q101 q1006 rfl dd_X1_up (by decide) (by decide) (Nat.le_of_ble_eq_true rfl) (htX1_event (11, .invokevirtual 148, 3) (gx_m 7 rfl))) (fun v2 => ?_)
  refine gx_astore (pc := 14) (i := 6) (lv' := [(6, gx_r 14 (some v2)), (0, gx_r 2 (some x0)), (1, gx_i x1), (2, gx_i x2), (3, gx_i x3), (4, gx_i x4), (5, gx_i x5)]) (by decide) rfl (htX1_event (14, .astore 6, 2) (gx_m 8 rfl)) ?_
  refine gx_iload_n (pc := 16) (n := 2) (i := 2) rfl 3 rfl (htX1_event (16, .iload_n 2, 1) (gx_m 9 rfl)) ?_
  refine gx_iconst (pc := 17) (v := 1) (by decide) (htX1_event (17, .iconst 1, 1) (gx_m 10 rfl)) ?_
  refine gx_aload_n (pc := 18) (n := 0) (i := 0) rfl 1 rfl (htX1_event (18, .aload_n 0, 1) (gx_m 11 rfl)) ?_
  refine gx_Jgs (pc := 19) (ci := 1) (kk := 0) (t2 := 3) (by decide) (by decide) rfl rfl rfl q697 (htX1_event (19, .getfield 22, 3) (gx_m 12 rfl)) ?_
  refine gx_Jgs (pc := 22) (ci := 2) (kk := 2) (t2 := 8) (by decide) (by decide) rfl rfl rfl q408 (htX1_event (22, .getfield 267, 3) (gx_m 13 rfl)) ?_
  refine gx_aload (pc := 25) (i := 6) 0 rfl (htX1_event (25, .aload 6, 2) (gx_m 14 rfl)) ?_
  refine gx_Jgi (pc := 27) (ci := 13) (kk := 11) (by decide) (Or.inl rfl) (by decide) (by decide) q566 (htX1_event (27, .getfield 271, 3) (gx_m 15 rfl)) (fun v3 hv3 => ?_)
  refine gx_Jci (pc := 30) (gx_hst (as := [gx_i v3]) (b := gx_r 8 (some (2 :: 0 :: x0)))) (gx_runV (as := [gx_i v3]) (ci := 7) (ct_X7_revision Y (2 :: 0 :: x0) v3) (by decide) (Or.inl rfl) rfl rfl rfl rfl q1553 q1457 q1458 q107 q1459 rfl dd_X7_revision (by decide) (by decide) (Nat.le_of_ble_eq_true rfl) (htX1_event (30, .invokevirtual 274, 3) (gx_m 16 rfl))) (fun v4 => ?_)
  refine gx_Jcz (pc := 33) (gx_hstS (as := [gx_i x2, gx_i 1, gx_i v4])) (gx_runS (as := [gx_i x2, gx_i 1, gx_i v4]) (ct_X1_in Y x2 1 v4) rfl rfl rfl q756 q757 q101 q758 rfl dd_X1_in (by decide) (by decide) (Nat.le_of_ble_eq_true rfl) (htX1_event (33, .invokestatic 69, 3) (gx_m 17 rfl))) (fun v5 hv5 => ?_)
  refine gx_JX (pc := 36) rfl (fun _ => rfl) (gx_runST (as := [gx_i v5]) (ct_X1_there Y hT v5) rfl rfl rfl q1011 q1012 q101 q1013 rfl dd_X1_there (by decide) (by decide) (Nat.le_of_ble_eq_true rfl) (htX1_event (36, .invokestatic 83, 3) (gx_m 18 rfl))) ?_
  refine gx_Jcv (pc := 36) (gx_hstS (as := [gx_i v5])) (gx_runS (as := [gx_i v5]) (gx_CtX.un gx_Ov_r (ct_X1_there Y hT v5)) rfl rfl rfl q1011 q1012 q101 q1013 rfl dd_X1_there (by decide) (by decide) (Nat.le_of_ble_eq_true rfl) (htX1_event (36, .invokestatic 83, 3) (gx_m 18 rfl))) ?_
  refine gx_iload_n (pc := 39) (n := 2) (i := 2) rfl 3 rfl (htX1_event (39, .iload_n 2, 1) (gx_m 19 rfl)) ?_
  refine gx_aload (pc := 40) (i := 6) 0 rfl (htX1_event (40, .aload 6, 2) (gx_m 20 rfl)) ?_
  refine gx_Jci (pc := 42) (gx_hst (as := []) (b := gx_r 14 (some v2))) (gx_runV (as := []) (ci := 13) (ct_X13_compacted Y v2) (by decide) (Or.inl rfl) rfl rfl rfl rfl q1554 q1555 q1556 q113 q1557 rfl dd_X13_compacted (by decide) (by decide) (Nat.le_of_ble_eq_true rfl) (htX1_event (42, .invokevirtual 279, 3) (gx_m 21 rfl))) (fun v6 => ?_)
  refine gx_Jjoin (pcJ := 53) (lvJ := fun (j7 : Int32) => [(0, gx_r 2 (some x0)), (2, gx_i x2), (3, gx_i x3), (4, gx_i x4), (5, gx_i x5), (6, gx_r 14 (some v2))]) (stJ := fun (j7 : Int32) => [gx_i j7]) (fun (j7 : Int32) => j7 &&& 1 = j7) (fun j7 hj7 => ?_) (fun kk1 hj1 => ?_)
  · refine gx_JX (pc := 53) rfl (fun _ => rfl) (gx_runST (as := [gx_i j7]) (ct_X1_allowed Y hT j7) rfl rfl rfl q1029 q1030 q101 q1031 rfl dd_X1_allowed (by decide) (by decide) (Nat.le_of_ble_eq_true rfl) (htX1_event (53, .invokestatic 154, 3) (gx_m 26 rfl))) ?_
    refine gx_Jcv (pc := 53) (gx_hstS (as := [gx_i j7])) (gx_runS (as := [gx_i j7]) (gx_CtX.un gx_Ov_r (ct_X1_allowed Y hT j7)) rfl rfl rfl q1029 q1030 q101 q1031 rfl dd_X1_allowed (by decide) (by decide) (Nat.le_of_ble_eq_true rfl) (htX1_event (53, .invokestatic 154, 3) (gx_m 26 rfl))) ?_
    refine gx_aload_n (pc := 56) (n := 0) (i := 0) rfl 0 rfl (htX1_event (56, .aload_n 0, 1) (gx_m 27 rfl)) ?_
    refine gx_Jgs (pc := 57) (ci := 1) (kk := 0) (t2 := 3) (by decide) (by decide) rfl rfl rfl q697 (htX1_event (57, .getfield 22, 3) (gx_m 28 rfl)) ?_
    refine gx_Jgs (pc := 60) (ci := 2) (kk := 2) (t2 := 8) (by decide) (by decide) rfl rfl rfl q408 (htX1_event (60, .getfield 267, 3) (gx_m 29 rfl)) ?_
    refine gx_aload (pc := 63) (i := 6) 5 rfl (htX1_event (63, .aload 6, 2) (gx_m 30 rfl)) ?_
    refine gx_Jgi (pc := 65) (ci := 13) (kk := 11) (by decide) (Or.inl rfl) (by decide) (by decide) q566 (htX1_event (65, .getfield 271, 3) (gx_m 31 rfl)) (fun v8 hv8 => ?_)
    refine gx_iload_n (pc := 68) (n := 2) (i := 2) rfl 1 rfl (htX1_event (68, .iload_n 2, 1) (gx_m 32 rfl)) ?_
    refine gx_Jci (pc := 69) (gx_hst (as := [gx_i v8, gx_i x2]) (b := gx_r 8 (some (2 :: 0 :: x0)))) (gx_runV (as := [gx_i v8, gx_i x2]) (ci := 7) (ct_X7_maker Y (2 :: 0 :: x0) v8 x2) (by decide) (Or.inl rfl) rfl rfl rfl rfl q1584 q1585 q1586 q107 q1587 rfl dd_X7_maker (by decide) (by decide) (Nat.le_of_ble_eq_true rfl) (htX1_event (69, .invokevirtual 333, 3) (gx_m 33 rfl))) (fun v9 => ?_)
    refine gx_istore (pc := 72) (i := 7) (lv' := [(7, gx_i v9), (0, gx_r 2 (some x0)), (2, gx_i x2), (3, gx_i x3), (4, gx_i x4), (5, gx_i x5), (6, gx_r 14 (some v2))]) (by decide) rfl (htX1_event (72, .istore 7, 2) (gx_m 34 rfl)) ?_
    refine gx_iload_n (pc := 74) (n := 3) (i := 3) rfl 3 rfl (htX1_event (74, .iload_n 3, 1) (gx_m 35 rfl)) ?_
    refine gx_if_ne (pc := 75) (y := 0) (tgt := 91) (by decide) (htX1_event (75, .ifCond .ne 16, 3) (gx_m 36 rfl)) (fun c2 => ?_) (fun c2 => ?_)
    · refine gx_aload_n (pc := 78) (n := 0) (i := 0) rfl 1 rfl (htX1_event (78, .aload_n 0, 1) (gx_m 37 rfl)) ?_
      refine gx_Jgs (pc := 79) (ci := 1) (kk := 0) (t2 := 3) (by decide) (by decide) rfl rfl rfl q697 (htX1_event (79, .getfield 22, 3) (gx_m 38 rfl)) ?_
      refine gx_Jgs (pc := 82) (ci := 2) (kk := 2) (t2 := 8) (by decide) (by decide) rfl rfl rfl q408 (htX1_event (82, .getfield 267, 3) (gx_m 39 rfl)) ?_
      refine gx_iload (pc := 85) (i := 7) 0 rfl (htX1_event (85, .iload 7, 2) (gx_m 40 rfl)) ?_
      refine gx_Jci (pc := 87) (gx_hst (as := [gx_i v9]) (b := gx_r 8 (some (2 :: 0 :: x0)))) (gx_runV (as := [gx_i v9]) (ci := 7) (ct_X7_changes Y (2 :: 0 :: x0) v9) (by decide) (Or.inl rfl) rfl rfl rfl rfl q1589 q1590 q1591 q107 q1592 rfl dd_X7_changes (by decide) (by decide) (Nat.le_of_ble_eq_true rfl) (htX1_event (87, .invokevirtual 336, 3) (gx_m 41 rfl))) (fun v10 => ?_)
      exact gx_Jiret (pc := 90) rfl (fun _ => trivial) (fun _ _ => rfl) (htX1_event (90, .ireturn, 1) (gx_m 42 rfl))
    · refine gx_iload (pc := 91) (i := 4) 4 rfl (htX1_event (91, .iload 4, 2) (gx_m 43 rfl)) ?_
      refine gx_iconst (pc := 93) (v := 0) (by decide) (htX1_event (93, .iconst 0, 1) (gx_m 44 rfl)) ?_
      refine gx_aload_n (pc := 94) (n := 0) (i := 0) rfl 1 rfl (htX1_event (94, .aload_n 0, 1) (gx_m 45 rfl)) ?_
      refine gx_Jgs (pc := 95) (ci := 1) (kk := 0) (t2 := 3) (by decide) (by decide) rfl rfl rfl q697 (htX1_event (95, .getfield 22, 3) (gx_m 46 rfl)) ?_
      refine gx_Jgs (pc := 98) (ci := 2) (kk := 2) (t2 := 8) (by decide) (by decide) rfl rfl rfl q408 (htX1_event (98, .getfield 267, 3) (gx_m 47 rfl)) ?_
      refine gx_iload (pc := 101) (i := 7) 0 rfl (htX1_event (101, .iload 7, 2) (gx_m 48 rfl)) ?_
      refine gx_Jci (pc := 103) (gx_hst (as := [gx_i v9]) (b := gx_r 8 (some (2 :: 0 :: x0)))) (gx_runV (as := [gx_i v9]) (ci := 7) (ct_X7_changes Y (2 :: 0 :: x0) v9) (by decide) (Or.inl rfl) rfl rfl rfl rfl q1589 q1590 q1591 q107 q1592 rfl dd_X7_changes (by decide) (by decide) (Nat.le_of_ble_eq_true rfl) (htX1_event (103, .invokevirtual 336, 3) (gx_m 49 rfl))) (fun v11 => ?_)
      refine gx_iconst (pc := 106) (v := 1) (by decide) (htX1_event (106, .iconst 1, 1) (gx_m 50 rfl)) ?_
      refine gx_isub (pc := 107) (htX1_event (107, .isub, 1) (gx_m 51 rfl)) ?_
      refine gx_Jcz (pc := 108) (gx_hstS (as := [gx_i x4, gx_i 0, gx_i (v11 - 1)])) (gx_runS (as := [gx_i x4, gx_i 0, gx_i (v11 - 1)]) (ct_X1_in Y x4 0 (v11 - 1)) rfl rfl rfl q756 q757 q101 q758 rfl dd_X1_in (by decide) (by decide) (Nat.le_of_ble_eq_true rfl) (htX1_event (108, .invokestatic 69, 3) (gx_m 52 rfl))) (fun v12 hv12 => ?_)
      refine gx_JX (pc := 111) rfl (fun _ => rfl) (gx_runST (as := [gx_i v12]) (ct_X1_there Y hT v12) rfl rfl rfl q1011 q1012 q101 q1013 rfl dd_X1_there (by decide) (by decide) (Nat.le_of_ble_eq_true rfl) (htX1_event (111, .invokestatic 83, 3) (gx_m 53 rfl))) ?_
      refine gx_Jcv (pc := 111) (gx_hstS (as := [gx_i v12])) (gx_runS (as := [gx_i v12]) (gx_CtX.un gx_Ov_r (ct_X1_there Y hT v12)) rfl rfl rfl q1011 q1012 q101 q1013 rfl dd_X1_there (by decide) (by decide) (Nat.le_of_ble_eq_true rfl) (htX1_event (111, .invokestatic 83, 3) (gx_m 53 rfl))) ?_
      refine gx_aload_n (pc := 114) (n := 0) (i := 0) rfl 1 rfl (htX1_event (114, .aload_n 0, 1) (gx_m 54 rfl)) ?_
      refine gx_Jgs (pc := 115) (ci := 1) (kk := 0) (t2 := 3) (by decide) (by decide) rfl rfl rfl q697 (htX1_event (115, .getfield 22, 3) (gx_m 55 rfl)) ?_
      refine gx_Jgs (pc := 118) (ci := 2) (kk := 2) (t2 := 8) (by decide) (by decide) rfl rfl rfl q408 (htX1_event (118, .getfield 267, 3) (gx_m 56 rfl)) ?_
      refine gx_iload (pc := 121) (i := 7) 0 rfl (htX1_event (121, .iload 7, 2) (gx_m 57 rfl)) ?_
      refine gx_iload (pc := 123) (i := 4) 4 rfl (htX1_event (123, .iload 4, 2) (gx_m 58 rfl)) ?_
      refine gx_Jcr (pc := 125) (t2 := 10) (gx_hst (as := [gx_i v9, gx_i x4]) (b := gx_r 8 (some (2 :: 0 :: x0)))) (gx_runV (as := [gx_i v9, gx_i x4]) (ci := 7) (ct_X7_change Y (2 :: 0 :: x0) v9 x4) (by decide) (Or.inl rfl) rfl rfl rfl rfl q1593 q1594 q1595 q107 q1596 rfl dd_X7_change (by decide) (by decide) (Nat.le_of_ble_eq_true rfl) (htX1_event (125, .invokevirtual 339, 3) (gx_m 59 rfl))) (fun v13 => ?_)
      refine gx_astore (pc := 128) (i := 8) (lv' := [(8, gx_r 10 (some v13)), (7, gx_i v9), (0, gx_r 2 (some x0)), (2, gx_i x2), (3, gx_i x3), (4, gx_i x4), (5, gx_i x5), (6, gx_r 14 (some v2))]) (by decide) rfl (htX1_event (128, .astore 8, 2) (gx_m 60 rfl)) ?_
      refine gx_iload_n (pc := 130) (n := 3) (i := 3) rfl 4 rfl (htX1_event (130, .iload_n 3, 1) (gx_m 61 rfl)) ?_
      refine gx_iconst (pc := 131) (v := 1) (by decide) (htX1_event (131, .iconst 1, 1) (gx_m 62 rfl)) ?_
      refine gx_icmp_ne (pc := 132) (tgt := 149) (by decide) (htX1_event (132, .if_icmp .ne 17, 3) (gx_m 63 rfl)) (fun c3 => ?_) (fun c3 => ?_)
      · refine gx_aload (pc := 135) (i := 8) 0 rfl (htX1_event (135, .aload 8, 2) (gx_m 64 rfl)) ?_
        refine gx_Jgi (pc := 137) (ci := 9) (kk := 2) (by decide) (Or.inl rfl) (by decide) (by decide) q266 (htX1_event (137, .getfield 343, 3) (gx_m 65 rfl)) (fun v14 hv14 => ?_)
        refine gx_Jjoin (pcJ := 148) (lvJ := fun (j15 : Int32) => []) (stJ := fun (j15 : Int32) => [gx_i j15]) (fun (j15 : Int32) => j15 &&& 1 = j15) (fun j15 hj15 => ?_) (fun kk4 hj4 => ?_)
        · exact gx_Jiret (pc := 148) rfl (fun _ => trivial) (fun _ _ => rfl) (htX1_event (148, .ireturn, 1) (gx_m 70 rfl))
        · refine gx_if_eq (pc := 140) (y := 0) (tgt := 147) (by decide) (htX1_event (140, .ifCond .eq 7, 3) (gx_m 66 rfl)) (fun c5 => ?_) (fun c5 => ?_)
          · refine gx_iconst (pc := 147) (v := 1) (by decide) (htX1_event (147, .iconst 1, 1) (gx_m 69 rfl)) ?_
            refine gx_Jw (lv := []) [] rfl ?_
            exact hj4 (1 : Int32) gx_b1
          · refine gx_iconst (pc := 143) (v := 0) (by decide) (htX1_event (143, .iconst 0, 1) (gx_m 67 rfl)) ?_
            refine gx_goto (pc := 144) (tgt := 148) (by decide) (htX1_event (144, .goto 4, 3) (gx_m 68 rfl)) ?_
            refine gx_Jw (lv := []) [] rfl ?_
            exact hj4 (0 : Int32) gx_b0
      · refine gx_iload_n (pc := 149) (n := 3) (i := 3) rfl 4 rfl (htX1_event (149, .iload_n 3, 1) (gx_m 71 rfl)) ?_
        refine gx_iconst (pc := 150) (v := 2) (by decide) (htX1_event (150, .iconst 2, 1) (gx_m 72 rfl)) ?_
        refine gx_icmp_ne (pc := 151) (tgt := 168) (by decide) (htX1_event (151, .if_icmp .ne 17, 3) (gx_m 73 rfl)) (fun c6 => ?_) (fun c6 => ?_)
        · refine gx_aload (pc := 154) (i := 8) 0 rfl (htX1_event (154, .aload 8, 2) (gx_m 74 rfl)) ?_
          refine gx_Jgi (pc := 156) (ci := 9) (kk := 1) (by decide) (Or.inl rfl) (by decide) (by decide) q263 (htX1_event (156, .getfield 321, 3) (gx_m 75 rfl)) (fun v16 hv16 => ?_)
          refine gx_aload (pc := 159) (i := 8) 0 rfl (htX1_event (159, .aload 8, 2) (gx_m 76 rfl)) ?_
          refine gx_Jgi (pc := 161) (ci := 9) (kk := 0) (by decide) (Or.inl rfl) (by decide) (by decide) q260 (htX1_event (161, .getfield 324, 3) (gx_m 77 rfl)) (fun v17 hv17 => ?_)
          refine gx_isub (pc := 164) (htX1_event (164, .isub, 1) (gx_m 78 rfl)) ?_
          refine gx_goto (pc := 165) (tgt := 184) (by decide) (htX1_event (165, .goto 19, 3) (gx_m 79 rfl)) ?_
          exact gx_Jiret (pc := 184) rfl (fun _ => trivial) (fun _ _ => rfl) (htX1_event (184, .ireturn, 1) (gx_m 87 rfl))
        · refine gx_aload_n (pc := 168) (n := 0) (i := 0) rfl 2 rfl (htX1_event (168, .aload_n 0, 1) (gx_m 80 rfl)) ?_
          refine gx_aload (pc := 169) (i := 8) 0 rfl (htX1_event (169, .aload 8, 2) (gx_m 81 rfl)) ?_
          refine gx_Jgi (pc := 171) (ci := 9) (kk := 0) (by decide) (Or.inl rfl) (by decide) (by decide) q260 (htX1_event (171, .getfield 324, 3) (gx_m 82 rfl)) (fun v18 hv18 => ?_)
          refine gx_aload (pc := 174) (i := 8) 0 rfl (htX1_event (174, .aload 8, 2) (gx_m 83 rfl)) ?_
          refine gx_Jgi (pc := 176) (ci := 9) (kk := 1) (by decide) (Or.inl rfl) (by decide) (by decide) q263 (htX1_event (176, .getfield 321, 3) (gx_m 84 rfl)) (fun v19 hv19 => ?_)
          refine gx_iload (pc := 179) (i := 5) 6 rfl (htX1_event (179, .iload 5, 2) (gx_m 85 rfl)) ?_
          refine gx_JX (pc := 181) rfl (fun _ => rfl) (gx_runVT (as := [gx_i v18, gx_i v19, gx_i x5]) (ci := 1) (ct_X1_letter Y hT x0 v18 v19 x5) (by decide) (Or.inl rfl) rfl rfl rfl rfl q1572 q1574 qs42 q101 q1575 rfl dd_X1_letter (by decide) (by decide) (Nat.le_of_ble_eq_true rfl) (htX1_event (181, .invokevirtual 327, 3) (gx_m 86 rfl))) ?_
          refine gx_Jci (pc := 181) (gx_hst (as := [gx_i v18, gx_i v19, gx_i x5]) (b := gx_r 2 (some x0))) (gx_runV (as := [gx_i v18, gx_i v19, gx_i x5]) (ci := 1) (gx_CtX.un gx_Oi_r (ct_X1_letter Y hT x0 v18 v19 x5)) (by decide) (Or.inl rfl) rfl rfl rfl rfl q1572 q1574 qs42 q101 q1575 rfl dd_X1_letter (by decide) (by decide) (Nat.le_of_ble_eq_true rfl) (htX1_event (181, .invokevirtual 327, 3) (gx_m 86 rfl))) (fun v20 => ?_)
          exact gx_Jiret (pc := 184) rfl (fun _ => trivial) (fun _ _ => rfl) (htX1_event (184, .ireturn, 1) (gx_m 87 rfl))
  · refine gx_icmp_lt (pc := 45) (tgt := 52) (by decide) (htX1_event (45, .if_icmp .lt 7, 3) (gx_m 22 rfl)) (fun c7 => ?_) (fun c7 => ?_)
    · refine gx_iconst (pc := 52) (v := 0) (by decide) (htX1_event (52, .iconst 0, 1) (gx_m 25 rfl)) ?_
      refine gx_Jw (lv := [(0, gx_r 2 (some x0)), (2, gx_i x2), (3, gx_i x3), (4, gx_i x4), (5, gx_i x5), (6, gx_r 14 (some v2))]) [1, 3, 4, 5, 6, 0] rfl ?_
      exact hj1 (0 : Int32) gx_b0
    · refine gx_iconst (pc := 48) (v := 1) (by decide) (htX1_event (48, .iconst 1, 1) (gx_m 23 rfl)) ?_
      refine gx_goto (pc := 49) (tgt := 53) (by decide) (htX1_event (49, .goto 4, 3) (gx_m 24 rfl)) ?_
      refine gx_Jw (lv := [(0, gx_r 2 (some x0)), (2, gx_i x2), (3, gx_i x3), (4, gx_i x4), (5, gx_i x5), (6, gx_r 14 (some v2))]) [1, 3, 4, 5, 6, 0] rfl ?_
      exact hj1 (1 : Int32) gx_b1
theorem ct_X1_compact (Y : gx_Y) (hT : gx_Tr Y) (x0 : gx_Nm) (x1 : Int32) (x2 : Int32) : gx_CtX Y yX1_compact (ws_ yX1_compact cX1_compact 4 none) 11 363 [gx_r 2 (some x0), gx_i x1, gx_i x2] (gx_Ox gx_Ov) (f_X1_compact x0 x1 x2) := by
  refine gx_startX (lv := [(0, gx_r 2 (some x0)), (1, gx_i x1), (2, gx_i x2)]) pn_X1 (Nat.le_of_ble_eq_true rfl) rfl ?_
  unfold f_X1_compact
  refine gx_aload_n (pc := 0) (n := 0) (i := 0) rfl 0 rfl (htX1_compact (0, .aload_n 0, 1) (gx_m 0 rfl)) ?_
  refine gx_iload_n (pc := 1) (n := 1) (i := 1) rfl 1 rfl (htX1_compact (1, .iload_n 1, 1) (gx_m 1 rfl)) ?_
  refine gx_JX (pc := 2) rfl (fun _ => rfl) (gx_runVT (as := [gx_i x1]) (ci := 1) (ct_X1_up Y hT x0 x1) (by decide) (Or.inl rfl) rfl rfl rfl rfl q1003 q1005 qs7 q101 q1006 rfl dd_X1_up (by decide) (by decide) (Nat.le_of_ble_eq_true rfl) (htX1_compact (2, .invokevirtual 148, 3) (gx_m 2 rfl))) ?_
  refine gx_Jcr (pc := 2) (t2 := 14) (gx_hst (as := [gx_i x1]) (b := gx_r 2 (some x0))) (gx_runV (as := [gx_i x1]) (ci := 1) (gx_CtX.un gx_Or_r (ct_X1_up Y hT x0 x1)) (by decide) (Or.inl rfl) rfl rfl rfl rfl q1003 q1005 qs7 q101 q1006 rfl dd_X1_up (by decide) (by decide) (Nat.le_of_ble_eq_true rfl) (htX1_compact (2, .invokevirtual 148, 3) (gx_m 2 rfl))) (fun v1 => ?_)
  refine gx_astore_n (pc := 5) (n := 3) (i := 3) (lv' := [(3, gx_r 14 (some v1)), (0, gx_r 2 (some x0)), (1, gx_i x1), (2, gx_i x2)]) rfl (by decide) rfl (htX1_compact (5, .astore_n 3, 1) (gx_m 3 rfl)) ?_
  refine gx_iload_n (pc := 6) (n := 2) (i := 2) rfl 3 rfl (htX1_compact (6, .iload_n 2, 1) (gx_m 4 rfl)) ?_
  refine gx_aload_n (pc := 7) (n := 3) (i := 3) rfl 0 rfl (htX1_compact (7, .aload_n 3, 1) (gx_m 5 rfl)) ?_
  refine gx_Jci (pc := 8) (gx_hst (as := []) (b := gx_r 14 (some v1))) (gx_runV (as := []) (ci := 13) (ct_X13_compacted Y v1) (by decide) (Or.inl rfl) rfl rfl rfl rfl q1554 q1555 q1556 q113 q1557 rfl dd_X13_compacted (by decide) (by decide) (Nat.le_of_ble_eq_true rfl) (htX1_compact (8, .invokevirtual 279, 3) (gx_m 6 rfl))) (fun v2 => ?_)
  refine gx_Jjoin (pcJ := 37) (lvJ := fun (j5 : Int32) => [(2, gx_i x2), (3, gx_r 14 (some v1))]) (stJ := fun (j5 : Int32) => [gx_i j5]) (fun (j5 : Int32) => j5 &&& 1 = j5) (fun j5 hj5 => ?_) (fun kk1 hj1 => ?_)
  · refine gx_JX (pc := 37) rfl (fun _ => rfl) (gx_runST (as := [gx_i j5]) (ct_X1_allowed Y hT j5) rfl rfl rfl q1029 q1030 q101 q1031 rfl dd_X1_allowed (by decide) (by decide) (Nat.le_of_ble_eq_true rfl) (htX1_compact (37, .invokestatic 154, 3) (gx_m 19 rfl))) ?_
    refine gx_Jcv (pc := 37) (gx_hstS (as := [gx_i j5])) (gx_runS (as := [gx_i j5]) (gx_CtX.un gx_Ov_r (ct_X1_allowed Y hT j5)) rfl rfl rfl q1029 q1030 q101 q1031 rfl dd_X1_allowed (by decide) (by decide) (Nat.le_of_ble_eq_true rfl) (htX1_compact (37, .invokestatic 154, 3) (gx_m 19 rfl))) ?_
    refine gx_aload_n (pc := 40) (n := 3) (i := 3) rfl 1 rfl (htX1_compact (40, .aload_n 3, 1) (gx_m 20 rfl)) ?_
    refine gx_iload_n (pc := 41) (n := 2) (i := 2) rfl 0 rfl (htX1_compact (41, .iload_n 2, 1) (gx_m 21 rfl)) ?_
    refine gx_Jcv (pc := 42) (gx_hst (as := [gx_i x2]) (b := gx_r 14 (some v1))) (gx_runV (as := [gx_i x2]) (ci := 13) (ct_X13_compact Y v1 x2) (by decide) (Or.inl rfl) rfl rfl rfl rfl q1604 q1605 q1606 q113 q1607 rfl dd_X13_compact (by decide) (by decide) (Nat.le_of_ble_eq_true rfl) (htX1_compact (42, .invokevirtual 345, 3) (gx_m 22 rfl))) ?_
    exact gx_Jvret (pc := 45) rfl (fun _ => trivial) (fun _ _ => rfl) (htX1_compact (45, .return_, 1) (gx_m 23 rfl))
  · refine gx_icmp_lt (pc := 11) (tgt := 36) (by decide) (htX1_compact (11, .if_icmp .lt 25, 3) (gx_m 7 rfl)) (fun c2 => ?_) (fun c2 => ?_)
    · refine gx_iconst (pc := 36) (v := 0) (by decide) (htX1_compact (36, .iconst 0, 1) (gx_m 18 rfl)) ?_
      refine gx_Jw (lv := [(2, gx_i x2), (3, gx_r 14 (some v1))]) [3, 0] rfl ?_
      exact hj1 (0 : Int32) gx_b0
    · refine gx_iload_n (pc := 14) (n := 2) (i := 2) rfl 3 rfl (htX1_compact (14, .iload_n 2, 1) (gx_m 8 rfl)) ?_
      refine gx_aload_n (pc := 15) (n := 0) (i := 0) rfl 1 rfl (htX1_compact (15, .aload_n 0, 1) (gx_m 9 rfl)) ?_
      refine gx_Jgs (pc := 16) (ci := 1) (kk := 0) (t2 := 3) (by decide) (by decide) rfl rfl rfl q697 (htX1_compact (16, .getfield 22, 3) (gx_m 10 rfl)) ?_
      refine gx_Jgs (pc := 19) (ci := 2) (kk := 2) (t2 := 8) (by decide) (by decide) rfl rfl rfl q408 (htX1_compact (19, .getfield 267, 3) (gx_m 11 rfl)) ?_
      refine gx_aload_n (pc := 22) (n := 3) (i := 3) rfl 0 rfl (htX1_compact (22, .aload_n 3, 1) (gx_m 12 rfl)) ?_
      refine gx_Jgi (pc := 23) (ci := 13) (kk := 11) (by decide) (Or.inl rfl) (by decide) (by decide) q566 (htX1_compact (23, .getfield 271, 3) (gx_m 13 rfl)) (fun v3 hv3 => ?_)
      refine gx_Jci (pc := 26) (gx_hst (as := [gx_i v3]) (b := gx_r 8 (some (2 :: 0 :: x0)))) (gx_runV (as := [gx_i v3]) (ci := 7) (ct_X7_revision Y (2 :: 0 :: x0) v3) (by decide) (Or.inl rfl) rfl rfl rfl rfl q1553 q1457 q1458 q107 q1459 rfl dd_X7_revision (by decide) (by decide) (Nat.le_of_ble_eq_true rfl) (htX1_compact (26, .invokevirtual 274, 3) (gx_m 14 rfl))) (fun v4 => ?_)
      refine gx_icmp_gt (pc := 29) (tgt := 36) (by decide) (htX1_compact (29, .if_icmp .gt 7, 3) (gx_m 15 rfl)) (fun c3 => ?_) (fun c3 => ?_)
      · refine gx_iconst (pc := 36) (v := 0) (by decide) (htX1_compact (36, .iconst 0, 1) (gx_m 18 rfl)) ?_
        refine gx_Jw (lv := [(2, gx_i x2), (3, gx_r 14 (some v1))]) [3, 0] rfl ?_
        exact hj1 (0 : Int32) gx_b0
      · refine gx_iconst (pc := 32) (v := 1) (by decide) (htX1_compact (32, .iconst 1, 1) (gx_m 16 rfl)) ?_
        refine gx_goto (pc := 33) (tgt := 37) (by decide) (htX1_compact (33, .goto 4, 3) (gx_m 17 rfl)) ?_
        refine gx_Jw (lv := [(2, gx_i x2), (3, gx_r 14 (some v1))]) [3, 0] rfl ?_
        exact hj1 (1 : Int32) gx_b1
theorem ct_X1_outcome (Y : gx_Y) (hT : gx_Tr Y) (x0 : gx_Nm) (x1 : Int32) (x2 : Int32) (x3 : Int32) : gx_CtX Y yX1_outcome (ws_ yX1_outcome cX1_outcome 5 (some .int)) 11 363 [gx_r 2 (some x0), gx_i x1, gx_i x2, gx_i x3] (gx_Ox gx_Oi) (f_X1_outcome x0 x1 x2 x3) := by
  refine gx_startX (lv := [(0, gx_r 2 (some x0)), (1, gx_i x1), (2, gx_i x2), (3, gx_i x3)]) pn_X1 (Nat.le_of_ble_eq_true rfl) rfl ?_
  unfold f_X1_outcome
  refine gx_iload_n (pc := 0) (n := 3) (i := 3) rfl 3 rfl (htX1_outcome (0, .iload_n 3, 1) (gx_m 0 rfl)) ?_
  refine gx_iconst (pc := 1) (v := 0) (by decide) (htX1_outcome (1, .iconst 0, 1) (gx_m 1 rfl)) ?_
  refine gx_iconst (pc := 2) (v := 2) (by decide) (htX1_outcome (2, .iconst 2, 1) (gx_m 2 rfl)) ?_
  refine gx_Jcz (pc := 3) (gx_hstS (as := [gx_i x3, gx_i 0, gx_i 2])) (gx_runS (as := [gx_i x3, gx_i 0, gx_i 2]) (ct_X1_in Y x3 0 2) rfl rfl rfl q756 q757 q101 q758 rfl dd_X1_in (by decide) (by decide) (Nat.le_of_ble_eq_true rfl) (htX1_outcome (3, .invokestatic 69, 3) (gx_m 3 rfl))) (fun v1 hv1 => ?_)
  refine gx_JX (pc := 6) rfl (fun _ => rfl) (gx_runST (as := [gx_i v1]) (ct_X1_good Y hT v1) rfl rfl rfl q759 q760 q101 q761 rfl dd_X1_good (by decide) (by decide) (Nat.le_of_ble_eq_true rfl) (htX1_outcome (6, .invokestatic 73, 3) (gx_m 4 rfl))) ?_
  refine gx_Jcv (pc := 6) (gx_hstS (as := [gx_i v1])) (gx_runS (as := [gx_i v1]) (gx_CtX.un gx_Ov_r (ct_X1_good Y hT v1)) rfl rfl rfl q759 q760 q101 q761 rfl dd_X1_good (by decide) (by decide) (Nat.le_of_ble_eq_true rfl) (htX1_outcome (6, .invokestatic 73, 3) (gx_m 4 rfl))) ?_
  refine gx_aload_n (pc := 9) (n := 0) (i := 0) rfl 0 rfl (htX1_outcome (9, .aload_n 0, 1) (gx_m 5 rfl)) ?_
  refine gx_iload_n (pc := 10) (n := 1) (i := 1) rfl 1 rfl (htX1_outcome (10, .iload_n 1, 1) (gx_m 6 rfl)) ?_
  refine gx_JX (pc := 11) rfl (fun _ => rfl) (gx_runVT (as := [gx_i x1]) (ci := 1) (ct_X1_up Y hT x0 x1) (by decide) (Or.inl rfl) rfl rfl rfl rfl q1003 q1005 qs7 q101 q1006 rfl dd_X1_up (by decide) (by decide) (Nat.le_of_ble_eq_true rfl) (htX1_outcome (11, .invokevirtual 148, 3) (gx_m 7 rfl))) ?_
  refine gx_Jcr (pc := 11) (t2 := 14) (gx_hst (as := [gx_i x1]) (b := gx_r 2 (some x0))) (gx_runV (as := [gx_i x1]) (ci := 1) (gx_CtX.un gx_Or_r (ct_X1_up Y hT x0 x1)) (by decide) (Or.inl rfl) rfl rfl rfl rfl q1003 q1005 qs7 q101 q1006 rfl dd_X1_up (by decide) (by decide) (Nat.le_of_ble_eq_true rfl) (htX1_outcome (11, .invokevirtual 148, 3) (gx_m 7 rfl))) (fun v2 => ?_)
  refine gx_iload_n (pc := 14) (n := 2) (i := 2) rfl 2 rfl (htX1_outcome (14, .iload_n 2, 1) (gx_m 8 rfl)) ?_
  refine gx_Jci (pc := 15) (gx_hst (as := [gx_i x2]) (b := gx_r 14 (some v2))) (gx_runV (as := [gx_i x2]) (ci := 13) (ct_X13_stateAt Y v2 x2) (by decide) (Or.inl rfl) rfl rfl rfl rfl q1615 q1616 q1617 q113 q1618 rfl dd_X13_stateAt (by decide) (by decide) (Nat.le_of_ble_eq_true rfl) (htX1_outcome (15, .invokevirtual 348, 3) (gx_m 9 rfl))) (fun v3 => ?_)
  refine gx_istore (pc := 18) (i := 4) (lv' := [(4, gx_i v3), (0, gx_r 2 (some x0)), (1, gx_i x1), (2, gx_i x2), (3, gx_i x3)]) (by decide) rfl (htX1_outcome (18, .istore 4, 2) (gx_m 10 rfl)) ?_
  refine gx_iload (pc := 20) (i := 4) 0 rfl (htX1_outcome (20, .iload 4, 2) (gx_m 11 rfl)) ?_
  refine gx_Jjoin (pcJ := 30) (lvJ := fun (j4 : Int32) => [(0, gx_r 2 (some x0)), (3, gx_i x3), (4, gx_i v3)]) (stJ := fun (j4 : Int32) => [gx_i j4]) (fun (j4 : Int32) => j4 &&& 1 = j4) (fun j4 hj4 => ?_) (fun kk1 hj1 => ?_)
  · refine gx_JX (pc := 30) rfl (fun _ => rfl) (gx_runST (as := [gx_i j4]) (ct_X1_there Y hT j4) rfl rfl rfl q1011 q1012 q101 q1013 rfl dd_X1_there (by decide) (by decide) (Nat.le_of_ble_eq_true rfl) (htX1_outcome (30, .invokestatic 83, 3) (gx_m 16 rfl))) ?_
    refine gx_Jcv (pc := 30) (gx_hstS (as := [gx_i j4])) (gx_runS (as := [gx_i j4]) (gx_CtX.un gx_Ov_r (ct_X1_there Y hT j4)) rfl rfl rfl q1011 q1012 q101 q1013 rfl dd_X1_there (by decide) (by decide) (Nat.le_of_ble_eq_true rfl) (htX1_outcome (30, .invokestatic 83, 3) (gx_m 16 rfl))) ?_
    refine gx_iload_n (pc := 33) (n := 3) (i := 3) rfl 1 rfl (htX1_outcome (33, .iload_n 3, 1) (gx_m 17 rfl)) ?_
    refine gx_Jjoin (pcJ := 84) (lvJ := fun (j8 : Int32) => []) (stJ := fun (j8 : Int32) => [gx_i j8]) (fun _ => True) (fun j8 hj8 => ?_) (fun kk2 hj2 => ?_)
    · exact gx_Jiret (pc := 84) rfl (fun _ => trivial) (fun _ _ => rfl) (htX1_outcome (84, .ireturn, 1) (gx_m 39 rfl))
    · refine gx_if_ne (pc := 34) (y := 0) (tgt := 52) (by decide) (htX1_outcome (34, .ifCond .ne 18, 3) (gx_m 18 rfl)) (fun c3 => ?_) (fun c3 => ?_)
      · refine gx_aload_n (pc := 37) (n := 0) (i := 0) rfl 0 rfl (htX1_outcome (37, .aload_n 0, 1) (gx_m 19 rfl)) ?_
        refine gx_Jgs (pc := 38) (ci := 1) (kk := 0) (t2 := 3) (by decide) (by decide) rfl rfl rfl q697 (htX1_outcome (38, .getfield 22, 3) (gx_m 20 rfl)) ?_
        refine gx_Jgs (pc := 41) (ci := 2) (kk := 2) (t2 := 8) (by decide) (by decide) rfl rfl rfl q408 (htX1_outcome (41, .getfield 267, 3) (gx_m 21 rfl)) ?_
        refine gx_iload (pc := 44) (i := 4) 2 rfl (htX1_outcome (44, .iload 4, 2) (gx_m 22 rfl)) ?_
        refine gx_Jci (pc := 46) (gx_hst (as := [gx_i v3]) (b := gx_r 8 (some (2 :: 0 :: x0)))) (gx_runV (as := [gx_i v3]) (ci := 7) (ct_X7_outcome Y (2 :: 0 :: x0) v3) (by decide) (Or.inl rfl) rfl rfl rfl rfl q1619 q1620 q1621 q107 q1622 rfl dd_X7_outcome (by decide) (by decide) (Nat.le_of_ble_eq_true rfl) (htX1_outcome (46, .invokevirtual 350, 3) (gx_m 23 rfl))) (fun v5 => ?_)
        refine gx_goto (pc := 49) (tgt := 84) (by decide) (htX1_outcome (49, .goto 35, 3) (gx_m 24 rfl)) ?_
        refine gx_Jw (lv := []) [] rfl ?_
        exact hj2 (v5 : Int32) trivial
      · refine gx_iload_n (pc := 52) (n := 3) (i := 3) rfl 1 rfl (htX1_outcome (52, .iload_n 3, 1) (gx_m 25 rfl)) ?_
        refine gx_iconst (pc := 53) (v := 1) (by decide) (htX1_outcome (53, .iconst 1, 1) (gx_m 26 rfl)) ?_
        refine gx_icmp_ne (pc := 54) (tgt := 72) (by decide) (htX1_outcome (54, .if_icmp .ne 18, 3) (gx_m 27 rfl)) (fun c4 => ?_) (fun c4 => ?_)
        · refine gx_aload_n (pc := 57) (n := 0) (i := 0) rfl 0 rfl (htX1_outcome (57, .aload_n 0, 1) (gx_m 28 rfl)) ?_
          refine gx_Jgs (pc := 58) (ci := 1) (kk := 0) (t2 := 3) (by decide) (by decide) rfl rfl rfl q697 (htX1_outcome (58, .getfield 22, 3) (gx_m 29 rfl)) ?_
          refine gx_Jgs (pc := 61) (ci := 2) (kk := 2) (t2 := 8) (by decide) (by decide) rfl rfl rfl q408 (htX1_outcome (61, .getfield 267, 3) (gx_m 30 rfl)) ?_
          refine gx_iload (pc := 64) (i := 4) 2 rfl (htX1_outcome (64, .iload 4, 2) (gx_m 31 rfl)) ?_
          refine gx_Jci (pc := 66) (gx_hst (as := [gx_i v3]) (b := gx_r 8 (some (2 :: 0 :: x0)))) (gx_runV (as := [gx_i v3]) (ci := 7) (ct_X7_revision Y (2 :: 0 :: x0) v3) (by decide) (Or.inl rfl) rfl rfl rfl rfl q1553 q1457 q1458 q107 q1459 rfl dd_X7_revision (by decide) (by decide) (Nat.le_of_ble_eq_true rfl) (htX1_outcome (66, .invokevirtual 274, 3) (gx_m 32 rfl))) (fun v6 => ?_)
          refine gx_goto (pc := 69) (tgt := 84) (by decide) (htX1_outcome (69, .goto 15, 3) (gx_m 33 rfl)) ?_
          refine gx_Jw (lv := []) [] rfl ?_
          exact hj2 (v6 : Int32) trivial
        · refine gx_aload_n (pc := 72) (n := 0) (i := 0) rfl 0 rfl (htX1_outcome (72, .aload_n 0, 1) (gx_m 34 rfl)) ?_
          refine gx_Jgs (pc := 73) (ci := 1) (kk := 0) (t2 := 3) (by decide) (by decide) rfl rfl rfl q697 (htX1_outcome (73, .getfield 22, 3) (gx_m 35 rfl)) ?_
          refine gx_Jgs (pc := 76) (ci := 2) (kk := 2) (t2 := 8) (by decide) (by decide) rfl rfl rfl q408 (htX1_outcome (76, .getfield 267, 3) (gx_m 36 rfl)) ?_
          refine gx_iload (pc := 79) (i := 4) 2 rfl (htX1_outcome (79, .iload 4, 2) (gx_m 37 rfl)) ?_
          refine gx_Jci (pc := 81) (gx_hst (as := [gx_i v3]) (b := gx_r 8 (some (2 :: 0 :: x0)))) (gx_runV (as := [gx_i v3]) (ci := 7) (ct_X7_deleted Y (2 :: 0 :: x0) v3) (by decide) (Or.inl rfl) rfl rfl rfl rfl q1623 q1624 q1625 q107 q1626 rfl dd_X7_deleted (by decide) (by decide) (Nat.le_of_ble_eq_true rfl) (htX1_outcome (81, .invokevirtual 353, 3) (gx_m 38 rfl))) (fun v7 => ?_)
          refine gx_Jw (lv := []) [] rfl ?_
          exact hj2 (v7 : Int32) trivial
  · refine gx_if_lt (pc := 22) (y := 0) (tgt := 29) (by decide) (htX1_outcome (22, .ifCond .lt 7, 3) (gx_m 12 rfl)) (fun c5 => ?_) (fun c5 => ?_)
    · refine gx_iconst (pc := 29) (v := 0) (by decide) (htX1_outcome (29, .iconst 0, 1) (gx_m 15 rfl)) ?_
      refine gx_Jw (lv := [(0, gx_r 2 (some x0)), (3, gx_i x3), (4, gx_i v3)]) [1, 4, 0] rfl ?_
      exact hj1 (0 : Int32) gx_b0
    · refine gx_iconst (pc := 25) (v := 1) (by decide) (htX1_outcome (25, .iconst 1, 1) (gx_m 13 rfl)) ?_
      refine gx_goto (pc := 26) (tgt := 30) (by decide) (htX1_outcome (26, .goto 4, 3) (gx_m 14 rfl)) ?_
      refine gx_Jw (lv := [(0, gx_r 2 (some x0)), (3, gx_i x3), (4, gx_i v3)]) [1, 4, 0] rfl ?_
      exact hj1 (1 : Int32) gx_b1
theorem ct_X1_message (Y : gx_Y) (hT : gx_Tr Y) (x0 : gx_Nm) (x1 : Int32) (x2 : Int32) : gx_CtX Y yX1_message (ws_ yX1_message cX1_message 4 (some .int)) 9 320 [gx_r 2 (some x0), gx_i x1, gx_i x2] (gx_Ox gx_Oi) (f_X1_message x0 x1 x2) := by
  refine gx_startX (lv := [(0, gx_r 2 (some x0)), (1, gx_i x1), (2, gx_i x2)]) pn_X1 (Nat.le_of_ble_eq_true rfl) rfl ?_
  unfold f_X1_message
  refine gx_iload_n (pc := 0) (n := 2) (i := 2) rfl 2 rfl (htX1_message (0, .iload_n 2, 1) (gx_m 0 rfl)) ?_
  refine gx_iconst (pc := 1) (v := 0) (by decide) (htX1_message (1, .iconst 0, 1) (gx_m 1 rfl)) ?_
  refine gx_bipush (pc := 2) (v := 8) (by decide) (htX1_message (2, .bipush 8, 2) (gx_m 2 rfl)) ?_
  refine gx_Jcz (pc := 4) (gx_hstS (as := [gx_i x2, gx_i 0, gx_i 8])) (gx_runS (as := [gx_i x2, gx_i 0, gx_i 8]) (ct_X1_in Y x2 0 8) rfl rfl rfl q756 q757 q101 q758 rfl dd_X1_in (by decide) (by decide) (Nat.le_of_ble_eq_true rfl) (htX1_message (4, .invokestatic 69, 3) (gx_m 3 rfl))) (fun v1 hv1 => ?_)
  refine gx_JX (pc := 7) rfl (fun _ => rfl) (gx_runST (as := [gx_i v1]) (ct_X1_good Y hT v1) rfl rfl rfl q759 q760 q101 q761 rfl dd_X1_good (by decide) (by decide) (Nat.le_of_ble_eq_true rfl) (htX1_message (7, .invokestatic 73, 3) (gx_m 4 rfl))) ?_
  refine gx_Jcv (pc := 7) (gx_hstS (as := [gx_i v1])) (gx_runS (as := [gx_i v1]) (gx_CtX.un gx_Ov_r (ct_X1_good Y hT v1)) rfl rfl rfl q759 q760 q101 q761 rfl dd_X1_good (by decide) (by decide) (Nat.le_of_ble_eq_true rfl) (htX1_message (7, .invokestatic 73, 3) (gx_m 4 rfl))) ?_
  refine gx_iload_n (pc := 10) (n := 1) (i := 1) rfl 1 rfl (htX1_message (10, .iload_n 1, 1) (gx_m 5 rfl)) ?_
  refine gx_iconst (pc := 11) (v := 0) (by decide) (htX1_message (11, .iconst 0, 1) (gx_m 6 rfl)) ?_
  refine gx_aload_n (pc := 12) (n := 0) (i := 0) rfl 0 rfl (htX1_message (12, .aload_n 0, 1) (gx_m 7 rfl)) ?_
  refine gx_Jgs (pc := 13) (ci := 1) (kk := 0) (t2 := 3) (by decide) (by decide) rfl rfl rfl q697 (htX1_message (13, .getfield 22, 3) (gx_m 8 rfl)) ?_
  refine gx_Jgs (pc := 16) (ci := 2) (kk := 3) (t2 := 11) (by decide) (by decide) rfl rfl rfl q411 (htX1_message (16, .getfield 197, 3) (gx_m 9 rfl)) ?_
  refine gx_Jgs (pc := 19) (ci := 10) (kk := 0) (t2 := 12) (by decide) (by decide) rfl rfl rfl q389 (htX1_message (19, .getfield 201, 3) (gx_m 10 rfl)) ?_
  refine gx_Jgi (pc := 22) (ci := 11) (kk := 1) (by decide) (Or.inl rfl) (by decide) (by decide) q382 (htX1_message (22, .getfield 207, 3) (gx_m 11 rfl)) (fun v2 hv2 => ?_)
  refine gx_iconst (pc := 25) (v := 1) (by decide) (htX1_message (25, .iconst 1, 1) (gx_m 12 rfl)) ?_
  refine gx_isub (pc := 26) (htX1_message (26, .isub, 1) (gx_m 13 rfl)) ?_
  refine gx_Jcz (pc := 27) (gx_hstS (as := [gx_i x1, gx_i 0, gx_i (v2 - 1)])) (gx_runS (as := [gx_i x1, gx_i 0, gx_i (v2 - 1)]) (ct_X1_in Y x1 0 (v2 - 1)) rfl rfl rfl q756 q757 q101 q758 rfl dd_X1_in (by decide) (by decide) (Nat.le_of_ble_eq_true rfl) (htX1_message (27, .invokestatic 69, 3) (gx_m 14 rfl))) (fun v3 hv3 => ?_)
  refine gx_JX (pc := 30) rfl (fun _ => rfl) (gx_runST (as := [gx_i v3]) (ct_X1_there Y hT v3) rfl rfl rfl q1011 q1012 q101 q1013 rfl dd_X1_there (by decide) (by decide) (Nat.le_of_ble_eq_true rfl) (htX1_message (30, .invokestatic 83, 3) (gx_m 15 rfl))) ?_
  refine gx_Jcv (pc := 30) (gx_hstS (as := [gx_i v3])) (gx_runS (as := [gx_i v3]) (gx_CtX.un gx_Ov_r (ct_X1_there Y hT v3)) rfl rfl rfl q1011 q1012 q101 q1013 rfl dd_X1_there (by decide) (by decide) (Nat.le_of_ble_eq_true rfl) (htX1_message (30, .invokestatic 83, 3) (gx_m 15 rfl))) ?_
  refine gx_aload_n (pc := 33) (n := 0) (i := 0) rfl 0 rfl (htX1_message (33, .aload_n 0, 1) (gx_m 16 rfl)) ?_
  refine gx_Jgs (pc := 34) (ci := 1) (kk := 0) (t2 := 3) (by decide) (by decide) rfl rfl rfl q697 (htX1_message (34, .getfield 22, 3) (gx_m 17 rfl)) ?_
  refine gx_Jgs (pc := 37) (ci := 2) (kk := 3) (t2 := 11) (by decide) (by decide) rfl rfl rfl q411 (htX1_message (37, .getfield 197, 3) (gx_m 18 rfl)) ?_
  refine gx_Jgs (pc := 40) (ci := 10) (kk := 0) (t2 := 12) (by decide) (by decide) rfl rfl rfl q389 (htX1_message (40, .getfield 201, 3) (gx_m 19 rfl)) ?_
  refine gx_iload_n (pc := 43) (n := 1) (i := 1) rfl 1 rfl (htX1_message (43, .iload_n 1, 1) (gx_m 20 rfl)) ?_
  refine gx_Jcr (pc := 44) (t2 := 18) (gx_hst (as := [gx_i x1]) (b := gx_r 12 (some (0 :: 3 :: 0 :: x0)))) (gx_runV (as := [gx_i x1]) (ci := 11) (ct_X11_get Y (0 :: 3 :: 0 :: x0) x1) (by decide) (Or.inl rfl) rfl rfl rfl rfl q1397 q1264 q1265 q111 q1266 rfl dd_X11_get (by decide) (by decide) (Nat.le_of_ble_eq_true rfl) (htX1_message (44, .invokevirtual 210, 3) (gx_m 21 rfl))) (fun v4 => ?_)
  refine gx_astore_n (pc := 47) (n := 3) (i := 3) (lv' := [(3, gx_r 18 (some v4)), (0, gx_r 2 (some x0)), (1, gx_i x1), (2, gx_i x2)]) rfl (by decide) rfl (htX1_message (47, .astore_n 3, 1) (gx_m 22 rfl)) ?_
  refine gx_iload_n (pc := 48) (n := 2) (i := 2) rfl 3 rfl (htX1_message (48, .iload_n 2, 1) (gx_m 23 rfl)) ?_
  refine gx_Jite (fun c1 => ?_) (fun c1 => ?_)
  · refine gx_Jtab (pc := 49) (tgt := 96) (htX1_message (49, .tableswitch 87 0 7 #[47, 52, 57, 62, 67, 72, 77, 82], 47) (gx_m 24 rfl)) (by decide) (gx_tD c1 (by decide)) (gx_tI c1 (by decide)) ?_
    refine gx_aload_n (pc := 96) (n := 3) (i := 3) rfl 0 rfl (htX1_message (96, .aload_n 3, 1) (gx_m 25 rfl)) ?_
    refine gx_Jgi (pc := 97) (ci := 17) (kk := 0) (by decide) (Or.inl rfl) (by decide) (by decide) q1116 (htX1_message (97, .getfield 356, 3) (gx_m 26 rfl)) (fun v5 hv5 => ?_)
    exact gx_Jiret (pc := 100) rfl (fun _ => trivial) (fun _ _ => rfl) (htX1_message (100, .ireturn, 1) (gx_m 27 rfl))
  · refine gx_Jite (fun c2 => ?_) (fun c2 => ?_)
    · refine gx_Jtab (pc := 49) (tgt := 101) (htX1_message (49, .tableswitch 87 0 7 #[47, 52, 57, 62, 67, 72, 77, 82], 47) (gx_m 24 rfl)) (by decide) (gx_tD c2 (by decide)) (gx_tI c2 (by decide)) ?_
      refine gx_aload_n (pc := 101) (n := 3) (i := 3) rfl 0 rfl (htX1_message (101, .aload_n 3, 1) (gx_m 28 rfl)) ?_
      refine gx_Jgi (pc := 102) (ci := 17) (kk := 1) (by decide) (Or.inl rfl) (by decide) (by decide) q1118 (htX1_message (102, .getfield 359, 3) (gx_m 29 rfl)) (fun v6 hv6 => ?_)
      exact gx_Jiret (pc := 105) rfl (fun _ => trivial) (fun _ _ => rfl) (htX1_message (105, .ireturn, 1) (gx_m 30 rfl))
    · refine gx_Jite (fun c3 => ?_) (fun c3 => ?_)
      · refine gx_Jtab (pc := 49) (tgt := 106) (htX1_message (49, .tableswitch 87 0 7 #[47, 52, 57, 62, 67, 72, 77, 82], 47) (gx_m 24 rfl)) (by decide) (gx_tD c3 (by decide)) (gx_tI c3 (by decide)) ?_
        refine gx_aload_n (pc := 106) (n := 3) (i := 3) rfl 0 rfl (htX1_message (106, .aload_n 3, 1) (gx_m 31 rfl)) ?_
        refine gx_Jgi (pc := 107) (ci := 17) (kk := 2) (by decide) (Or.inl rfl) (by decide) (by decide) q1120 (htX1_message (107, .getfield 214, 3) (gx_m 32 rfl)) (fun v7 hv7 => ?_)
        exact gx_Jiret (pc := 110) rfl (fun _ => trivial) (fun _ _ => rfl) (htX1_message (110, .ireturn, 1) (gx_m 33 rfl))
      · refine gx_Jite (fun c4 => ?_) (fun c4 => ?_)
        · refine gx_Jtab (pc := 49) (tgt := 111) (htX1_message (49, .tableswitch 87 0 7 #[47, 52, 57, 62, 67, 72, 77, 82], 47) (gx_m 24 rfl)) (by decide) (gx_tD c4 (by decide)) (gx_tI c4 (by decide)) ?_
          refine gx_aload_n (pc := 111) (n := 3) (i := 3) rfl 0 rfl (htX1_message (111, .aload_n 3, 1) (gx_m 34 rfl)) ?_
          refine gx_Jgi (pc := 112) (ci := 17) (kk := 3) (by decide) (Or.inl rfl) (by decide) (by decide) q1122 (htX1_message (112, .getfield 362, 3) (gx_m 35 rfl)) (fun v8 hv8 => ?_)
          exact gx_Jiret (pc := 115) rfl (fun _ => trivial) (fun _ _ => rfl) (htX1_message (115, .ireturn, 1) (gx_m 36 rfl))
        · refine gx_Jite (fun c5 => ?_) (fun c5 => ?_)
          · refine gx_Jtab (pc := 49) (tgt := 116) (htX1_message (49, .tableswitch 87 0 7 #[47, 52, 57, 62, 67, 72, 77, 82], 47) (gx_m 24 rfl)) (by decide) (gx_tD c5 (by decide)) (gx_tI c5 (by decide)) ?_
            refine gx_aload_n (pc := 116) (n := 3) (i := 3) rfl 0 rfl (htX1_message (116, .aload_n 3, 1) (gx_m 37 rfl)) ?_
            refine gx_Jgi (pc := 117) (ci := 17) (kk := 4) (by decide) (Or.inl rfl) (by decide) (by decide) q1124 (htX1_message (117, .getfield 365, 3) (gx_m 38 rfl)) (fun v9 hv9 => ?_)
            exact gx_Jiret (pc := 120) rfl (fun _ => trivial) (fun _ _ => rfl) (htX1_message (120, .ireturn, 1) (gx_m 39 rfl))
          · refine gx_Jite (fun c6 => ?_) (fun c6 => ?_)
            · refine gx_Jtab (pc := 49) (tgt := 121) (htX1_message (49, .tableswitch 87 0 7 #[47, 52, 57, 62, 67, 72, 77, 82], 47) (gx_m 24 rfl)) (by decide) (gx_tD c6 (by decide)) (gx_tI c6 (by decide)) ?_
              refine gx_aload_n (pc := 121) (n := 3) (i := 3) rfl 0 rfl (htX1_message (121, .aload_n 3, 1) (gx_m 40 rfl)) ?_
              refine gx_Jgi (pc := 122) (ci := 17) (kk := 5) (by decide) (Or.inl rfl) (by decide) (by decide) q1126 (htX1_message (122, .getfield 368, 3) (gx_m 41 rfl)) (fun v10 hv10 => ?_)
              exact gx_Jiret (pc := 125) rfl (fun _ => trivial) (fun _ _ => rfl) (htX1_message (125, .ireturn, 1) (gx_m 42 rfl))
            · refine gx_Jite (fun c7 => ?_) (fun c7 => ?_)
              · refine gx_Jtab (pc := 49) (tgt := 126) (htX1_message (49, .tableswitch 87 0 7 #[47, 52, 57, 62, 67, 72, 77, 82], 47) (gx_m 24 rfl)) (by decide) (gx_tD c7 (by decide)) (gx_tI c7 (by decide)) ?_
                refine gx_aload_n (pc := 126) (n := 3) (i := 3) rfl 0 rfl (htX1_message (126, .aload_n 3, 1) (gx_m 43 rfl)) ?_
                refine gx_Jgi (pc := 127) (ci := 17) (kk := 9) (by decide) (Or.inl rfl) (by decide) (by decide) q1133 (htX1_message (127, .getfield 371, 3) (gx_m 44 rfl)) (fun v11 hv11 => ?_)
                exact gx_Jiret (pc := 130) rfl (fun _ => trivial) (fun _ _ => rfl) (htX1_message (130, .ireturn, 1) (gx_m 45 rfl))
              · refine gx_Jite (fun c8 => ?_) (fun c8 => ?_)
                · refine gx_Jtab (pc := 49) (tgt := 131) (htX1_message (49, .tableswitch 87 0 7 #[47, 52, 57, 62, 67, 72, 77, 82], 47) (gx_m 24 rfl)) (by decide) (gx_tD c8 (by decide)) (gx_tI c8 (by decide)) ?_
                  refine gx_aload_n (pc := 131) (n := 3) (i := 3) rfl 0 rfl (htX1_message (131, .aload_n 3, 1) (gx_m 46 rfl)) ?_
                  refine gx_Jgi (pc := 132) (ci := 17) (kk := 7) (by decide) (Or.inl rfl) (by decide) (by decide) q1130 (htX1_message (132, .getfield 374, 3) (gx_m 47 rfl)) (fun v12 hv12 => ?_)
                  exact gx_Jiret (pc := 135) rfl (fun _ => trivial) (fun _ _ => rfl) (htX1_message (135, .ireturn, 1) (gx_m 48 rfl))
                · refine gx_Jtab (pc := 49) (tgt := 136) (htX1_message (49, .tableswitch 87 0 7 #[47, 52, 57, 62, 67, 72, 77, 82], 47) (gx_m 24 rfl)) (by decide) (fun _ => by decide) (gx_tN (ks := [0, 1, 2, 3, 4, 5, 6, 7]) (by simp only [List.mem_cons, List.not_mem_nil, or_false, not_or]; exact ⟨c1, c2, c3, c4, c5, c6, c7, c8⟩) (by decide)) ?_
                  refine gx_aload_n (pc := 136) (n := 3) (i := 3) rfl 0 rfl (htX1_message (136, .aload_n 3, 1) (gx_m 49 rfl)) ?_
                  refine gx_Jgi (pc := 137) (ci := 17) (kk := 6) (by decide) (Or.inl rfl) (by decide) (by decide) q1128 (htX1_message (137, .getfield 377, 3) (gx_m 50 rfl)) (fun v13 hv13 => ?_)
                  exact gx_Jiret (pc := 140) rfl (fun _ => trivial) (fun _ _ => rfl) (htX1_message (140, .ireturn, 1) (gx_m 51 rfl))
theorem ct_X1_told (Y : gx_Y) (hT : gx_Tr Y) (x0 : gx_Nm) (x1 : Int32) (x2 : Int32) : gx_CtX Y yX1_told (ws_ yX1_told cX1_told 5 (some .int)) 10 341 [gx_r 2 (some x0), gx_i x1, gx_i x2] (gx_Ox gx_Oi) (f_X1_told x0 x1 x2) := by
  refine gx_startX (lv := [(0, gx_r 2 (some x0)), (1, gx_i x1), (2, gx_i x2)]) pn_X1 (Nat.le_of_ble_eq_true rfl) rfl ?_
  unfold f_X1_told
  refine gx_iload_n (pc := 0) (n := 2) (i := 2) rfl 2 rfl (htX1_told (0, .iload_n 2, 1) (gx_m 0 rfl)) ?_
  refine gx_iconst (pc := 1) (v := 0) (by decide) (htX1_told (1, .iconst 0, 1) (gx_m 1 rfl)) ?_
  refine gx_bipush (pc := 2) (v := 14) (by decide) (htX1_told (2, .bipush 14, 2) (gx_m 2 rfl)) ?_
  refine gx_Jcz (pc := 4) (gx_hstS (as := [gx_i x2, gx_i 0, gx_i 14])) (gx_runS (as := [gx_i x2, gx_i 0, gx_i 14]) (ct_X1_in Y x2 0 14) rfl rfl rfl q756 q757 q101 q758 rfl dd_X1_in (by decide) (by decide) (Nat.le_of_ble_eq_true rfl) (htX1_told (4, .invokestatic 69, 3) (gx_m 3 rfl))) (fun v1 hv1 => ?_)
  refine gx_JX (pc := 7) rfl (fun _ => rfl) (gx_runST (as := [gx_i v1]) (ct_X1_good Y hT v1) rfl rfl rfl q759 q760 q101 q761 rfl dd_X1_good (by decide) (by decide) (Nat.le_of_ble_eq_true rfl) (htX1_told (7, .invokestatic 73, 3) (gx_m 4 rfl))) ?_
  refine gx_Jcv (pc := 7) (gx_hstS (as := [gx_i v1])) (gx_runS (as := [gx_i v1]) (gx_CtX.un gx_Ov_r (ct_X1_good Y hT v1)) rfl rfl rfl q759 q760 q101 q761 rfl dd_X1_good (by decide) (by decide) (Nat.le_of_ble_eq_true rfl) (htX1_told (7, .invokestatic 73, 3) (gx_m 4 rfl))) ?_
  refine gx_aload_n (pc := 10) (n := 0) (i := 0) rfl 0 rfl (htX1_told (10, .aload_n 0, 1) (gx_m 5 rfl)) ?_
  refine gx_iload_n (pc := 11) (n := 1) (i := 1) rfl 1 rfl (htX1_told (11, .iload_n 1, 1) (gx_m 6 rfl)) ?_
  refine gx_JX (pc := 12) rfl (fun _ => rfl) (gx_runVT (as := [gx_i x1]) (ci := 1) (ct_X1_node Y hT x0 x1) (by decide) (Or.inl rfl) rfl rfl rfl rfl q1007 q1009 qs8 q101 q1010 rfl dd_X1_node (by decide) (by decide) (Nat.le_of_ble_eq_true rfl) (htX1_told (12, .invokevirtual 86, 3) (gx_m 7 rfl))) ?_
  refine gx_Jcr (pc := 12) (t2 := 14) (gx_hst (as := [gx_i x1]) (b := gx_r 2 (some x0))) (gx_runV (as := [gx_i x1]) (ci := 1) (gx_CtX.un gx_Or_r (ct_X1_node Y hT x0 x1)) (by decide) (Or.inl rfl) rfl rfl rfl rfl q1007 q1009 qs8 q101 q1010 rfl dd_X1_node (by decide) (by decide) (Nat.le_of_ble_eq_true rfl) (htX1_told (12, .invokevirtual 86, 3) (gx_m 7 rfl))) (fun v2 => ?_)
  refine gx_astore_n (pc := 15) (n := 3) (i := 3) (lv' := [(3, gx_r 14 (some v2)), (0, gx_r 2 (some x0)), (1, gx_i x1), (2, gx_i x2)]) rfl (by decide) rfl (htX1_told (15, .astore_n 3, 1) (gx_m 8 rfl)) ?_
  refine gx_aload_n (pc := 16) (n := 3) (i := 3) rfl 0 rfl (htX1_told (16, .aload_n 3, 1) (gx_m 9 rfl)) ?_
  refine gx_Jgi (pc := 17) (ci := 13) (kk := 7) (by decide) (Or.inl rfl) (by decide) (by decide) q558 (htX1_told (17, .getfield 90, 3) (gx_m 10 rfl)) (fun v3 hv3 => ?_)
  refine gx_Jjoin (pcJ := 37) (lvJ := fun (j4 : gx_Nm) => [(0, gx_r 2 (some x0)), (2, gx_i x2), (3, gx_r 14 (some v2))]) (stJ := fun (j4 : gx_Nm) => [gx_r 16 (some j4)]) (fun _ => True) (fun j4 hj4 => ?_) (fun kk1 hj1 => ?_)
  · refine gx_astore (pc := 37) (i := 4) (lv' := [(4, gx_r 16 (some j4)), (0, gx_r 2 (some x0)), (2, gx_i x2), (3, gx_r 14 (some v2))]) (by decide) rfl (htX1_told (37, .astore 4, 2) (gx_m 18 rfl)) ?_
    refine gx_iload_n (pc := 39) (n := 2) (i := 2) rfl 2 rfl (htX1_told (39, .iload_n 2, 1) (gx_m 19 rfl)) ?_
    refine gx_Jite (fun c2 => ?_) (fun c2 => ?_)
    · refine gx_Jtab (pc := 40) (tgt := 112) (htX1_told (40, .tableswitch 163 0 13 #[72, 85, 107, 163, 129, 145, 163, 151, 163, 163, 163, 163, 163, 157], 72) (gx_m 20 rfl)) (by decide) (gx_tD c2 (by decide)) (gx_tI c2 (by decide)) ?_
      refine gx_aload_n (pc := 112) (n := 3) (i := 3) rfl 3 rfl (htX1_told (112, .aload_n 3, 1) (gx_m 21 rfl)) ?_
      refine gx_Jgi (pc := 113) (ci := 13) (kk := 7) (by decide) (Or.inl rfl) (by decide) (by decide) q558 (htX1_told (113, .getfield 90, 3) (gx_m 22 rfl)) (fun v5 hv5 => ?_)
      refine gx_Jjoin (pcJ := 124) (lvJ := fun (j6 : Int32) => []) (stJ := fun (j6 : Int32) => [gx_i j6]) (fun (j6 : Int32) => j6 &&& 1 = j6) (fun j6 hj6 => ?_) (fun kk3 hj3 => ?_)
      · exact gx_Jiret (pc := 124) rfl (fun _ => trivial) (fun _ _ => rfl) (htX1_told (124, .ireturn, 1) (gx_m 27 rfl))
      · refine gx_if_eq (pc := 116) (y := 0) (tgt := 123) (by decide) (htX1_told (116, .ifCond .eq 7, 3) (gx_m 23 rfl)) (fun c4 => ?_) (fun c4 => ?_)
        · refine gx_iconst (pc := 123) (v := 0) (by decide) (htX1_told (123, .iconst 0, 1) (gx_m 26 rfl)) ?_
          refine gx_Jw (lv := []) [] rfl ?_
          exact hj3 (0 : Int32) gx_b0
        · refine gx_iconst (pc := 119) (v := 1) (by decide) (htX1_told (119, .iconst 1, 1) (gx_m 24 rfl)) ?_
          refine gx_goto (pc := 120) (tgt := 124) (by decide) (htX1_told (120, .goto 4, 3) (gx_m 25 rfl)) ?_
          refine gx_Jw (lv := []) [] rfl ?_
          exact hj3 (1 : Int32) gx_b1
    · refine gx_Jite (fun c5 => ?_) (fun c5 => ?_)
      · refine gx_Jtab (pc := 40) (tgt := 125) (htX1_told (40, .tableswitch 163 0 13 #[72, 85, 107, 163, 129, 145, 163, 151, 163, 163, 163, 163, 163, 157], 72) (gx_m 20 rfl)) (by decide) (gx_tD c5 (by decide)) (gx_tI c5 (by decide)) ?_
        refine gx_aload_n (pc := 125) (n := 3) (i := 3) rfl 3 rfl (htX1_told (125, .aload_n 3, 1) (gx_m 28 rfl)) ?_
        refine gx_Jgi (pc := 126) (ci := 13) (kk := 7) (by decide) (Or.inl rfl) (by decide) (by decide) q558 (htX1_told (126, .getfield 90, 3) (gx_m 29 rfl)) (fun v7 hv7 => ?_)
        refine gx_Jjoin (pcJ := 146) (lvJ := fun (j10 : Int32) => []) (stJ := fun (j10 : Int32) => [gx_i j10]) (fun _ => True) (fun j10 hj10 => ?_) (fun kk6 hj6 => ?_)
        · exact gx_Jiret (pc := 146) rfl (fun _ => trivial) (fun _ _ => rfl) (htX1_told (146, .ireturn, 1) (gx_m 37 rfl))
        · refine gx_if_eq (pc := 129) (y := 0) (tgt := 142) (by decide) (htX1_told (129, .ifCond .eq 13, 3) (gx_m 30 rfl)) (fun c7 => ?_) (fun c7 => ?_)
          · refine gx_aload_n (pc := 142) (n := 3) (i := 3) rfl 3 rfl (htX1_told (142, .aload_n 3, 1) (gx_m 35 rfl)) ?_
            refine gx_Jgi (pc := 143) (ci := 13) (kk := 3) (by decide) (Or.inl rfl) (by decide) (by decide) q551 (htX1_told (143, .getfield 380, 3) (gx_m 36 rfl)) (fun v8 hv8 => ?_)
            refine gx_Jw (lv := []) [] rfl ?_
            exact hj6 (v8 : Int32) trivial
          · refine gx_aload_n (pc := 132) (n := 3) (i := 3) rfl 3 rfl (htX1_told (132, .aload_n 3, 1) (gx_m 31 rfl)) ?_
            refine gx_Jgs (pc := 133) (ci := 13) (kk := 2) (t2 := 15) (by decide) (by decide) rfl rfl rfl q549 (htX1_told (133, .getfield 182, 3) (gx_m 32 rfl)) ?_
            refine gx_Jgi (pc := 136) (ci := 14) (kk := 0) (by decide) (Or.inl rfl) (by decide) (by decide) q527 (htX1_told (136, .getfield 379, 3) (gx_m 33 rfl)) (fun v9 hv9 => ?_)
            refine gx_goto (pc := 139) (tgt := 146) (by decide) (htX1_told (139, .goto 7, 3) (gx_m 34 rfl)) ?_
            refine gx_Jw (lv := []) [] rfl ?_
            exact hj6 (v9 : Int32) trivial
      · refine gx_Jite (fun c8 => ?_) (fun c8 => ?_)
        · refine gx_Jtab (pc := 40) (tgt := 147) (htX1_told (40, .tableswitch 163 0 13 #[72, 85, 107, 163, 129, 145, 163, 151, 163, 163, 163, 163, 163, 157], 72) (gx_m 20 rfl)) (by decide) (gx_tD c8 (by decide)) (gx_tI c8 (by decide)) ?_
          refine gx_aload_n (pc := 147) (n := 3) (i := 3) rfl 3 rfl (htX1_told (147, .aload_n 3, 1) (gx_m 38 rfl)) ?_
          refine gx_Jgi (pc := 148) (ci := 13) (kk := 7) (by decide) (Or.inl rfl) (by decide) (by decide) q558 (htX1_told (148, .getfield 90, 3) (gx_m 39 rfl)) (fun v11 hv11 => ?_)
          refine gx_Jjoin (pcJ := 168) (lvJ := fun (j14 : Int32) => []) (stJ := fun (j14 : Int32) => [gx_i j14]) (fun _ => True) (fun j14 hj14 => ?_) (fun kk9 hj9 => ?_)
          · exact gx_Jiret (pc := 168) rfl (fun _ => trivial) (fun _ _ => rfl) (htX1_told (168, .ireturn, 1) (gx_m 47 rfl))
          · refine gx_if_eq (pc := 151) (y := 0) (tgt := 164) (by decide) (htX1_told (151, .ifCond .eq 13, 3) (gx_m 40 rfl)) (fun c10 => ?_) (fun c10 => ?_)
            · refine gx_aload_n (pc := 164) (n := 3) (i := 3) rfl 3 rfl (htX1_told (164, .aload_n 3, 1) (gx_m 45 rfl)) ?_
              refine gx_Jgi (pc := 165) (ci := 13) (kk := 4) (by decide) (Or.inl rfl) (by decide) (by decide) q553 (htX1_told (165, .getfield 384, 3) (gx_m 46 rfl)) (fun v12 hv12 => ?_)
              refine gx_Jw (lv := []) [] rfl ?_
              exact hj9 (v12 : Int32) trivial
            · refine gx_aload_n (pc := 154) (n := 3) (i := 3) rfl 3 rfl (htX1_told (154, .aload_n 3, 1) (gx_m 41 rfl)) ?_
              refine gx_Jgs (pc := 155) (ci := 13) (kk := 2) (t2 := 15) (by decide) (by decide) rfl rfl rfl q549 (htX1_told (155, .getfield 182, 3) (gx_m 42 rfl)) ?_
              refine gx_Jgi (pc := 158) (ci := 14) (kk := 1) (by decide) (Or.inl rfl) (by decide) (by decide) q530 (htX1_told (158, .getfield 381, 3) (gx_m 43 rfl)) (fun v13 hv13 => ?_)
              refine gx_goto (pc := 161) (tgt := 168) (by decide) (htX1_told (161, .goto 7, 3) (gx_m 44 rfl)) ?_
              refine gx_Jw (lv := []) [] rfl ?_
              exact hj9 (v13 : Int32) trivial
        · refine gx_Jite (fun c11 => ?_) (fun c11 => ?_)
          · refine gx_Jtab (pc := 40) (tgt := 169) (htX1_told (40, .tableswitch 163 0 13 #[72, 85, 107, 163, 129, 145, 163, 151, 163, 163, 163, 163, 163, 157], 72) (gx_m 20 rfl)) (by decide) (gx_tD c11 (by decide)) (gx_tI c11 (by decide)) ?_
            refine gx_aload_n (pc := 169) (n := 3) (i := 3) rfl 3 rfl (htX1_told (169, .aload_n 3, 1) (gx_m 48 rfl)) ?_
            refine gx_Jgi (pc := 170) (ci := 13) (kk := 7) (by decide) (Or.inl rfl) (by decide) (by decide) q558 (htX1_told (170, .getfield 90, 3) (gx_m 49 rfl)) (fun v15 hv15 => ?_)
            refine gx_Jjoin (pcJ := 184) (lvJ := fun (j17 : Int32) => []) (stJ := fun (j17 : Int32) => [gx_i j17]) (fun _ => True) (fun j17 hj17 => ?_) (fun kk12 hj12 => ?_)
            · exact gx_Jiret (pc := 184) rfl (fun _ => trivial) (fun _ _ => rfl) (htX1_told (184, .ireturn, 1) (gx_m 55 rfl))
            · refine gx_if_eq (pc := 173) (y := 0) (tgt := 180) (by decide) (htX1_told (173, .ifCond .eq 7, 3) (gx_m 50 rfl)) (fun c13 => ?_) (fun c13 => ?_)
              · refine gx_aload_n (pc := 180) (n := 3) (i := 3) rfl 3 rfl (htX1_told (180, .aload_n 3, 1) (gx_m 53 rfl)) ?_
                refine gx_Jgi (pc := 181) (ci := 13) (kk := 9) (by decide) (Or.inl rfl) (by decide) (by decide) q562 (htX1_told (181, .getfield 385, 3) (gx_m 54 rfl)) (fun v16 hv16 => ?_)
                refine gx_Jw (lv := []) [] rfl ?_
                exact hj12 (v16 : Int32) trivial
              · refine gx_iconst (pc := 176) (v := (-1)) (by decide) (htX1_told (176, .iconst (-1), 1) (gx_m 51 rfl)) ?_
                refine gx_goto (pc := 177) (tgt := 184) (by decide) (htX1_told (177, .goto 7, 3) (gx_m 52 rfl)) ?_
                refine gx_Jw (lv := []) [] rfl ?_
                exact hj12 ((-1) : Int32) trivial
          · refine gx_Jite (fun c14 => ?_) (fun c14 => ?_)
            · refine gx_Jtab (pc := 40) (tgt := 185) (htX1_told (40, .tableswitch 163 0 13 #[72, 85, 107, 163, 129, 145, 163, 151, 163, 163, 163, 163, 163, 157], 72) (gx_m 20 rfl)) (by decide) (gx_tD c14 (by decide)) (gx_tI c14 (by decide)) ?_
              refine gx_aload (pc := 185) (i := 4) 0 rfl (htX1_told (185, .aload 4, 2) (gx_m 56 rfl)) ?_
              refine gx_Jci (pc := 187) (gx_hst (as := []) (b := gx_r 16 (some j4))) (gx_runV (as := []) (ci := 15) (ct_X15_last Y j4) (by decide) (Or.inl rfl) rfl rfl rfl rfl q1641 q1072 q1073 q115 q1074 rfl dd_X15_last (by decide) (by decide) (Nat.le_of_ble_eq_true rfl) (htX1_told (187, .invokevirtual 388, 3) (gx_m 57 rfl))) (fun v18 => ?_)
              exact gx_Jiret (pc := 190) rfl (fun _ => trivial) (fun _ _ => rfl) (htX1_told (190, .ireturn, 1) (gx_m 58 rfl))
            · refine gx_Jite (fun c15 => ?_) (fun c15 => ?_)
              · refine gx_Jtab (pc := 40) (tgt := 191) (htX1_told (40, .tableswitch 163 0 13 #[72, 85, 107, 163, 129, 145, 163, 151, 163, 163, 163, 163, 163, 157], 72) (gx_m 20 rfl)) (by decide) (gx_tD c15 (by decide)) (gx_tI c15 (by decide)) ?_
                refine gx_aload (pc := 191) (i := 4) 0 rfl (htX1_told (191, .aload 4, 2) (gx_m 59 rfl)) ?_
                refine gx_Jgi (pc := 193) (ci := 15) (kk := 1) (by decide) (Or.inl rfl) (by decide) (by decide) q508 (htX1_told (193, .getfield 240, 3) (gx_m 60 rfl)) (fun v19 hv19 => ?_)
                exact gx_Jiret (pc := 196) rfl (fun _ => trivial) (fun _ _ => rfl) (htX1_told (196, .ireturn, 1) (gx_m 61 rfl))
              · refine gx_Jite (fun c16 => ?_) (fun c16 => ?_)
                · refine gx_Jtab (pc := 40) (tgt := 197) (htX1_told (40, .tableswitch 163 0 13 #[72, 85, 107, 163, 129, 145, 163, 151, 163, 163, 163, 163, 163, 157], 72) (gx_m 20 rfl)) (by decide) (gx_tD c16 (by decide)) (gx_tI c16 (by decide)) ?_
                  refine gx_aload (pc := 197) (i := 4) 0 rfl (htX1_told (197, .aload 4, 2) (gx_m 62 rfl)) ?_
                  refine gx_Jci (pc := 199) (gx_hst (as := []) (b := gx_r 16 (some j4))) (gx_runV (as := []) (ci := 15) (ct_X15_lastTerm Y j4) (by decide) (Or.inl rfl) rfl rfl rfl rfl q1642 q1202 q1203 q115 q1204 rfl dd_X15_lastTerm (by decide) (by decide) (Nat.le_of_ble_eq_true rfl) (htX1_told (199, .invokevirtual 391, 3) (gx_m 63 rfl))) (fun v20 => ?_)
                  exact gx_Jiret (pc := 202) rfl (fun _ => trivial) (fun _ _ => rfl) (htX1_told (202, .ireturn, 1) (gx_m 64 rfl))
                · refine gx_Jtab (pc := 40) (tgt := 203) (htX1_told (40, .tableswitch 163 0 13 #[72, 85, 107, 163, 129, 145, 163, 151, 163, 163, 163, 163, 163, 157], 72) (gx_m 20 rfl)) (by decide) (fun _ => by decide) (gx_tN (ks := [0, 1, 2, 4, 5, 7, 13]) (by simp only [List.mem_cons, List.not_mem_nil, or_false, not_or]; exact ⟨c2, c5, c8, c11, c14, c15, c16⟩) (by decide)) ?_
                  refine gx_aload_n (pc := 203) (n := 3) (i := 3) rfl 3 rfl (htX1_told (203, .aload_n 3, 1) (gx_m 65 rfl)) ?_
                  refine gx_Jgi (pc := 204) (ci := 13) (kk := 7) (by decide) (Or.inl rfl) (by decide) (by decide) q558 (htX1_told (204, .getfield 90, 3) (gx_m 66 rfl)) (fun v21 hv21 => ?_)
                  refine gx_Jjoin (pcJ := 220) (lvJ := fun (j23 : Int32) => []) (stJ := fun (j23 : Int32) => [gx_i j23]) (fun _ => True) (fun j23 hj23 => ?_) (fun kk17 hj17 => ?_)
                  · exact gx_Jiret (pc := 220) rfl (fun _ => trivial) (fun _ _ => rfl) (htX1_told (220, .ireturn, 1) (gx_m 74 rfl))
                  · refine gx_if_eq (pc := 207) (y := 0) (tgt := 214) (by decide) (htX1_told (207, .ifCond .eq 7, 3) (gx_m 67 rfl)) (fun c18 => ?_) (fun c18 => ?_)
                    · refine gx_aload_n (pc := 214) (n := 0) (i := 0) rfl 1 rfl (htX1_told (214, .aload_n 0, 1) (gx_m 70 rfl)) ?_
                      refine gx_aload_n (pc := 215) (n := 3) (i := 3) rfl 3 rfl (htX1_told (215, .aload_n 3, 1) (gx_m 71 rfl)) ?_
                      refine gx_iload_n (pc := 216) (n := 2) (i := 2) rfl 2 rfl (htX1_told (216, .iload_n 2, 1) (gx_m 72 rfl)) ?_
                      refine gx_Jci (pc := 217) (gx_hst (as := [gx_r 14 (some v2), gx_i x2]) (b := gx_r 2 (some x0))) (gx_runV (as := [gx_r 14 (some v2), gx_i x2]) (ci := 1) (ct_X1_more Y x0 v2 x2) (by decide) (Or.inl rfl) rfl rfl rfl rfl q1643 q1645 qs43 q101 q1646 rfl dd_X1_more (by decide) (by decide) (Nat.le_of_ble_eq_true rfl) (htX1_told (217, .invokevirtual 394, 3) (gx_m 73 rfl))) (fun v22 => ?_)
                      refine gx_Jw (lv := []) [] rfl ?_
                      exact hj17 (v22 : Int32) trivial
                    · refine gx_iconst (pc := 210) (v := 0) (by decide) (htX1_told (210, .iconst 0, 1) (gx_m 68 rfl)) ?_
                      refine gx_goto (pc := 211) (tgt := 220) (by decide) (htX1_told (211, .goto 9, 3) (gx_m 69 rfl)) ?_
                      refine gx_Jw (lv := []) [] rfl ?_
                      exact hj17 (0 : Int32) trivial
  · refine gx_if_eq (pc := 20) (y := 0) (tgt := 33) (by decide) (htX1_told (20, .ifCond .eq 13, 3) (gx_m 11 rfl)) (fun c19 => ?_) (fun c19 => ?_)
    · refine gx_aload_n (pc := 33) (n := 3) (i := 3) rfl 0 rfl (htX1_told (33, .aload_n 3, 1) (gx_m 16 rfl)) ?_
      refine gx_Jgs (pc := 34) (ci := 13) (kk := 5) (t2 := 16) (by decide) (by decide) rfl rfl rfl q555 (htX1_told (34, .getfield 236, 3) (gx_m 17 rfl)) ?_
      refine gx_Jw (lv := [(0, gx_r 2 (some x0)), (2, gx_i x2), (3, gx_r 14 (some v2))]) [1, 3, 0] rfl ?_
      exact hj1 ((5 :: v2) : gx_Nm) trivial
    · refine gx_aload_n (pc := 23) (n := 3) (i := 3) rfl 0 rfl (htX1_told (23, .aload_n 3, 1) (gx_m 12 rfl)) ?_
      refine gx_Jgs (pc := 24) (ci := 13) (kk := 2) (t2 := 15) (by decide) (by decide) rfl rfl rfl q549 (htX1_told (24, .getfield 182, 3) (gx_m 13 rfl)) ?_
      refine gx_Jgs (pc := 27) (ci := 14) (kk := 2) (t2 := 16) (by decide) (by decide) rfl rfl rfl q533 (htX1_told (27, .getfield 378, 3) (gx_m 14 rfl)) ?_
      refine gx_goto (pc := 30) (tgt := 37) (by decide) (htX1_told (30, .goto 7, 3) (gx_m 15 rfl)) ?_
      refine gx_Jw (lv := [(0, gx_r 2 (some x0)), (2, gx_i x2), (3, gx_r 14 (some v2))]) [1, 3, 0] rfl ?_
      exact hj1 ((2 :: 2 :: v2) : gx_Nm) trivial
