/-! ===== the machine does what f_y says (printed by gen/pprint.py) ===== -/
set_option maxRecDepth 100000
set_option maxHeartbeats 4000000
theorem ct_X7_isIn (Y : gx_Y) (x0 : gx_Nm) (x1 : gx_Nm) (x2 : Int32) (x3 : Int32) (x4 : Int32) (x5 : Int32) : gx_Ct Y yX7_isIn (ws_ yX7_isIn cX7_isIn 8 (some .boolean)) 3 148 [gx_r 8 (some x0), gx_r 10 (some x1), gx_i x2, gx_i x3, gx_i x4, gx_i x5] gx_Oz (f_X7_isIn x0 x1 x2 x3 x4 x5) := by
  refine gx_start (lv := [(0, gx_r 8 (some x0)), (1, gx_r 10 (some x1)), (2, gx_i x2), (3, gx_i x3), (4, gx_i x4), (5, gx_i x5)]) gx_Oz_r pn_X7 (Nat.le_of_ble_eq_true rfl) rfl ?_
  unfold f_X7_isIn
  refine gx_aload_n (pc := 0) (n := 0) (i := 0) rfl 0 rfl (htX7_isIn (0, .aload_n 0, 1) (gx_m 0 rfl)) ?_
  refine gx_Jgs (pc := 1) (ci := 7) (kk := 0) (t2 := 4) (by decide) (by decide) rfl rfl rfl q306 (htX7_isIn (1, .getfield 69, 3) (gx_m 1 rfl)) ?_
  refine gx_Jgs (pc := 4) (ci := 3) (kk := 0) (t2 := 5) (by decide) (by decide) rfl rfl rfl q192 (htX7_isIn (4, .getfield 107, 3) (gx_m 2 rfl)) ?_
  refine gx_aload_n (pc := 7) (n := 1) (i := 1) rfl 1 rfl (htX7_isIn (7, .aload_n 1, 1) (gx_m 3 rfl)) ?_
  refine gx_Jgi (pc := 8) (ci := 9) (kk := 0) (by decide) (Or.inl rfl) (by decide) (by decide) q259 (htX7_isIn (8, .getfield 113, 3) (gx_m 4 rfl)) (fun v1 hv1 => ?_)
  refine gx_aload_n (pc := 11) (n := 1) (i := 1) rfl 1 rfl (htX7_isIn (11, .aload_n 1, 1) (gx_m 5 rfl)) ?_
  refine gx_Jgi (pc := 12) (ci := 9) (kk := 1) (by decide) (Or.inl rfl) (by decide) (by decide) q262 (htX7_isIn (12, .getfield 116, 3) (gx_m 6 rfl)) (fun v2 hv2 => ?_)
  refine gx_iload_n (pc := 15) (n := 2) (i := 2) rfl 2 rfl (htX7_isIn (15, .iload_n 2, 1) (gx_m 7 rfl)) ?_
  refine gx_iload_n (pc := 16) (n := 3) (i := 3) rfl 3 rfl (htX7_isIn (16, .iload_n 3, 1) (gx_m 8 rfl)) ?_
  refine gx_Jci (pc := 17) (gx_hst (as := [gx_i v1, gx_i v2, gx_i x2, gx_i x3]) (b := gx_r 5 (some [0, 0, 0, 1]))) (gx_runV (as := [gx_i v1, gx_i v2, gx_i x2, gx_i x3]) (ci := 4) (ct_X4_compare Y [0, 0, 0, 1] v1 v2 x2 x3) (by decide) (Or.inl rfl) rfl rfl rfl rfl q1312 q1313 q1314 q104 q1315 rfl dd_X4_compare (by decide) (by decide) (Nat.le_of_ble_eq_true rfl) (htX7_isIn (17, .invokevirtual 119, 3) (gx_m 9 rfl))) (fun v3 => ?_)
  refine gx_istore (pc := 20) (i := 6) (lv' := [(6, gx_i v3), (0, gx_r 8 (some x0)), (1, gx_r 10 (some x1)), (2, gx_i x2), (3, gx_i x3), (4, gx_i x4), (5, gx_i x5)]) (by decide) rfl (htX7_isIn (20, .istore 6, 2) (gx_m 10 rfl)) ?_
  refine gx_iload (pc := 22) (i := 4) 5 rfl (htX7_isIn (22, .iload 4, 2) (gx_m 11 rfl)) ?_
  refine gx_iload (pc := 24) (i := 5) 6 rfl (htX7_isIn (24, .iload 5, 2) (gx_m 12 rfl)) ?_
  refine gx_icmp_ne (pc := 26) (tgt := 40) (by decide) (htX7_isIn (26, .if_icmp .ne 14, 3) (gx_m 13 rfl)) (fun c1 => ?_) (fun c1 => ?_)
  · refine gx_iload (pc := 29) (i := 6) 0 rfl (htX7_isIn (29, .iload 6, 2) (gx_m 14 rfl)) ?_
    refine gx_Jjoin (pcJ := 39) (lvJ := fun (j4 : Int32) => []) (stJ := fun (j4 : Int32) => [gx_i j4]) (fun (j4 : Int32) => j4 &&& 1 = j4) (fun j4 hj4 => ?_) (fun kk2 hj2 => ?_)
    · exact gx_Jzret (pc := 39) rfl hj4 (fun _ => hj4) (fun _ _ => rfl) (htX7_isIn (39, .ireturn, 1) (gx_m 19 rfl))
    · refine gx_if_ne (pc := 31) (y := 0) (tgt := 38) (by decide) (htX7_isIn (31, .ifCond .ne 7, 3) (gx_m 15 rfl)) (fun c3 => ?_) (fun c3 => ?_)
      · refine gx_iconst (pc := 34) (v := 1) (by decide) (htX7_isIn (34, .iconst 1, 1) (gx_m 16 rfl)) ?_
        refine gx_goto (pc := 35) (tgt := 39) (by decide) (htX7_isIn (35, .goto 4, 3) (gx_m 17 rfl)) ?_
        refine gx_Jw (lv := []) [] rfl ?_
        exact hj2 (1 : Int32) gx_b1
      · refine gx_iconst (pc := 38) (v := 0) (by decide) (htX7_isIn (38, .iconst 0, 1) (gx_m 18 rfl)) ?_
        refine gx_Jw (lv := []) [] rfl ?_
        exact hj2 (0 : Int32) gx_b0
  · refine gx_iload (pc := 40) (i := 6) 0 rfl (htX7_isIn (40, .iload 6, 2) (gx_m 20 rfl)) ?_
    refine gx_if_ge (pc := 42) (y := 0) (tgt := 47) (by decide) (htX7_isIn (42, .ifCond .ge 5, 3) (gx_m 21 rfl)) (fun c4 => ?_) (fun c4 => ?_)
    · refine gx_iload (pc := 47) (i := 5) 6 rfl (htX7_isIn (47, .iload 5, 2) (gx_m 24 rfl)) ?_
      refine gx_iload (pc := 49) (i := 4) 5 rfl (htX7_isIn (49, .iload 4, 2) (gx_m 25 rfl)) ?_
      refine gx_isub (pc := 51) (htX7_isIn (51, .isub, 1) (gx_m 26 rfl)) ?_
      refine gx_iconst (pc := 52) (v := 1) (by decide) (htX7_isIn (52, .iconst 1, 1) (gx_m 27 rfl)) ?_
      refine gx_Jjoin (pcJ := 77) (lvJ := fun (j7 : Int32) => [(0, gx_r 8 (some x0)), (1, gx_r 10 (some x1)), (4, gx_i x4), (5, gx_i x5)]) (stJ := fun (j7 : Int32) => [gx_i j7]) (fun (j7 : Int32) => j7 &&& 1 = j7) (fun j7 hj7 => ?_) (fun kk5 hj5 => ?_)
      · refine gx_istore (pc := 77) (i := 7) (lv' := [(7, gx_i j7), (0, gx_r 8 (some x0)), (1, gx_r 10 (some x1)), (4, gx_i x4), (5, gx_i x5)]) (by decide) rfl (htX7_isIn (77, .istore 7, 2) (gx_m 39 rfl)) ?_
        refine gx_iload (pc := 79) (i := 7) 0 rfl (htX7_isIn (79, .iload 7, 2) (gx_m 40 rfl)) ?_
        refine gx_Jjoin (pcJ := 114) (lvJ := fun (j11 : Int32) => []) (stJ := fun (j11 : Int32) => [gx_i j11]) (fun (j11 : Int32) => j11 &&& 1 = j11) (fun j11 hj11 => ?_) (fun kk6 hj6 => ?_)
        · exact gx_Jzret (pc := 114) rfl hj11 (fun _ => hj11) (fun _ _ => rfl) (htX7_isIn (114, .ireturn, 1) (gx_m 56 rfl))
        · refine gx_if_ne (pc := 81) (y := 0) (tgt := 109) (by decide) (htX7_isIn (81, .ifCond .ne 28, 3) (gx_m 41 rfl)) (fun c7 => ?_) (fun c7 => ?_)
          · refine gx_aload_n (pc := 84) (n := 0) (i := 0) rfl 1 rfl (htX7_isIn (84, .aload_n 0, 1) (gx_m 42 rfl)) ?_
            refine gx_Jgs (pc := 85) (ci := 7) (kk := 0) (t2 := 4) (by decide) (by decide) rfl rfl rfl q306 (htX7_isIn (85, .getfield 69, 3) (gx_m 43 rfl)) ?_
            refine gx_Jgs (pc := 88) (ci := 3) (kk := 0) (t2 := 5) (by decide) (by decide) rfl rfl rfl q192 (htX7_isIn (88, .getfield 107, 3) (gx_m 44 rfl)) ?_
            refine gx_aload_n (pc := 91) (n := 1) (i := 1) rfl 2 rfl (htX7_isIn (91, .aload_n 1, 1) (gx_m 45 rfl)) ?_
            refine gx_Jgi (pc := 92) (ci := 9) (kk := 0) (by decide) (Or.inl rfl) (by decide) (by decide) q259 (htX7_isIn (92, .getfield 113, 3) (gx_m 46 rfl)) (fun v8 hv8 => ?_)
            refine gx_aload_n (pc := 95) (n := 1) (i := 1) rfl 2 rfl (htX7_isIn (95, .aload_n 1, 1) (gx_m 47 rfl)) ?_
            refine gx_Jgi (pc := 96) (ci := 9) (kk := 1) (by decide) (Or.inl rfl) (by decide) (by decide) q262 (htX7_isIn (96, .getfield 116, 3) (gx_m 48 rfl)) (fun v9 hv9 => ?_)
            refine gx_iload (pc := 99) (i := 4) 3 rfl (htX7_isIn (99, .iload 4, 2) (gx_m 49 rfl)) ?_
            refine gx_iload (pc := 101) (i := 5) 4 rfl (htX7_isIn (101, .iload 5, 2) (gx_m 50 rfl)) ?_
            refine gx_Jci (pc := 103) (gx_hst (as := [gx_i v8, gx_i v9, gx_i x4, gx_i x5]) (b := gx_r 5 (some [0, 0, 0, 1]))) (gx_runV (as := [gx_i v8, gx_i v9, gx_i x4, gx_i x5]) (ci := 4) (ct_X4_compare Y [0, 0, 0, 1] v8 v9 x4 x5) (by decide) (Or.inl rfl) rfl rfl rfl rfl q1312 q1313 q1314 q104 q1315 rfl dd_X4_compare (by decide) (by decide) (Nat.le_of_ble_eq_true rfl) (htX7_isIn (103, .invokevirtual 119, 3) (gx_m 51 rfl))) (fun v10 => ?_)
            refine gx_if_ge (pc := 106) (y := 0) (tgt := 113) (by decide) (htX7_isIn (106, .ifCond .ge 7, 3) (gx_m 52 rfl)) (fun c8 => ?_) (fun c8 => ?_)
            · refine gx_iconst (pc := 113) (v := 0) (by decide) (htX7_isIn (113, .iconst 0, 1) (gx_m 55 rfl)) ?_
              refine gx_Jw (lv := []) [] rfl ?_
              exact hj6 (0 : Int32) gx_b0
            · refine gx_iconst (pc := 109) (v := 1) (by decide) (htX7_isIn (109, .iconst 1, 1) (gx_m 53 rfl)) ?_
              refine gx_goto (pc := 110) (tgt := 114) (by decide) (htX7_isIn (110, .goto 4, 3) (gx_m 54 rfl)) ?_
              refine gx_Jw (lv := []) [] rfl ?_
              exact hj6 (1 : Int32) gx_b1
          · refine gx_iconst (pc := 109) (v := 1) (by decide) (htX7_isIn (109, .iconst 1, 1) (gx_m 53 rfl)) ?_
            refine gx_goto (pc := 110) (tgt := 114) (by decide) (htX7_isIn (110, .goto 4, 3) (gx_m 54 rfl)) ?_
            refine gx_Jw (lv := []) [] rfl ?_
            exact hj6 (1 : Int32) gx_b1
      · refine gx_icmp_ne (pc := 53) (tgt := 76) (by decide) (htX7_isIn (53, .if_icmp .ne 23, 3) (gx_m 28 rfl)) (fun c9 => ?_) (fun c9 => ?_)
        · refine gx_aload_n (pc := 56) (n := 0) (i := 0) rfl 1 rfl (htX7_isIn (56, .aload_n 0, 1) (gx_m 29 rfl)) ?_
          refine gx_Jgs (pc := 57) (ci := 7) (kk := 0) (t2 := 4) (by decide) (by decide) rfl rfl rfl q306 (htX7_isIn (57, .getfield 69, 3) (gx_m 30 rfl)) ?_
          refine gx_Jgs (pc := 60) (ci := 3) (kk := 0) (t2 := 5) (by decide) (by decide) rfl rfl rfl q192 (htX7_isIn (60, .getfield 107, 3) (gx_m 31 rfl)) ?_
          refine gx_Jgr (pc := 63) (ci := 4) (kk := 0) (t2 := 101) (by decide) (Or.inl rfl) (by decide) rfl rfl q157 (htX7_isIn (63, .getfield 141, 3) (gx_m 32 rfl)) (fun v5 => ?_)
          refine gx_iload (pc := 66) (i := 4) 5 rfl (htX7_isIn (66, .iload 4, 2) (gx_m 33 rfl)) ?_
          refine gx_Jba (pc := 68) (htX7_isIn (68, .baload, 1) (gx_m 34 rfl)) (fun v6 => ?_)
          refine gx_if_ne (pc := 69) (y := 0) (tgt := 76) (by decide) (htX7_isIn (69, .ifCond .ne 7, 3) (gx_m 35 rfl)) (fun c10 => ?_) (fun c10 => ?_)
          · refine gx_iconst (pc := 72) (v := 1) (by decide) (htX7_isIn (72, .iconst 1, 1) (gx_m 36 rfl)) ?_
            refine gx_goto (pc := 73) (tgt := 77) (by decide) (htX7_isIn (73, .goto 4, 3) (gx_m 37 rfl)) ?_
            refine gx_Jw (lv := [(0, gx_r 8 (some x0)), (1, gx_r 10 (some x1)), (4, gx_i x4), (5, gx_i x5)]) [1, 2, 5, 6] rfl ?_
            exact hj5 (1 : Int32) gx_b1
          · refine gx_iconst (pc := 76) (v := 0) (by decide) (htX7_isIn (76, .iconst 0, 1) (gx_m 38 rfl)) ?_
            refine gx_Jw (lv := [(0, gx_r 8 (some x0)), (1, gx_r 10 (some x1)), (4, gx_i x4), (5, gx_i x5)]) [1, 2, 5, 6] rfl ?_
            exact hj5 (0 : Int32) gx_b0
        · refine gx_iconst (pc := 76) (v := 0) (by decide) (htX7_isIn (76, .iconst 0, 1) (gx_m 38 rfl)) ?_
          refine gx_Jw (lv := [(0, gx_r 8 (some x0)), (1, gx_r 10 (some x1)), (4, gx_i x4), (5, gx_i x5)]) [1, 2, 5, 6] rfl ?_
          exact hj5 (0 : Int32) gx_b0
    · refine gx_iconst (pc := 45) (v := 0) (by decide) (htX7_isIn (45, .iconst 0, 1) (gx_m 22 rfl)) ?_
      exact gx_Jzret (pc := 46) rfl gx_b0 (fun _ => gx_b0) (fun _ _ => rfl) (htX7_isIn (46, .ireturn, 1) (gx_m 23 rfl))
theorem ct_X7_range (Y : gx_Y) (x0 : gx_Nm) (x1 : Int32) (x2 : Int32) (x3 : Int32) (x4 : Int32) (x5 : Int32) (x6 : gx_Nm) : gx_Ct Y yX7_range (ws_ yX7_range cX7_range 10 none) 4 176 [gx_r 8 (some x0), gx_i x1, gx_i x2, gx_i x3, gx_i x4, gx_i x5, gx_r 9 (some x6)] gx_Ov (f_X7_range x0 x1 x2 x3 x4 x5 x6) := by
  refine gx_start (lv := [(0, gx_r 8 (some x0)), (1, gx_i x1), (2, gx_i x2), (3, gx_i x3), (4, gx_i x4), (5, gx_i x5), (6, gx_r 9 (some x6))]) gx_Ov_r pn_X7 (Nat.le_of_ble_eq_true rfl) rfl ?_
  unfold f_X7_range
  refine gx_aload (pc := 0) (i := 6) 6 rfl (htX7_range (0, .aload 6, 2) (gx_m 0 rfl)) ?_
  refine gx_Jcv (pc := 2) (gx_hst (as := []) (b := gx_r 9 (some x6))) (gx_runV (as := []) (ci := 8) (ct_X8_clear Y x6) (by decide) (Or.inl rfl) rfl rfl rfl rfl q658 q659 q660 q108 q661 rfl dd_X8_clear (by decide) (by decide) (Nat.le_of_ble_eq_true rfl) (htX7_range (2, .invokevirtual 76, 3) (gx_m 1 rfl))) ?_
  refine gx_iload_n (pc := 5) (n := 1) (i := 1) rfl 1 rfl (htX7_range (5, .iload_n 1, 1) (gx_m 2 rfl)) ?_
  refine gx_istore (pc := 6) (i := 7) (lv' := [(7, gx_i x1), (0, gx_r 8 (some x0)), (1, gx_i x1), (2, gx_i x2), (3, gx_i x3), (4, gx_i x4), (5, gx_i x5), (6, gx_r 9 (some x6))]) (by decide) rfl (htX7_range (6, .istore 7, 2) (gx_m 3 rfl)) ?_
  refine gx_Jjoin (pcJ := 91) (lvJ := fun (j_1 : Unit) => [(6, gx_r 9 (some x6))]) (stJ := fun (j_1 : Unit) => []) (fun _ => True) (fun j_1 _ => ?_) (fun kk1 hj1 => ?_)
  · refine gx_iconst (pc := 91) (v := 0) (by decide) (htX7_range (91, .iconst 0, 1) (gx_m 43 rfl)) ?_
    refine gx_istore (pc := 92) (i := 7) (lv' := [(7, gx_i 0), (6, gx_r 9 (some x6))]) (by decide) rfl (htX7_range (92, .istore 7, 2) (gx_m 44 rfl)) ?_
    refine gx_iconst (pc := 94) (v := 0) (by decide) (htX7_range (94, .iconst 0, 1) (gx_m 45 rfl)) ?_
    refine gx_istore (pc := 95) (i := 8) (lv' := [(8, gx_i 0), (7, gx_i 0), (6, gx_r 9 (some x6))]) (by decide) rfl (htX7_range (95, .istore 8, 2) (gx_m 46 rfl)) ?_
    refine gx_Jjoin (pcJ := 149) (lvJ := fun (j16 : Int32) => [(6, gx_r 9 (some x6)), (7, gx_i j16)]) (stJ := fun (j16 : Int32) => []) (fun _ => True) (fun j16 _ => ?_) (fun kk2 hj2 => ?_)
    · refine gx_aload (pc := 149) (i := 6) 0 rfl (htX7_range (149, .aload 6, 2) (gx_m 67 rfl)) ?_
      refine gx_iload (pc := 151) (i := 7) 1 rfl (htX7_range (151, .iload 7, 2) (gx_m 68 rfl)) ?_
      refine gx_Jpi (pc := 153) (ci := 8) (kk := 1) (by decide) (Or.inl rfl) (by decide) rfl rfl q245 (Or.inl rfl) (htX7_range (153, .putfield 88, 3) (gx_m 69 rfl)) ?_
      exact gx_Jvret (pc := 156) rfl (fun _ => trivial) (fun _ _ => rfl) (htX7_range (156, .return_, 1) (gx_m 70 rfl))
    · refine gx_Jw (lv := [(6, gx_r 9 (some x6)), (7, gx_i 0), (8, gx_i 0)]) [2, 1, 0] rfl ?_
      refine gx_Jlp (pc := 97) (lvh := fun (s9 : Int32 × Int32) => [(6, gx_r 9 (some x6)), (7, gx_i s9.1), (8, gx_i s9.2)]) (fun s9 kl2 ha2 hb2 => ?_) _
      unfold lb_X7_range_3
      refine gx_iload (pc := 97) (i := 8) 2 rfl (htX7_range (97, .iload 8, 2) (gx_m 47 rfl)) ?_
      refine gx_aload (pc := 99) (i := 6) 0 rfl (htX7_range (99, .aload 6, 2) (gx_m 48 rfl)) ?_
      refine gx_Jgi (pc := 101) (ci := 8) (kk := 1) (by decide) (Or.inl rfl) (by decide) (by decide) q245 (htX7_range (101, .getfield 88, 3) (gx_m 49 rfl)) (fun v10 hv10 => ?_)
      refine gx_icmp_ge (pc := 104) (tgt := 149) (by decide) (htX7_range (104, .if_icmp .ge 45, 3) (gx_m 50 rfl)) (fun c3 => ?_) (fun c3 => ?_)
      · refine gx_Jw (lv := [(6, gx_r 9 (some x6)), (7, gx_i s9.1)]) [0, 1] rfl ?_
        exact gx_Jout hb2 (hj2 (s9.1 : Int32) trivial)
      · refine gx_aload (pc := 107) (i := 6) 0 rfl (htX7_range (107, .aload 6, 2) (gx_m 51 rfl)) ?_
        refine gx_iload (pc := 109) (i := 8) 2 rfl (htX7_range (109, .iload 8, 2) (gx_m 52 rfl)) ?_
        refine gx_Jcr (pc := 111) (t2 := 10) (gx_hst (as := [gx_i s9.2]) (b := gx_r 9 (some x6))) (gx_runV (as := [gx_i s9.2]) (ci := 8) (ct_X8_get Y x6 s9.2) (by decide) (Or.inl rfl) rfl rfl rfl rfl q1308 q1309 q1310 q108 q1311 rfl dd_X8_get (by decide) (by decide) (Nat.le_of_ble_eq_true rfl) (htX7_range (111, .invokevirtual 104, 3) (gx_m 53 rfl))) (fun v11 => ?_)
        refine gx_Jgi (pc := 114) (ci := 9) (kk := 2) (by decide) (Or.inl rfl) (by decide) (by decide) q265 (htX7_range (114, .getfield 125, 3) (gx_m 54 rfl)) (fun v12 hv12 => ?_)
        refine gx_Jjoin (pcJ := 143) (lvJ := fun (j15 : Int32) => [(6, gx_r 9 (some x6)), (7, gx_i j15), (8, gx_i s9.2)]) (stJ := fun (j15 : Int32) => []) (fun _ => True) (fun j15 hj15 => ?_) (fun kk4 hj4 => ?_)
        · refine gx_iinc (pc := 143) (i := 8) (j := 2) (v := (s9.2 + 1)) (lv' := [(8, gx_i (s9.2 + 1)), (6, gx_r 9 (some x6)), (7, gx_i j15)]) rfl (gx_iv (by decide)) (by decide) rfl (htX7_range (143, .iinc 8 1, 3) (gx_m 65 rfl)) ?_
          refine gx_goto (pc := 146) (tgt := 97) (by decide) (htX7_range (146, .goto (-49), 3) (gx_m 66 rfl)) ?_
          refine gx_Jw (lv := [(6, gx_r 9 (some x6)), (7, gx_i j15), (8, gx_i (s9.2 + 1))]) [1, 2, 0] rfl ?_
          exact ha2 ((j15 : Int32), ((s9.2 + 1) : Int32))
        · refine gx_if_ne (pc := 117) (y := 0) (tgt := 123) (by decide) (htX7_range (117, .ifCond .ne 6, 3) (gx_m 55 rfl)) (fun c5 => ?_) (fun c5 => ?_)
          · refine gx_goto (pc := 120) (tgt := 143) (by decide) (htX7_range (120, .goto 23, 3) (gx_m 56 rfl)) ?_
            exact hj4 (s9.1 : Int32) trivial
          · refine gx_aload (pc := 123) (i := 6) 0 rfl (htX7_range (123, .aload 6, 2) (gx_m 57 rfl)) ?_
            refine gx_iload (pc := 125) (i := 7) 1 rfl (htX7_range (125, .iload 7, 2) (gx_m 58 rfl)) ?_
            refine gx_Jcr (pc := 127) (t2 := 10) (gx_hst (as := [gx_i s9.1]) (b := gx_r 9 (some x6))) (gx_runV (as := [gx_i s9.1]) (ci := 8) (ct_X8_get Y x6 s9.1) (by decide) (Or.inl rfl) rfl rfl rfl rfl q1308 q1309 q1310 q108 q1311 rfl dd_X8_get (by decide) (by decide) (Nat.le_of_ble_eq_true rfl) (htX7_range (127, .invokevirtual 104, 3) (gx_m 59 rfl))) (fun v13 => ?_)
            refine gx_aload (pc := 130) (i := 6) 0 rfl (htX7_range (130, .aload 6, 2) (gx_m 60 rfl)) ?_
            refine gx_iload (pc := 132) (i := 8) 2 rfl (htX7_range (132, .iload 8, 2) (gx_m 61 rfl)) ?_
            refine gx_Jcr (pc := 134) (t2 := 10) (gx_hst (as := [gx_i s9.2]) (b := gx_r 9 (some x6))) (gx_runV (as := [gx_i s9.2]) (ci := 8) (ct_X8_get Y x6 s9.2) (by decide) (Or.inl rfl) rfl rfl rfl rfl q1308 q1309 q1310 q108 q1311 rfl dd_X8_get (by decide) (by decide) (Nat.le_of_ble_eq_true rfl) (htX7_range (134, .invokevirtual 104, 3) (gx_m 62 rfl))) (fun v14 => ?_)
            refine gx_Jcv (pc := 137) (gx_hst (as := [gx_r 10 (some v14)]) (b := gx_r 10 (some v13))) (gx_runV (as := [gx_r 10 (some v14)]) (ci := 9) (ct_X9_copy Y v13 v14) (by decide) (Or.inl rfl) rfl rfl rfl rfl q1336 q1337 q1338 q109 q1339 rfl dd_X9_copy (by decide) (by decide) (Nat.le_of_ble_eq_true rfl) (htX7_range (137, .invokevirtual 137, 3) (gx_m 63 rfl))) ?_
            refine gx_iinc (pc := 140) (i := 7) (j := 1) (v := (s9.1 + 1)) (lv' := [(7, gx_i (s9.1 + 1)), (6, gx_r 9 (some x6)), (8, gx_i s9.2)]) rfl (gx_iv (by decide)) (by decide) rfl (htX7_range (140, .iinc 7 1, 3) (gx_m 64 rfl)) ?_
            refine gx_Jw (lv := [(6, gx_r 9 (some x6)), (7, gx_i (s9.1 + 1)), (8, gx_i s9.2)]) [1, 0, 2] rfl ?_
            exact hj4 ((s9.1 + 1) : Int32) trivial
  · refine gx_Jw (lv := [(0, gx_r 8 (some x0)), (2, gx_i x2), (3, gx_i x3), (4, gx_i x4), (5, gx_i x5), (6, gx_r 9 (some x6)), (7, gx_i x1)]) [1, 3, 4, 5, 6, 7, 0] rfl ?_
    refine gx_Jlp (pc := 8) (lvh := fun (s1 : Int32) => [(0, gx_r 8 (some x0)), (2, gx_i x2), (3, gx_i x3), (4, gx_i x4), (5, gx_i x5), (6, gx_r 9 (some x6)), (7, gx_i s1)]) (fun s1 kl1 ha1 hb1 => ?_) _
    unfold lb_X7_range_2
    refine gx_iload (pc := 8) (i := 7) 6 rfl (htX7_range (8, .iload 7, 2) (gx_m 4 rfl)) ?_
    refine gx_if_lt (pc := 10) (y := 0) (tgt := 91) (by decide) (htX7_range (10, .ifCond .lt 81, 3) (gx_m 5 rfl)) (fun c6 => ?_) (fun c6 => ?_)
    · refine gx_Jw (lv := [(6, gx_r 9 (some x6))]) [5] rfl ?_
      exact gx_Jout hb1 (hj1 () trivial)
    · refine gx_aload_n (pc := 13) (n := 0) (i := 0) rfl 0 rfl (htX7_range (13, .aload_n 0, 1) (gx_m 6 rfl)) ?_
      refine gx_iload (pc := 14) (i := 7) 6 rfl (htX7_range (14, .iload 7, 2) (gx_m 7 rfl)) ?_
      refine gx_Jci (pc := 16) (gx_hst (as := [gx_i s1]) (b := gx_r 8 (some x0))) (gx_runV (as := [gx_i s1]) (ci := 7) (ct_X7_changeFrom Y x0 s1) (by decide) (Or.inl rfl) rfl rfl rfl rfl q1304 q1306 qs21 q107 q1307 rfl dd_X7_changeFrom (by decide) (by decide) (Nat.le_of_ble_eq_true rfl) (htX7_range (16, .invokevirtual 101, 3) (gx_m 8 rfl))) (fun v2 => ?_)
      refine gx_istore (pc := 19) (i := 8) (lv' := [(8, gx_i v2), (0, gx_r 8 (some x0)), (2, gx_i x2), (3, gx_i x3), (4, gx_i x4), (5, gx_i x5), (6, gx_r 9 (some x6)), (7, gx_i s1)]) (by decide) rfl (htX7_range (19, .istore 8, 2) (gx_m 9 rfl)) ?_
      refine gx_Jjoin (pcJ := 77) (lvJ := fun (j_7 : Unit) => [(0, gx_r 8 (some x0)), (2, gx_i x2), (3, gx_i x3), (4, gx_i x4), (5, gx_i x5), (6, gx_r 9 (some x6)), (7, gx_i s1)]) (stJ := fun (j_7 : Unit) => []) (fun _ => True) (fun j_7 _ => ?_) (fun kk7 hj7 => ?_)
      · refine gx_aload_n (pc := 77) (n := 0) (i := 0) rfl 0 rfl (htX7_range (77, .aload_n 0, 1) (gx_m 37 rfl)) ?_
        refine gx_Jgs (pc := 78) (ci := 7) (kk := 1) (t2 := 6) (by decide) (by decide) rfl rfl rfl q307 (htX7_range (78, .getfield 12, 3) (gx_m 38 rfl)) ?_
        refine gx_iload (pc := 81) (i := 7) 6 rfl (htX7_range (81, .iload 7, 2) (gx_m 39 rfl)) ?_
        refine gx_Jci (pc := 83) (gx_hst (as := [gx_i s1]) (b := gx_r 6 (some (1 :: x0)))) (gx_runV (as := [gx_i s1]) (ci := 5) (ct_X5_get Y (1 :: x0) s1) (by decide) (Or.inl rfl) rfl rfl rfl rfl q667 q668 q669 q105 q670 rfl dd_X5_get (by decide) (by decide) (Nat.le_of_ble_eq_true rfl) (htX7_range (83, .invokevirtual 89, 3) (gx_m 40 rfl))) (fun v8 => ?_)
        refine gx_istore (pc := 86) (i := 7) (lv' := [(7, gx_i v8), (0, gx_r 8 (some x0)), (2, gx_i x2), (3, gx_i x3), (4, gx_i x4), (5, gx_i x5), (6, gx_r 9 (some x6))]) (by decide) rfl (htX7_range (86, .istore 7, 2) (gx_m 41 rfl)) ?_
        refine gx_goto (pc := 88) (tgt := 8) (by decide) (htX7_range (88, .goto (-80), 3) (gx_m 42 rfl)) ?_
        refine gx_Jw (lv := [(0, gx_r 8 (some x0)), (2, gx_i x2), (3, gx_i x3), (4, gx_i x4), (5, gx_i x5), (6, gx_r 9 (some x6)), (7, gx_i v8)]) [1, 2, 3, 4, 5, 6, 0] rfl ?_
        exact ha1 (v8 : Int32)
      · refine gx_Jw (lv := [(0, gx_r 8 (some x0)), (2, gx_i x2), (3, gx_i x3), (4, gx_i x4), (5, gx_i x5), (6, gx_r 9 (some x6)), (7, gx_i s1), (8, gx_i v2)]) [1, 2, 3, 4, 5, 6, 7, 0] rfl ?_
        refine gx_Jlp (pc := 21) (lvh := fun (s3 : Int32) => [(0, gx_r 8 (some x0)), (2, gx_i x2), (3, gx_i x3), (4, gx_i x4), (5, gx_i x5), (6, gx_r 9 (some x6)), (7, gx_i s1), (8, gx_i s3)]) (fun s3 kl7 ha7 hb7 => ?_) _
        unfold lb_X7_range_1
        refine gx_iload (pc := 21) (i := 8) 7 rfl (htX7_range (21, .iload 8, 2) (gx_m 10 rfl)) ?_
        refine gx_aload_n (pc := 23) (n := 0) (i := 0) rfl 0 rfl (htX7_range (23, .aload_n 0, 1) (gx_m 11 rfl)) ?_
        refine gx_Jgs (pc := 24) (ci := 7) (kk := 8) (t2 := 6) (by decide) (by decide) rfl rfl rfl q314 (htX7_range (24, .getfield 36, 3) (gx_m 12 rfl)) ?_
        refine gx_iload (pc := 27) (i := 7) 6 rfl (htX7_range (27, .iload 7, 2) (gx_m 13 rfl)) ?_
        refine gx_Jci (pc := 29) (gx_hst (as := [gx_i s1]) (b := gx_r 6 (some (8 :: x0)))) (gx_runV (as := [gx_i s1]) (ci := 5) (ct_X5_get Y (8 :: x0) s1) (by decide) (Or.inl rfl) rfl rfl rfl rfl q667 q668 q669 q105 q670 rfl dd_X5_get (by decide) (by decide) (Nat.le_of_ble_eq_true rfl) (htX7_range (29, .invokevirtual 89, 3) (gx_m 14 rfl))) (fun v4 => ?_)
        refine gx_icmp_ge (pc := 32) (tgt := 77) (by decide) (htX7_range (32, .if_icmp .ge 45, 3) (gx_m 15 rfl)) (fun c8 => ?_) (fun c8 => ?_)
        · refine gx_Jw (lv := [(0, gx_r 8 (some x0)), (2, gx_i x2), (3, gx_i x3), (4, gx_i x4), (5, gx_i x5), (6, gx_r 9 (some x6)), (7, gx_i s1)]) [0, 1, 2, 3, 4, 5, 6] rfl ?_
          exact gx_Jout hb7 (hj7 () trivial)
        · refine gx_aload_n (pc := 35) (n := 0) (i := 0) rfl 0 rfl (htX7_range (35, .aload_n 0, 1) (gx_m 16 rfl)) ?_
          refine gx_Jgs (pc := 36) (ci := 7) (kk := 9) (t2 := 9) (by decide) (by decide) rfl rfl rfl q315 (htX7_range (36, .getfield 42, 3) (gx_m 17 rfl)) ?_
          refine gx_iload (pc := 39) (i := 8) 7 rfl (htX7_range (39, .iload 8, 2) (gx_m 18 rfl)) ?_
          refine gx_Jcr (pc := 41) (t2 := 10) (gx_hst (as := [gx_i s3]) (b := gx_r 9 (some (9 :: x0)))) (gx_runV (as := [gx_i s3]) (ci := 8) (ct_X8_get Y (9 :: x0) s3) (by decide) (Or.inl rfl) rfl rfl rfl rfl q1308 q1309 q1310 q108 q1311 rfl dd_X8_get (by decide) (by decide) (Nat.le_of_ble_eq_true rfl) (htX7_range (41, .invokevirtual 104, 3) (gx_m 19 rfl))) (fun v5 => ?_)
          refine gx_astore (pc := 44) (i := 9) (lv' := [(9, gx_r 10 (some v5)), (0, gx_r 8 (some x0)), (2, gx_i x2), (3, gx_i x3), (4, gx_i x4), (5, gx_i x5), (6, gx_r 9 (some x6)), (7, gx_i s1), (8, gx_i s3)]) (by decide) rfl (htX7_range (44, .astore 9, 2) (gx_m 20 rfl)) ?_
          refine gx_aload_n (pc := 46) (n := 0) (i := 0) rfl 1 rfl (htX7_range (46, .aload_n 0, 1) (gx_m 21 rfl)) ?_
          refine gx_aload (pc := 47) (i := 9) 0 rfl (htX7_range (47, .aload 9, 2) (gx_m 22 rfl)) ?_
          refine gx_iload_n (pc := 49) (n := 2) (i := 2) rfl 2 rfl (htX7_range (49, .iload_n 2, 1) (gx_m 23 rfl)) ?_
          refine gx_iload_n (pc := 50) (n := 3) (i := 3) rfl 3 rfl (htX7_range (50, .iload_n 3, 1) (gx_m 24 rfl)) ?_
          refine gx_iload (pc := 51) (i := 4) 4 rfl (htX7_range (51, .iload 4, 2) (gx_m 25 rfl)) ?_
          refine gx_iload (pc := 53) (i := 5) 5 rfl (htX7_range (53, .iload 5, 2) (gx_m 26 rfl)) ?_
          refine gx_Jcz (pc := 55) (gx_hst (as := [gx_r 10 (some v5), gx_i x2, gx_i x3, gx_i x4, gx_i x5]) (b := gx_r 8 (some x0))) (gx_runV (as := [gx_r 10 (some v5), gx_i x2, gx_i x3, gx_i x4, gx_i x5]) (ci := 7) (ct_X7_isIn Y x0 v5 x2 x3 x4 x5) (by decide) (Or.inl rfl) rfl rfl rfl rfl q1357 q1359 qs28 q107 q1360 rfl dd_X7_isIn (by decide) (by decide) (Nat.le_of_ble_eq_true rfl) (htX7_range (55, .invokevirtual 129, 3) (gx_m 27 rfl))) (fun v6 hv6 => ?_)
          refine gx_Jjoin (pcJ := 71) (lvJ := fun (j_9 : Unit) => [(0, gx_r 8 (some x0)), (2, gx_i x2), (3, gx_i x3), (4, gx_i x4), (5, gx_i x5), (6, gx_r 9 (some x6)), (7, gx_i s1), (8, gx_i s3)]) (stJ := fun (j_9 : Unit) => []) (fun _ => True) (fun j_9 hj_9 => ?_) (fun kk9 hj9 => ?_)
          · refine gx_iinc (pc := 71) (i := 8) (j := 7) (v := (s3 + 1)) (lv' := [(8, gx_i (s3 + 1)), (0, gx_r 8 (some x0)), (2, gx_i x2), (3, gx_i x3), (4, gx_i x4), (5, gx_i x5), (6, gx_r 9 (some x6)), (7, gx_i s1)]) rfl (gx_iv (by decide)) (by decide) rfl (htX7_range (71, .iinc 8 1, 3) (gx_m 35 rfl)) ?_
            refine gx_goto (pc := 74) (tgt := 21) (by decide) (htX7_range (74, .goto (-53), 3) (gx_m 36 rfl)) ?_
            refine gx_Jw (lv := [(0, gx_r 8 (some x0)), (2, gx_i x2), (3, gx_i x3), (4, gx_i x4), (5, gx_i x5), (6, gx_r 9 (some x6)), (7, gx_i s1), (8, gx_i (s3 + 1))]) [1, 2, 3, 4, 5, 6, 7, 0] rfl ?_
            exact ha7 ((s3 + 1) : Int32)
          · refine gx_if_eq (pc := 58) (y := 0) (tgt := 71) (by decide) (htX7_range (58, .ifCond .eq 13, 3) (gx_m 28 rfl)) (fun c10 => ?_) (fun c10 => ?_)
            · refine gx_Jw (lv := [(0, gx_r 8 (some x0)), (2, gx_i x2), (3, gx_i x3), (4, gx_i x4), (5, gx_i x5), (6, gx_r 9 (some x6)), (7, gx_i s1), (8, gx_i s3)]) [1, 2, 3, 4, 5, 6, 7, 8] rfl ?_
              exact hj9 () trivial
            · refine gx_aload_n (pc := 61) (n := 0) (i := 0) rfl 1 rfl (htX7_range (61, .aload_n 0, 1) (gx_m 29 rfl)) ?_
              refine gx_aload (pc := 62) (i := 6) 6 rfl (htX7_range (62, .aload 6, 2) (gx_m 30 rfl)) ?_
              refine gx_aload (pc := 64) (i := 9) 0 rfl (htX7_range (64, .aload 9, 2) (gx_m 31 rfl)) ?_
              refine gx_iconst (pc := 66) (v := 0) (by decide) (htX7_range (66, .iconst 0, 1) (gx_m 32 rfl)) ?_
              refine gx_Jcr (pc := 67) (t2 := 10) (gx_hst (as := [gx_r 9 (some x6), gx_r 10 (some v5), gx_i 0]) (b := gx_r 8 (some x0))) (gx_runV (as := [gx_r 9 (some x6), gx_r 10 (some v5), gx_i 0]) (ci := 7) (ct_X7_place Y x0 x6 v5 0) (by decide) (Or.inl rfl) rfl rfl rfl rfl q1340 q1342 qs26 q107 q1343 rfl dd_X7_place (by decide) (by decide) (Nat.le_of_ble_eq_true rfl) (htX7_range (67, .invokevirtual 133, 3) (gx_m 33 rfl))) (fun v7 => ?_)
              refine gx_pop (pc := 70) rfl (htX7_range (70, .pop, 1) (gx_m 34 rfl)) ?_
              refine gx_Jw (lv := [(0, gx_r 8 (some x0)), (2, gx_i x2), (3, gx_i x3), (4, gx_i x4), (5, gx_i x5), (6, gx_r 9 (some x6)), (7, gx_i s1), (8, gx_i s3)]) [1, 2, 3, 4, 5, 6, 7, 8] rfl ?_
              exact hj9 () trivial
theorem ct_X7_delete (Y : gx_Y) (x0 : gx_Nm) (x1 : Int32) (x2 : Int32) (x3 : Int32) (x4 : Int32) (x5 : Int32) (x6 : Int32) : gx_Ct Y yX7_delete (ws_ yX7_delete cX7_delete 9 none) 5 205 [gx_r 8 (some x0), gx_i x1, gx_i x2, gx_i x3, gx_i x4, gx_i x5, gx_i x6] gx_Ov (f_X7_delete x0 x1 x2 x3 x4 x5 x6) := by
  refine gx_start (lv := [(0, gx_r 8 (some x0)), (1, gx_i x1), (2, gx_i x2), (3, gx_i x3), (4, gx_i x4), (5, gx_i x5), (6, gx_i x6)]) gx_Ov_r pn_X7 (Nat.le_of_ble_eq_true rfl) rfl ?_
  unfold f_X7_delete
  refine gx_iload (pc := 0) (i := 6) 6 rfl (htX7_delete_0 (0, .iload 6, 2) (gx_m 0 rfl)) ?_
  refine gx_Jjoin (pcJ := 44) (lvJ := fun (j_1 : Unit) => [(0, gx_r 8 (some x0)), (2, gx_i x2), (3, gx_i x3), (4, gx_i x4), (5, gx_i x5), (6, gx_i x6)]) (stJ := fun (j_1 : Unit) => []) (fun _ => True) (fun j_1 hj_1 => ?_) (fun kk1 hj1 => ?_)
  · refine gx_iconst (pc := 44) (v := 0) (by decide) (htX7_delete_0 (44, .iconst 0, 1) (gx_m 25 rfl)) ?_
    refine gx_istore (pc := 45) (i := 7) (lv' := [(7, gx_i 0), (0, gx_r 8 (some x0)), (2, gx_i x2), (3, gx_i x3), (4, gx_i x4), (5, gx_i x5), (6, gx_i x6)]) (by decide) rfl (htX7_delete_0 (45, .istore 7, 2) (gx_m 26 rfl)) ?_
    refine gx_Jjoin (pcJ := 108) (lvJ := fun (j_2 : Unit) => [(0, gx_r 8 (some x0)), (6, gx_i x6)]) (stJ := fun (j_2 : Unit) => []) (fun _ => True) (fun j_2 _ => ?_) (fun kk2 hj2 => ?_)
    · refine gx_iconst (pc := 108) (v := 0) (by decide) (htX7_delete_0 (108, .iconst 0, 1) (gx_m 56 rfl)) ?_
      refine gx_istore (pc := 109) (i := 7) (lv' := [(7, gx_i 0), (0, gx_r 8 (some x0)), (6, gx_i x6)]) (by decide) rfl (htX7_delete_0 (109, .istore 7, 2) (gx_m 57 rfl)) ?_
      refine gx_Jjoin (pcJ := 212) (lvJ := fun (j_3 : Unit) => []) (stJ := fun (j_3 : Unit) => []) (fun _ => True) (fun j_3 _ => ?_) (fun kk3 hj3 => ?_)
      · exact gx_Jvret (pc := 212) rfl (fun _ => trivial) (fun _ _ => rfl) (htX7_delete_1 (212, .return_, 1) (gx_m 5 rfl))
      · refine gx_Jw (lv := [(0, gx_r 8 (some x0)), (6, gx_i x6), (7, gx_i 0)]) [1, 2, 0] rfl ?_
        refine gx_Jlp (pc := 111) (lvh := fun (s9 : Int32) => [(0, gx_r 8 (some x0)), (6, gx_i x6), (7, gx_i s9)]) (fun s9 kl3 ha3 hb3 => ?_) _
        unfold lb_X7_delete_2
        refine gx_iload (pc := 111) (i := 7) 2 rfl (htX7_delete_0 (111, .iload 7, 2) (gx_m 58 rfl)) ?_
        refine gx_aload_n (pc := 113) (n := 0) (i := 0) rfl 0 rfl (htX7_delete_0 (113, .aload_n 0, 1) (gx_m 59 rfl)) ?_
        refine gx_Jgs (pc := 114) (ci := 7) (kk := 17) (t2 := 9) (by decide) (by decide) rfl rfl rfl q323 (htX7_delete_0 (114, .getfield 66, 3) (gx_m 60 rfl)) ?_
        refine gx_Jgi (pc := 117) (ci := 8) (kk := 1) (by decide) (Or.inl rfl) (by decide) (by decide) q245 (htX7_delete_0 (117, .getfield 88, 3) (gx_m 61 rfl)) (fun v10 hv10 => ?_)
        refine gx_icmp_ge (pc := 120) (tgt := 212) (by decide) (htX7_delete_0 (120, .if_icmp .ge 92, 3) (gx_m 62 rfl)) (fun c4 => ?_) (fun c4 => ?_)
        · refine gx_Jw (lv := []) [] rfl ?_
          exact gx_Jout hb3 (hj3 () trivial)
        · refine gx_aload_n (pc := 123) (n := 0) (i := 0) rfl 0 rfl (htX7_delete_0 (123, .aload_n 0, 1) (gx_m 63 rfl)) ?_
          refine gx_Jgs (pc := 124) (ci := 7) (kk := 17) (t2 := 9) (by decide) (by decide) rfl rfl rfl q323 (htX7_delete_0 (124, .getfield 66, 3) (gx_m 64 rfl)) ?_
          refine gx_iload (pc := 127) (i := 7) 2 rfl (htX7_delete_0 (127, .iload 7, 2) (gx_m 65 rfl)) ?_
          refine gx_Jcr (pc := 129) (t2 := 10) (gx_hst (as := [gx_i s9]) (b := gx_r 9 (some (17 :: x0)))) (gx_runV (as := [gx_i s9]) (ci := 8) (ct_X8_get Y (17 :: x0) s9) (by decide) (Or.inl rfl) rfl rfl rfl rfl q1308 q1309 q1310 q108 q1311 rfl dd_X8_get (by decide) (by decide) (Nat.le_of_ble_eq_true rfl) (htX7_delete_0 (129, .invokevirtual 104, 3) (gx_m 66 rfl))) (fun v11 => ?_)
          refine gx_astore (pc := 132) (i := 8) (lv' := [(8, gx_r 10 (some v11)), (0, gx_r 8 (some x0)), (6, gx_i x6), (7, gx_i s9)]) (by decide) rfl (htX7_delete_0 (132, .astore 8, 2) (gx_m 67 rfl)) ?_
          refine gx_aload (pc := 134) (i := 8) 0 rfl (htX7_delete_0 (134, .aload 8, 2) (gx_m 68 rfl)) ?_
          refine gx_Jgi (pc := 136) (ci := 9) (kk := 2) (by decide) (Or.inl rfl) (by decide) (by decide) q265 (htX7_delete_0 (136, .getfield 125, 3) (gx_m 69 rfl)) (fun v12 hv12 => ?_)
          refine gx_Jjoin (pcJ := 206) (lvJ := fun (j_5 : Unit) => [(0, gx_r 8 (some x0)), (6, gx_i x6), (7, gx_i s9)]) (stJ := fun (j_5 : Unit) => []) (fun _ => True) (fun j_5 hj_5 => ?_) (fun kk5 hj5 => ?_)
          · refine gx_iinc (pc := 206) (i := 7) (j := 2) (v := (s9 + 1)) (lv' := [(7, gx_i (s9 + 1)), (0, gx_r 8 (some x0)), (6, gx_i x6)]) rfl (gx_iv (by decide)) (by decide) rfl (htX7_delete_1 (206, .iinc 7 1, 3) (gx_m 3 rfl)) ?_
            refine gx_goto (pc := 209) (tgt := 111) (by decide) (htX7_delete_1 (209, .goto (-98), 3) (gx_m 4 rfl)) ?_
            refine gx_Jw (lv := [(0, gx_r 8 (some x0)), (6, gx_i x6), (7, gx_i (s9 + 1))]) [1, 2, 0] rfl ?_
            exact ha3 ((s9 + 1) : Int32)
          · refine gx_if_eq (pc := 139) (y := 0) (tgt := 206) (by decide) (htX7_delete_0 (139, .ifCond .eq 67, 3) (gx_m 70 rfl)) (fun c6 => ?_) (fun c6 => ?_)
            · refine gx_Jw (lv := [(0, gx_r 8 (some x0)), (6, gx_i x6), (7, gx_i s9)]) [1, 2, 3] rfl ?_
              exact hj5 () trivial
            · refine gx_iload (pc := 142) (i := 6) 2 rfl (htX7_delete_0 (142, .iload 6, 2) (gx_m 71 rfl)) ?_
              refine gx_Jcond (pcT := 157) (pcE := 160) (lv2 := [(8, gx_r 10 (some v11)), (0, gx_r 8 (some x0)), (6, gx_i x6), (7, gx_i s9)]) (st2 := []) ?_ ?_ (fun kk7 hT7 hE7 => ?_)
              · refine gx_goto (pc := 157) (tgt := 206) (by decide) (htX7_delete_0 (157, .goto 49, 3) (gx_m 77 rfl)) ?_
                refine gx_Jw (lv := [(0, gx_r 8 (some x0)), (6, gx_i x6), (7, gx_i s9)]) [1, 2, 3] rfl ?_
                exact hj5 () trivial
              · refine gx_aload_n (pc := 160) (n := 0) (i := 0) rfl 1 rfl (htX7_delete_0 (160, .aload_n 0, 1) (gx_m 78 rfl)) ?_
                refine gx_Jgs (pc := 161) (ci := 7) (kk := 13) (t2 := 10) (by decide) (by decide) rfl rfl rfl q319 (htX7_delete_0 (161, .getfield 58, 3) (gx_m 79 rfl)) ?_
                refine gx_aload (pc := 164) (i := 8) 0 rfl (htX7_delete_0 (164, .aload 8, 2) (gx_m 80 rfl)) ?_
                refine gx_Jcv (pc := 166) (gx_hst (as := [gx_r 10 (some v11)]) (b := gx_r 10 (some (13 :: x0)))) (gx_runV (as := [gx_r 10 (some v11)]) (ci := 9) (ct_X9_copy Y (13 :: x0) v11) (by decide) (Or.inl rfl) rfl rfl rfl rfl q1336 q1337 q1338 q109 q1339 rfl dd_X9_copy (by decide) (by decide) (Nat.le_of_ble_eq_true rfl) (htX7_delete_0 (166, .invokevirtual 137, 3) (gx_m 81 rfl))) ?_
                refine gx_aload_n (pc := 169) (n := 0) (i := 0) rfl 1 rfl (htX7_delete_0 (169, .aload_n 0, 1) (gx_m 82 rfl)) ?_
                refine gx_Jgs (pc := 170) (ci := 7) (kk := 13) (t2 := 10) (by decide) (by decide) rfl rfl rfl q319 (htX7_delete_0 (170, .getfield 58, 3) (gx_m 83 rfl)) ?_
                refine gx_iconst (pc := 173) (v := 0) (by decide) (htX7_delete_0 (173, .iconst 0, 1) (gx_m 84 rfl)) ?_
                refine gx_Jpz (pc := 174) (ci := 9) (kk := 2) (by decide) (Or.inl rfl) (by decide) rfl rfl gx_b0 q265 (Or.inl rfl) (htX7_delete_0 (174, .putfield 125, 3) (gx_m 85 rfl)) ?_
                refine gx_aload_n (pc := 177) (n := 0) (i := 0) rfl 1 rfl (htX7_delete_0 (177, .aload_n 0, 1) (gx_m 86 rfl)) ?_
                refine gx_aload_n (pc := 178) (n := 0) (i := 0) rfl 1 rfl (htX7_delete_0 (178, .aload_n 0, 1) (gx_m 87 rfl)) ?_
                refine gx_Jgs (pc := 179) (ci := 7) (kk := 12) (t2 := 9) (by decide) (by decide) rfl rfl rfl q318 (htX7_delete_0 (179, .getfield 52, 3) (gx_m 88 rfl)) ?_
                refine gx_aload_n (pc := 182) (n := 0) (i := 0) rfl 1 rfl (htX7_delete_0 (182, .aload_n 0, 1) (gx_m 89 rfl)) ?_
                refine gx_Jgs (pc := 183) (ci := 7) (kk := 13) (t2 := 10) (by decide) (by decide) rfl rfl rfl q319 (htX7_delete_0 (183, .getfield 58, 3) (gx_m 90 rfl)) ?_
                refine gx_iconst (pc := 186) (v := 1) (by decide) (htX7_delete_0 (186, .iconst 1, 1) (gx_m 91 rfl)) ?_
                refine gx_Jcr (pc := 187) (t2 := 10) (gx_hst (as := [gx_r 9 (some (12 :: x0)), gx_r 10 (some (13 :: x0)), gx_i 1]) (b := gx_r 8 (some x0))) (gx_runV (as := [gx_r 9 (some (12 :: x0)), gx_r 10 (some (13 :: x0)), gx_i 1]) (ci := 7) (ct_X7_place Y x0 (12 :: x0) (13 :: x0) 1) (by decide) (Or.inl rfl) rfl rfl rfl rfl q1340 q1342 qs26 q107 q1343 rfl dd_X7_place (by decide) (by decide) (Nat.le_of_ble_eq_true rfl) (htX7_delete_0 (187, .invokevirtual 133, 3) (gx_m 92 rfl))) (fun v15 => ?_)
                refine gx_pop (pc := 190) rfl (htX7_delete_0 (190, .pop, 1) (gx_m 93 rfl)) ?_
                refine gx_aload_n (pc := 191) (n := 0) (i := 0) rfl 1 rfl (htX7_delete_0 (191, .aload_n 0, 1) (gx_m 94 rfl)) ?_
                refine gx_dup (pc := 192) rfl (htX7_delete_0 (192, .dup, 1) (gx_m 95 rfl)) ?_
                refine gx_Jgi (pc := 193) (ci := 7) (kk := 15) (by decide) (Or.inl rfl) (by decide) (by decide) q321 (htX7_delete_0 (193, .getfield 174, 3) (gx_m 96 rfl)) (fun v16 hv16 => ?_)
                refine gx_iconst (pc := 196) (v := 1) (by decide) (htX7_delete_0 (196, .iconst 1, 1) (gx_m 97 rfl)) ?_
                refine gx_iadd (pc := 197) (htX7_delete_0 (197, .iadd, 1) (gx_m 98 rfl)) ?_
                refine gx_Jpi (pc := 198) (ci := 7) (kk := 15) (by decide) (Or.inl rfl) (by decide) rfl rfl q321 (Or.inl rfl) (htX7_delete_0 (198, .putfield 174, 3) (gx_m 99 rfl)) ?_
                refine gx_aload_n (pc := 201) (n := 0) (i := 0) rfl 1 rfl (htX7_delete_1 (201, .aload_n 0, 1) (gx_m 0 rfl)) ?_
                refine gx_iconst (pc := 202) (v := 1) (by decide) (htX7_delete_1 (202, .iconst 1, 1) (gx_m 1 rfl)) ?_
                refine gx_Jpz (pc := 203) (ci := 7) (kk := 16) (by decide) (Or.inl rfl) (by decide) rfl rfl gx_b1 q322 (Or.inl rfl) (htX7_delete_1 (203, .putfield 177, 3) (gx_m 2 rfl)) ?_
                refine gx_Jw (lv := [(0, gx_r 8 (some x0)), (6, gx_i x6), (7, gx_i s9)]) [1, 2, 3] rfl ?_
                exact hj5 () trivial
              · refine gx_if_eq (pc := 144) (y := 0) (tgt := 160) (by decide) (htX7_delete_0 (144, .ifCond .eq 16, 3) (gx_m 72 rfl)) (fun c8 => ?_) (fun c8 => ?_)
                · exact hE7
                · refine gx_aload (pc := 147) (i := 8) 0 rfl (htX7_delete_0 (147, .aload 8, 2) (gx_m 73 rfl)) ?_
                  refine gx_Jgi (pc := 149) (ci := 9) (kk := 8) (by decide) (Or.inl rfl) (by decide) (by decide) q285 (htX7_delete_0 (149, .getfield 161, 3) (gx_m 74 rfl)) (fun v13 hv13 => ?_)
                  refine gx_iload (pc := 152) (i := 6) 2 rfl (htX7_delete_0 (152, .iload 6, 2) (gx_m 75 rfl)) ?_
                  refine gx_icmp_eq (pc := 154) (tgt := 160) (by decide) (htX7_delete_0 (154, .if_icmp .eq 6, 3) (gx_m 76 rfl)) (fun c9 => ?_) (fun c9 => ?_)
                  · exact hE7
                  · exact hT7
    · refine gx_Jw (lv := [(0, gx_r 8 (some x0)), (2, gx_i x2), (3, gx_i x3), (4, gx_i x4), (5, gx_i x5), (6, gx_i x6), (7, gx_i 0)]) [1, 2, 3, 4, 5, 6, 0] rfl ?_
      refine gx_Jlp (pc := 47) (lvh := fun (s3 : Int32) => [(0, gx_r 8 (some x0)), (2, gx_i x2), (3, gx_i x3), (4, gx_i x4), (5, gx_i x5), (6, gx_i x6), (7, gx_i s3)]) (fun s3 kl2 ha2 hb2 => ?_) _
      unfold lb_X7_delete_1
      refine gx_iload (pc := 47) (i := 7) 6 rfl (htX7_delete_0 (47, .iload 7, 2) (gx_m 27 rfl)) ?_
      refine gx_aload_n (pc := 49) (n := 0) (i := 0) rfl 0 rfl (htX7_delete_0 (49, .aload_n 0, 1) (gx_m 28 rfl)) ?_
      refine gx_Jgs (pc := 50) (ci := 7) (kk := 12) (t2 := 9) (by decide) (by decide) rfl rfl rfl q318 (htX7_delete_0 (50, .getfield 52, 3) (gx_m 29 rfl)) ?_
      refine gx_Jgi (pc := 53) (ci := 8) (kk := 1) (by decide) (Or.inl rfl) (by decide) (by decide) q245 (htX7_delete_0 (53, .getfield 88, 3) (gx_m 30 rfl)) (fun v4 hv4 => ?_)
      refine gx_icmp_ge (pc := 56) (tgt := 108) (by decide) (htX7_delete_0 (56, .if_icmp .ge 52, 3) (gx_m 31 rfl)) (fun c10 => ?_) (fun c10 => ?_)
      · refine gx_Jw (lv := [(0, gx_r 8 (some x0)), (6, gx_i x6)]) [0, 5] rfl ?_
        exact gx_Jout hb2 (hj2 () trivial)
      · refine gx_aload_n (pc := 59) (n := 0) (i := 0) rfl 0 rfl (htX7_delete_0 (59, .aload_n 0, 1) (gx_m 32 rfl)) ?_
        refine gx_Jgs (pc := 60) (ci := 7) (kk := 12) (t2 := 9) (by decide) (by decide) rfl rfl rfl q318 (htX7_delete_0 (60, .getfield 52, 3) (gx_m 33 rfl)) ?_
        refine gx_iload (pc := 63) (i := 7) 6 rfl (htX7_delete_0 (63, .iload 7, 2) (gx_m 34 rfl)) ?_
        refine gx_Jcr (pc := 65) (t2 := 10) (gx_hst (as := [gx_i s3]) (b := gx_r 9 (some (12 :: x0)))) (gx_runV (as := [gx_i s3]) (ci := 8) (ct_X8_get Y (12 :: x0) s3) (by decide) (Or.inl rfl) rfl rfl rfl rfl q1308 q1309 q1310 q108 q1311 rfl dd_X8_get (by decide) (by decide) (Nat.le_of_ble_eq_true rfl) (htX7_delete_0 (65, .invokevirtual 104, 3) (gx_m 35 rfl))) (fun v5 => ?_)
        refine gx_astore (pc := 68) (i := 8) (lv' := [(8, gx_r 10 (some v5)), (0, gx_r 8 (some x0)), (2, gx_i x2), (3, gx_i x3), (4, gx_i x4), (5, gx_i x5), (6, gx_i x6), (7, gx_i s3)]) (by decide) rfl (htX7_delete_0 (68, .astore 8, 2) (gx_m 36 rfl)) ?_
        refine gx_iload (pc := 70) (i := 6) 6 rfl (htX7_delete_0 (70, .iload 6, 2) (gx_m 37 rfl)) ?_
        refine gx_Jjoin (pcJ := 102) (lvJ := fun (j_11 : Unit) => [(0, gx_r 8 (some x0)), (2, gx_i x2), (3, gx_i x3), (4, gx_i x4), (5, gx_i x5), (6, gx_i x6), (7, gx_i s3)]) (stJ := fun (j_11 : Unit) => []) (fun _ => True) (fun j_11 hj_11 => ?_) (fun kk11 hj11 => ?_)
        · refine gx_iinc (pc := 102) (i := 7) (j := 6) (v := (s3 + 1)) (lv' := [(7, gx_i (s3 + 1)), (0, gx_r 8 (some x0)), (2, gx_i x2), (3, gx_i x3), (4, gx_i x4), (5, gx_i x5), (6, gx_i x6)]) rfl (gx_iv (by decide)) (by decide) rfl (htX7_delete_0 (102, .iinc 7 1, 3) (gx_m 54 rfl)) ?_
          refine gx_goto (pc := 105) (tgt := 47) (by decide) (htX7_delete_0 (105, .goto (-58), 3) (gx_m 55 rfl)) ?_
          refine gx_Jw (lv := [(0, gx_r 8 (some x0)), (2, gx_i x2), (3, gx_i x3), (4, gx_i x4), (5, gx_i x5), (6, gx_i x6), (7, gx_i (s3 + 1))]) [1, 2, 3, 4, 5, 6, 0] rfl ?_
          exact ha2 ((s3 + 1) : Int32)
        · refine gx_Jcond (pcT := 90) (pcE := 102) (lv2 := [(8, gx_r 10 (some v5)), (0, gx_r 8 (some x0)), (2, gx_i x2), (3, gx_i x3), (4, gx_i x4), (5, gx_i x5), (6, gx_i x6), (7, gx_i s3)]) (st2 := []) ?_ ?_ (fun kk12 hT12 hE12 => ?_)
          · refine gx_aload_n (pc := 90) (n := 0) (i := 0) rfl 1 rfl (htX7_delete_0 (90, .aload_n 0, 1) (gx_m 47 rfl)) ?_
            refine gx_aload_n (pc := 91) (n := 0) (i := 0) rfl 1 rfl (htX7_delete_0 (91, .aload_n 0, 1) (gx_m 48 rfl)) ?_
            refine gx_Jgs (pc := 92) (ci := 7) (kk := 17) (t2 := 9) (by decide) (by decide) rfl rfl rfl q323 (htX7_delete_0 (92, .getfield 66, 3) (gx_m 49 rfl)) ?_
            refine gx_aload (pc := 95) (i := 8) 0 rfl (htX7_delete_0 (95, .aload 8, 2) (gx_m 50 rfl)) ?_
            refine gx_iconst (pc := 97) (v := 1) (by decide) (htX7_delete_0 (97, .iconst 1, 1) (gx_m 51 rfl)) ?_
            refine gx_Jcr (pc := 98) (t2 := 10) (gx_hst (as := [gx_r 9 (some (17 :: x0)), gx_r 10 (some v5), gx_i 1]) (b := gx_r 8 (some x0))) (gx_runV (as := [gx_r 9 (some (17 :: x0)), gx_r 10 (some v5), gx_i 1]) (ci := 7) (ct_X7_place Y x0 (17 :: x0) v5 1) (by decide) (Or.inl rfl) rfl rfl rfl rfl q1340 q1342 qs26 q107 q1343 rfl dd_X7_place (by decide) (by decide) (Nat.le_of_ble_eq_true rfl) (htX7_delete_0 (98, .invokevirtual 133, 3) (gx_m 52 rfl))) (fun v8 => ?_)
            refine gx_pop (pc := 101) rfl (htX7_delete_0 (101, .pop, 1) (gx_m 53 rfl)) ?_
            refine gx_Jw (lv := [(0, gx_r 8 (some x0)), (2, gx_i x2), (3, gx_i x3), (4, gx_i x4), (5, gx_i x5), (6, gx_i x6), (7, gx_i s3)]) [1, 2, 3, 4, 5, 6, 7] rfl ?_
            exact hj11 () trivial
          · refine gx_Jw (lv := [(0, gx_r 8 (some x0)), (2, gx_i x2), (3, gx_i x3), (4, gx_i x4), (5, gx_i x5), (6, gx_i x6), (7, gx_i s3)]) [1, 2, 3, 4, 5, 6, 7] rfl ?_
            exact hj11 () trivial
          · refine gx_if_ne (pc := 72) (y := 0) (tgt := 90) (by decide) (htX7_delete_0 (72, .ifCond .ne 18, 3) (gx_m 38 rfl)) (fun c13 => ?_) (fun c13 => ?_)
            · refine gx_aload_n (pc := 75) (n := 0) (i := 0) rfl 1 rfl (htX7_delete_0 (75, .aload_n 0, 1) (gx_m 39 rfl)) ?_
              refine gx_aload (pc := 76) (i := 8) 0 rfl (htX7_delete_0 (76, .aload 8, 2) (gx_m 40 rfl)) ?_
              refine gx_iload_n (pc := 78) (n := 2) (i := 2) rfl 2 rfl (htX7_delete_0 (78, .iload_n 2, 1) (gx_m 41 rfl)) ?_
              refine gx_iload_n (pc := 79) (n := 3) (i := 3) rfl 3 rfl (htX7_delete_0 (79, .iload_n 3, 1) (gx_m 42 rfl)) ?_
              refine gx_iload (pc := 80) (i := 4) 4 rfl (htX7_delete_0 (80, .iload 4, 2) (gx_m 43 rfl)) ?_
              refine gx_iload (pc := 82) (i := 5) 5 rfl (htX7_delete_0 (82, .iload 5, 2) (gx_m 44 rfl)) ?_
              refine gx_Jcz (pc := 84) (gx_hst (as := [gx_r 10 (some v5), gx_i x2, gx_i x3, gx_i x4, gx_i x5]) (b := gx_r 8 (some x0))) (gx_runV (as := [gx_r 10 (some v5), gx_i x2, gx_i x3, gx_i x4, gx_i x5]) (ci := 7) (ct_X7_isIn Y x0 v5 x2 x3 x4 x5) (by decide) (Or.inl rfl) rfl rfl rfl rfl q1357 q1359 qs28 q107 q1360 rfl dd_X7_isIn (by decide) (by decide) (Nat.le_of_ble_eq_true rfl) (htX7_delete_0 (84, .invokevirtual 129, 3) (gx_m 45 rfl))) (fun v6 hv6 => ?_)
              refine gx_if_eq (pc := 87) (y := 0) (tgt := 102) (by decide) (htX7_delete_0 (87, .ifCond .eq 15, 3) (gx_m 46 rfl)) (fun c14 => ?_) (fun c14 => ?_)
              · exact hE12
              · exact hT12
            · exact hT12
  · refine gx_if_ne (pc := 2) (y := 0) (tgt := 23) (by decide) (htX7_delete_0 (2, .ifCond .ne 21, 3) (gx_m 1 rfl)) (fun c15 => ?_) (fun c15 => ?_)
    · refine gx_aload_n (pc := 5) (n := 0) (i := 0) rfl 0 rfl (htX7_delete_0 (5, .aload_n 0, 1) (gx_m 2 rfl)) ?_
      refine gx_iload_n (pc := 6) (n := 1) (i := 1) rfl 1 rfl (htX7_delete_0 (6, .iload_n 1, 1) (gx_m 3 rfl)) ?_
      refine gx_iload_n (pc := 7) (n := 2) (i := 2) rfl 2 rfl (htX7_delete_0 (7, .iload_n 2, 1) (gx_m 4 rfl)) ?_
      refine gx_iload_n (pc := 8) (n := 3) (i := 3) rfl 3 rfl (htX7_delete_0 (8, .iload_n 3, 1) (gx_m 5 rfl)) ?_
      refine gx_iload (pc := 9) (i := 4) 4 rfl (htX7_delete_0 (9, .iload 4, 2) (gx_m 6 rfl)) ?_
      refine gx_iload (pc := 11) (i := 5) 5 rfl (htX7_delete_0 (11, .iload 5, 2) (gx_m 7 rfl)) ?_
      refine gx_aload_n (pc := 13) (n := 0) (i := 0) rfl 0 rfl (htX7_delete_0 (13, .aload_n 0, 1) (gx_m 8 rfl)) ?_
      refine gx_Jgs (pc := 14) (ci := 7) (kk := 17) (t2 := 9) (by decide) (by decide) rfl rfl rfl q323 (htX7_delete_0 (14, .getfield 66, 3) (gx_m 9 rfl)) ?_
      refine gx_Jcv (pc := 17) (gx_hst (as := [gx_i x1, gx_i x2, gx_i x3, gx_i x4, gx_i x5, gx_r 9 (some (17 :: x0))]) (b := gx_r 8 (some x0))) (gx_runV (as := [gx_i x1, gx_i x2, gx_i x3, gx_i x4, gx_i x5, gx_r 9 (some (17 :: x0))]) (ci := 7) (ct_X7_range Y x0 x1 x2 x3 x4 x5 (17 :: x0)) (by decide) (Or.inl rfl) rfl rfl rfl rfl q1353 q1354 q1355 q107 q1356 rfl dd_X7_range (by decide) (by decide) (Nat.le_of_ble_eq_true rfl) (htX7_delete_0 (17, .invokevirtual 211, 3) (gx_m 10 rfl))) ?_
      refine gx_goto (pc := 20) (tgt := 44) (by decide) (htX7_delete_0 (20, .goto 24, 3) (gx_m 11 rfl)) ?_
      refine gx_Jw (lv := [(0, gx_r 8 (some x0)), (2, gx_i x2), (3, gx_i x3), (4, gx_i x4), (5, gx_i x5), (6, gx_i x6)]) [0, 2, 3, 4, 5, 6] rfl ?_
      exact hj1 () trivial
    · refine gx_aload_n (pc := 23) (n := 0) (i := 0) rfl 0 rfl (htX7_delete_0 (23, .aload_n 0, 1) (gx_m 12 rfl)) ?_
      refine gx_iload_n (pc := 24) (n := 1) (i := 1) rfl 1 rfl (htX7_delete_0 (24, .iload_n 1, 1) (gx_m 13 rfl)) ?_
      refine gx_iconst (pc := 25) (v := 0) (by decide) (htX7_delete_0 (25, .iconst 0, 1) (gx_m 14 rfl)) ?_
      refine gx_iconst (pc := 26) (v := 0) (by decide) (htX7_delete_0 (26, .iconst 0, 1) (gx_m 15 rfl)) ?_
      refine gx_aload_n (pc := 27) (n := 0) (i := 0) rfl 0 rfl (htX7_delete_0 (27, .aload_n 0, 1) (gx_m 16 rfl)) ?_
      refine gx_Jgi (pc := 28) (ci := 7) (kk := 18) (by decide) (Or.inl rfl) (by decide) (by decide) q324 (htX7_delete_0 (28, .getfield 215, 3) (gx_m 17 rfl)) (fun v1 hv1 => ?_)
      refine gx_aload_n (pc := 31) (n := 0) (i := 0) rfl 0 rfl (htX7_delete_0 (31, .aload_n 0, 1) (gx_m 18 rfl)) ?_
      refine gx_Jgi (pc := 32) (ci := 7) (kk := 18) (by decide) (Or.inl rfl) (by decide) (by decide) q324 (htX7_delete_0 (32, .getfield 215, 3) (gx_m 19 rfl)) (fun v2 hv2 => ?_)
      refine gx_iconst (pc := 35) (v := 1) (by decide) (htX7_delete_0 (35, .iconst 1, 1) (gx_m 20 rfl)) ?_
      refine gx_iadd (pc := 36) (htX7_delete_0 (36, .iadd, 1) (gx_m 21 rfl)) ?_
      refine gx_aload_n (pc := 37) (n := 0) (i := 0) rfl 0 rfl (htX7_delete_0 (37, .aload_n 0, 1) (gx_m 22 rfl)) ?_
      refine gx_Jgs (pc := 38) (ci := 7) (kk := 17) (t2 := 9) (by decide) (by decide) rfl rfl rfl q323 (htX7_delete_0 (38, .getfield 66, 3) (gx_m 23 rfl)) ?_
      refine gx_Jcv (pc := 41) (gx_hst (as := [gx_i x1, gx_i 0, gx_i 0, gx_i v1, gx_i (v2 + 1), gx_r 9 (some (17 :: x0))]) (b := gx_r 8 (some x0))) (gx_runV (as := [gx_i x1, gx_i 0, gx_i 0, gx_i v1, gx_i (v2 + 1), gx_r 9 (some (17 :: x0))]) (ci := 7) (ct_X7_range Y x0 x1 0 0 v1 (v2 + 1) (17 :: x0)) (by decide) (Or.inl rfl) rfl rfl rfl rfl q1353 q1354 q1355 q107 q1356 rfl dd_X7_range (by decide) (by decide) (Nat.le_of_ble_eq_true rfl) (htX7_delete_0 (41, .invokevirtual 211, 3) (gx_m 24 rfl))) ?_
      refine gx_Jw (lv := [(0, gx_r 8 (some x0)), (2, gx_i x2), (3, gx_i x3), (4, gx_i x4), (5, gx_i x5), (6, gx_i x6)]) [0, 2, 3, 4, 5, 6] rfl ?_
      exact hj1 () trivial
theorem ct_X7_turnLease (Y : gx_Y) (x0 : gx_Nm) (x1 : Int32) : gx_Ct Y yX7_turnLease (ws_ yX7_turnLease cX7_turnLease 2 none) 1 100 [gx_r 8 (some x0), gx_i x1] gx_Ov (f_X7_turnLease x0 x1) := by
  refine gx_start (lv := [(0, gx_r 8 (some x0)), (1, gx_i x1)]) gx_Ov_r pn_X7 (Nat.le_of_ble_eq_true rfl) rfl ?_
  unfold f_X7_turnLease
  refine gx_aload_n (pc := 0) (n := 0) (i := 0) rfl 0 rfl (htX7_turnLease (0, .aload_n 0, 1) (gx_m 0 rfl)) ?_
  refine gx_Jgs (pc := 1) (ci := 7) (kk := 14) (t2 := 100) (by decide) (by decide) rfl rfl rfl q320 (htX7_turnLease (1, .getfield 62, 3) (gx_m 1 rfl)) ?_
  refine gx_iload_n (pc := 4) (n := 1) (i := 1) rfl 1 rfl (htX7_turnLease (4, .iload_n 1, 1) (gx_m 2 rfl)) ?_
  refine gx_iconst (pc := 5) (v := 5) (by decide) (htX7_turnLease (5, .iconst 5, 1) (gx_m 3 rfl)) ?_
  refine gx_ishr (pc := 6) (htX7_turnLease (6, .ishr, 1) (gx_m 4 rfl)) ?_
  refine gx_dup2 (pc := 7) rfl rfl (htX7_turnLease (7, .dup2, 1) (gx_m 5 rfl)) ?_
  refine gx_Jia (pc := 8) (htX7_turnLease (8, .iaload, 1) (gx_m 6 rfl)) (fun v1 => ?_)
  refine gx_iconst (pc := 9) (v := 1) (by decide) (htX7_turnLease (9, .iconst 1, 1) (gx_m 7 rfl)) ?_
  refine gx_iload_n (pc := 10) (n := 1) (i := 1) rfl 1 rfl (htX7_turnLease (10, .iload_n 1, 1) (gx_m 8 rfl)) ?_
  refine gx_bipush (pc := 11) (v := 31) (by decide) (htX7_turnLease (11, .bipush 31, 2) (gx_m 9 rfl)) ?_
  refine gx_iand (pc := 13) (htX7_turnLease (13, .iand, 1) (gx_m 10 rfl)) ?_
  refine gx_ishl (pc := 14) (htX7_turnLease (14, .ishl, 1) (gx_m 11 rfl)) ?_
  refine gx_ixor (pc := 15) (htX7_turnLease (15, .ixor, 1) (gx_m 12 rfl)) ?_
  refine gx_Jis (pc := 16) (htX7_turnLease (16, .iastore, 1) (gx_m 13 rfl)) ?_
  exact gx_Jvret (pc := 17) rfl (fun _ => trivial) (fun _ _ => rfl) (htX7_turnLease (17, .return_, 1) (gx_m 14 rfl))
theorem ct_X7_step (Y : gx_Y) (x0 : gx_Nm) (x1 : Int32) (x2 : Int32) : gx_Ct Y yX7_step (ws_ yX7_step cX7_step 6 (some .boolean)) 6 233 [gx_r 8 (some x0), gx_i x1, gx_i x2] gx_Oz (f_X7_step x0 x1 x2) := by
  refine gx_start (lv := [(0, gx_r 8 (some x0)), (1, gx_i x1), (2, gx_i x2)]) gx_Oz_r pn_X7 (Nat.le_of_ble_eq_true rfl) rfl ?_
  unfold f_X7_step
  refine gx_aload_n (pc := 0) (n := 0) (i := 0) rfl 0 rfl (htX7_step (0, .aload_n 0, 1) (gx_m 0 rfl)) ?_
  refine gx_Jgs (pc := 1) (ci := 7) (kk := 0) (t2 := 4) (by decide) (by decide) rfl rfl rfl q306 (htX7_step (1, .getfield 69, 3) (gx_m 1 rfl)) ?_
  refine gx_iload_n (pc := 4) (n := 2) (i := 2) rfl 2 rfl (htX7_step (4, .iload_n 2, 1) (gx_m 2 rfl)) ?_
  refine gx_iconst (pc := 5) (v := 4) (by decide) (htX7_step (5, .iconst 4, 1) (gx_m 3 rfl)) ?_
  refine gx_iadd (pc := 6) (htX7_step (6, .iadd, 1) (gx_m 4 rfl)) ?_
  refine gx_Jci (pc := 7) (gx_hst (as := [gx_i (x2 + 4)]) (b := gx_r 4 (some [0, 0, 1]))) (gx_runV (as := [gx_i (x2 + 4)]) (ci := 3) (ct_X3_get Y [0, 0, 1] (x2 + 4)) (by decide) (Or.inl rfl) rfl rfl rfl rfl q1296 q1297 q1298 q103 q1299 rfl dd_X3_get (by decide) (by decide) (Nat.le_of_ble_eq_true rfl) (htX7_step (7, .invokevirtual 147, 3) (gx_m 5 rfl))) (fun v1 => ?_)
  refine gx_istore_n (pc := 10) (n := 3) (i := 3) (lv' := [(3, gx_i v1), (0, gx_r 8 (some x0)), (1, gx_i x1), (2, gx_i x2)]) rfl (by decide) rfl (htX7_step (10, .istore_n 3, 1) (gx_m 6 rfl)) ?_
  refine gx_aload_n (pc := 11) (n := 0) (i := 0) rfl 1 rfl (htX7_step (11, .aload_n 0, 1) (gx_m 7 rfl)) ?_
  refine gx_Jgs (pc := 12) (ci := 7) (kk := 0) (t2 := 4) (by decide) (by decide) rfl rfl rfl q306 (htX7_step (12, .getfield 69, 3) (gx_m 8 rfl)) ?_
  refine gx_iload_n (pc := 15) (n := 2) (i := 2) rfl 3 rfl (htX7_step (15, .iload_n 2, 1) (gx_m 9 rfl)) ?_
  refine gx_iconst (pc := 16) (v := 5) (by decide) (htX7_step (16, .iconst 5, 1) (gx_m 10 rfl)) ?_
  refine gx_iadd (pc := 17) (htX7_step (17, .iadd, 1) (gx_m 11 rfl)) ?_
  refine gx_Jci (pc := 18) (gx_hst (as := [gx_i (x2 + 5)]) (b := gx_r 4 (some [0, 0, 1]))) (gx_runV (as := [gx_i (x2 + 5)]) (ci := 3) (ct_X3_get Y [0, 0, 1] (x2 + 5)) (by decide) (Or.inl rfl) rfl rfl rfl rfl q1296 q1297 q1298 q103 q1299 rfl dd_X3_get (by decide) (by decide) (Nat.le_of_ble_eq_true rfl) (htX7_step (18, .invokevirtual 147, 3) (gx_m 12 rfl))) (fun v2 => ?_)
  refine gx_istore (pc := 21) (i := 4) (lv' := [(4, gx_i v2), (3, gx_i v1), (0, gx_r 8 (some x0)), (1, gx_i x1), (2, gx_i x2)]) (by decide) rfl (htX7_step (21, .istore 4, 2) (gx_m 13 rfl)) ?_
  refine gx_iload_n (pc := 23) (n := 3) (i := 3) rfl 1 rfl (htX7_step (23, .iload_n 3, 1) (gx_m 14 rfl)) ?_
  refine gx_if_ne (pc := 24) (y := 0) (tgt := 36) (by decide) (htX7_step (24, .ifCond .ne 12, 3) (gx_m 15 rfl)) (fun c1 => ?_) (fun c1 => ?_)
  · refine gx_aload_n (pc := 27) (n := 0) (i := 0) rfl 2 rfl (htX7_step (27, .aload_n 0, 1) (gx_m 16 rfl)) ?_
    refine gx_iload_n (pc := 28) (n := 1) (i := 1) rfl 3 rfl (htX7_step (28, .iload_n 1, 1) (gx_m 17 rfl)) ?_
    refine gx_iload_n (pc := 29) (n := 2) (i := 2) rfl 4 rfl (htX7_step (29, .iload_n 2, 1) (gx_m 18 rfl)) ?_
    refine gx_iload (pc := 30) (i := 4) 0 rfl (htX7_step (30, .iload 4, 2) (gx_m 19 rfl)) ?_
    refine gx_Jcz (pc := 32) (gx_hst (as := [gx_i x1, gx_i x2, gx_i v2]) (b := gx_r 8 (some x0))) (gx_runV (as := [gx_i x1, gx_i x2, gx_i v2]) (ci := 7) (ct_X7_put Y x0 x1 x2 v2) (by decide) (Or.inl rfl) rfl rfl rfl rfl q1324 q1326 qs23 q107 q1327 rfl dd_X7_put (by decide) (by decide) (Nat.le_of_ble_eq_true rfl) (htX7_step (32, .invokevirtual 187, 3) (gx_m 20 rfl))) (fun v3 hv3 => ?_)
    exact gx_Jzret (pc := 35) rfl hv3 (fun _ => hv3) (fun _ _ => rfl) (htX7_step (35, .ireturn, 1) (gx_m 21 rfl))
  · refine gx_iload_n (pc := 36) (n := 3) (i := 3) rfl 1 rfl (htX7_step (36, .iload_n 3, 1) (gx_m 22 rfl)) ?_
    refine gx_iconst (pc := 37) (v := 1) (by decide) (htX7_step (37, .iconst 1, 1) (gx_m 23 rfl)) ?_
    refine gx_icmp_ne (pc := 38) (tgt := 87) (by decide) (htX7_step (38, .if_icmp .ne 49, 3) (gx_m 24 rfl)) (fun c2 => ?_) (fun c2 => ?_)
    · refine gx_aload_n (pc := 41) (n := 0) (i := 0) rfl 2 rfl (htX7_step (41, .aload_n 0, 1) (gx_m 25 rfl)) ?_
      refine gx_iload_n (pc := 42) (n := 1) (i := 1) rfl 3 rfl (htX7_step (42, .iload_n 1, 1) (gx_m 26 rfl)) ?_
      refine gx_aload_n (pc := 43) (n := 0) (i := 0) rfl 2 rfl (htX7_step (43, .aload_n 0, 1) (gx_m 27 rfl)) ?_
      refine gx_Jgs (pc := 44) (ci := 7) (kk := 0) (t2 := 4) (by decide) (by decide) rfl rfl rfl q306 (htX7_step (44, .getfield 69, 3) (gx_m 28 rfl)) ?_
      refine gx_iload_n (pc := 47) (n := 2) (i := 2) rfl 4 rfl (htX7_step (47, .iload_n 2, 1) (gx_m 29 rfl)) ?_
      refine gx_Jci (pc := 48) (gx_hst (as := [gx_i x2]) (b := gx_r 4 (some [0, 0, 1]))) (gx_runV (as := [gx_i x2]) (ci := 3) (ct_X3_get Y [0, 0, 1] x2) (by decide) (Or.inl rfl) rfl rfl rfl rfl q1296 q1297 q1298 q103 q1299 rfl dd_X3_get (by decide) (by decide) (Nat.le_of_ble_eq_true rfl) (htX7_step (48, .invokevirtual 147, 3) (gx_m 30 rfl))) (fun v4 => ?_)
      refine gx_aload_n (pc := 51) (n := 0) (i := 0) rfl 2 rfl (htX7_step (51, .aload_n 0, 1) (gx_m 31 rfl)) ?_
      refine gx_Jgs (pc := 52) (ci := 7) (kk := 0) (t2 := 4) (by decide) (by decide) rfl rfl rfl q306 (htX7_step (52, .getfield 69, 3) (gx_m 32 rfl)) ?_
      refine gx_iload_n (pc := 55) (n := 2) (i := 2) rfl 4 rfl (htX7_step (55, .iload_n 2, 1) (gx_m 33 rfl)) ?_
      refine gx_iconst (pc := 56) (v := 1) (by decide) (htX7_step (56, .iconst 1, 1) (gx_m 34 rfl)) ?_
      refine gx_iadd (pc := 57) (htX7_step (57, .iadd, 1) (gx_m 35 rfl)) ?_
      refine gx_Jci (pc := 58) (gx_hst (as := [gx_i (x2 + 1)]) (b := gx_r 4 (some [0, 0, 1]))) (gx_runV (as := [gx_i (x2 + 1)]) (ci := 3) (ct_X3_get Y [0, 0, 1] (x2 + 1)) (by decide) (Or.inl rfl) rfl rfl rfl rfl q1296 q1297 q1298 q103 q1299 rfl dd_X3_get (by decide) (by decide) (Nat.le_of_ble_eq_true rfl) (htX7_step (58, .invokevirtual 147, 3) (gx_m 36 rfl))) (fun v5 => ?_)
      refine gx_aload_n (pc := 61) (n := 0) (i := 0) rfl 2 rfl (htX7_step (61, .aload_n 0, 1) (gx_m 37 rfl)) ?_
      refine gx_Jgs (pc := 62) (ci := 7) (kk := 0) (t2 := 4) (by decide) (by decide) rfl rfl rfl q306 (htX7_step (62, .getfield 69, 3) (gx_m 38 rfl)) ?_
      refine gx_iload_n (pc := 65) (n := 2) (i := 2) rfl 4 rfl (htX7_step (65, .iload_n 2, 1) (gx_m 39 rfl)) ?_
      refine gx_iconst (pc := 66) (v := 2) (by decide) (htX7_step (66, .iconst 2, 1) (gx_m 40 rfl)) ?_
      refine gx_iadd (pc := 67) (htX7_step (67, .iadd, 1) (gx_m 41 rfl)) ?_
      refine gx_Jci (pc := 68) (gx_hst (as := [gx_i (x2 + 2)]) (b := gx_r 4 (some [0, 0, 1]))) (gx_runV (as := [gx_i (x2 + 2)]) (ci := 3) (ct_X3_get Y [0, 0, 1] (x2 + 2)) (by decide) (Or.inl rfl) rfl rfl rfl rfl q1296 q1297 q1298 q103 q1299 rfl dd_X3_get (by decide) (by decide) (Nat.le_of_ble_eq_true rfl) (htX7_step (68, .invokevirtual 147, 3) (gx_m 42 rfl))) (fun v6 => ?_)
      refine gx_aload_n (pc := 71) (n := 0) (i := 0) rfl 2 rfl (htX7_step (71, .aload_n 0, 1) (gx_m 43 rfl)) ?_
      refine gx_Jgs (pc := 72) (ci := 7) (kk := 0) (t2 := 4) (by decide) (by decide) rfl rfl rfl q306 (htX7_step (72, .getfield 69, 3) (gx_m 44 rfl)) ?_
      refine gx_iload_n (pc := 75) (n := 2) (i := 2) rfl 4 rfl (htX7_step (75, .iload_n 2, 1) (gx_m 45 rfl)) ?_
      refine gx_iconst (pc := 76) (v := 3) (by decide) (htX7_step (76, .iconst 3, 1) (gx_m 46 rfl)) ?_
      refine gx_iadd (pc := 77) (htX7_step (77, .iadd, 1) (gx_m 47 rfl)) ?_
      refine gx_Jci (pc := 78) (gx_hst (as := [gx_i (x2 + 3)]) (b := gx_r 4 (some [0, 0, 1]))) (gx_runV (as := [gx_i (x2 + 3)]) (ci := 3) (ct_X3_get Y [0, 0, 1] (x2 + 3)) (by decide) (Or.inl rfl) rfl rfl rfl rfl q1296 q1297 q1298 q103 q1299 rfl dd_X3_get (by decide) (by decide) (Nat.le_of_ble_eq_true rfl) (htX7_step (78, .invokevirtual 147, 3) (gx_m 48 rfl))) (fun v7 => ?_)
      refine gx_iconst (pc := 81) (v := 0) (by decide) (htX7_step (81, .iconst 0, 1) (gx_m 49 rfl)) ?_
      refine gx_Jcv (pc := 82) (gx_hst (as := [gx_i x1, gx_i v4, gx_i v5, gx_i v6, gx_i v7, gx_i 0]) (b := gx_r 8 (some x0))) (gx_runV (as := [gx_i x1, gx_i v4, gx_i v5, gx_i v6, gx_i v7, gx_i 0]) (ci := 7) (ct_X7_delete Y x0 x1 v4 v5 v6 v7 0) (by decide) (Or.inl rfl) rfl rfl rfl rfl q1349 q1351 qs27 q107 q1352 rfl dd_X7_delete (by decide) (by decide) (Nat.le_of_ble_eq_true rfl) (htX7_step (82, .invokevirtual 191, 3) (gx_m 50 rfl))) ?_
      refine gx_iconst (pc := 85) (v := 1) (by decide) (htX7_step (85, .iconst 1, 1) (gx_m 51 rfl)) ?_
      exact gx_Jzret (pc := 86) rfl gx_b1 (fun _ => gx_b1) (fun _ _ => rfl) (htX7_step (86, .ireturn, 1) (gx_m 52 rfl))
    · refine gx_aload_n (pc := 87) (n := 0) (i := 0) rfl 2 rfl (htX7_step (87, .aload_n 0, 1) (gx_m 53 rfl)) ?_
      refine gx_iload (pc := 88) (i := 4) 0 rfl (htX7_step (88, .iload 4, 2) (gx_m 54 rfl)) ?_
      refine gx_Jcz (pc := 90) (gx_hst (as := [gx_i v2]) (b := gx_r 8 (some x0))) (gx_runV (as := [gx_i v2]) (ci := 7) (ct_X7_hasLease Y x0 v2) (by decide) (Or.inl rfl) rfl rfl rfl rfl q1328 q1330 qs24 q107 q1331 rfl dd_X7_hasLease (by decide) (by decide) (Nat.le_of_ble_eq_true rfl) (htX7_step (90, .invokevirtual 195, 3) (gx_m 55 rfl))) (fun v8 hv8 => ?_)
      refine gx_istore (pc := 93) (i := 5) (lv' := [(5, gx_i v8), (4, gx_i v2), (3, gx_i v1), (0, gx_r 8 (some x0)), (1, gx_i x1), (2, gx_i x2)]) (by decide) rfl (htX7_step (93, .istore 5, 2) (gx_m 56 rfl)) ?_
      refine gx_iload (pc := 95) (i := 5) 0 rfl (htX7_step (95, .iload 5, 2) (gx_m 57 rfl)) ?_
      refine gx_iload_n (pc := 97) (n := 3) (i := 3) rfl 2 rfl (htX7_step (97, .iload_n 3, 1) (gx_m 58 rfl)) ?_
      refine gx_iconst (pc := 98) (v := 2) (by decide) (htX7_step (98, .iconst 2, 1) (gx_m 59 rfl)) ?_
      refine gx_Jjoin (pcJ := 107) (lvJ := fun (j9 : Int32) => [(0, gx_r 8 (some x0)), (1, gx_i x1), (4, gx_i v2), (5, gx_i v8)]) (stJ := fun (j9 : Int32) => [gx_i j9, gx_i v8]) (fun (j9 : Int32) => j9 &&& 1 = j9) (fun j9 hj9 => ?_) (fun kk3 hj3 => ?_)
      · refine gx_icmp_ne (pc := 107) (tgt := 112) (by decide) (htX7_step (107, .if_icmp .ne 5, 3) (gx_m 64 rfl)) (fun c4 => ?_) (fun c4 => ?_)
        · refine gx_iconst (pc := 110) (v := 0) (by decide) (htX7_step (110, .iconst 0, 1) (gx_m 65 rfl)) ?_
          exact gx_Jzret (pc := 111) rfl gx_b0 (fun _ => gx_b0) (fun _ _ => rfl) (htX7_step (111, .ireturn, 1) (gx_m 66 rfl))
        · refine gx_iload (pc := 112) (i := 5) 3 rfl (htX7_step (112, .iload 5, 2) (gx_m 67 rfl)) ?_
          refine gx_Jjoin (pcJ := 128) (lvJ := fun (j_5 : Unit) => [(0, gx_r 8 (some x0)), (4, gx_i v2)]) (stJ := fun (j_5 : Unit) => []) (fun _ => True) (fun j_5 hj_5 => ?_) (fun kk5 hj5 => ?_)
          · refine gx_aload_n (pc := 128) (n := 0) (i := 0) rfl 0 rfl (htX7_step (128, .aload_n 0, 1) (gx_m 77 rfl)) ?_
            refine gx_iload (pc := 129) (i := 4) 1 rfl (htX7_step (129, .iload 4, 2) (gx_m 78 rfl)) ?_
            refine gx_Jcv (pc := 131) (gx_hst (as := [gx_i v2]) (b := gx_r 8 (some x0))) (gx_runV (as := [gx_i v2]) (ci := 7) (ct_X7_turnLease Y x0 v2) (by decide) (Or.inl rfl) rfl rfl rfl rfl q1361 q1363 qs29 q107 q1364 rfl dd_X7_turnLease (by decide) (by decide) (Nat.le_of_ble_eq_true rfl) (htX7_step (131, .invokevirtual 199, 3) (gx_m 79 rfl))) ?_
            refine gx_iconst (pc := 134) (v := 1) (by decide) (htX7_step (134, .iconst 1, 1) (gx_m 80 rfl)) ?_
            exact gx_Jzret (pc := 135) rfl gx_b1 (fun _ => gx_b1) (fun _ _ => rfl) (htX7_step (135, .ireturn, 1) (gx_m 81 rfl))
          · refine gx_if_eq (pc := 114) (y := 0) (tgt := 128) (by decide) (htX7_step (114, .ifCond .eq 14, 3) (gx_m 68 rfl)) (fun c6 => ?_) (fun c6 => ?_)
            · refine gx_Jw (lv := [(0, gx_r 8 (some x0)), (4, gx_i v2)]) [0, 2] rfl ?_
              exact hj5 () trivial
            · refine gx_aload_n (pc := 117) (n := 0) (i := 0) rfl 0 rfl (htX7_step (117, .aload_n 0, 1) (gx_m 69 rfl)) ?_
              refine gx_iload_n (pc := 118) (n := 1) (i := 1) rfl 1 rfl (htX7_step (118, .iload_n 1, 1) (gx_m 70 rfl)) ?_
              refine gx_iconst (pc := 119) (v := 0) (by decide) (htX7_step (119, .iconst 0, 1) (gx_m 71 rfl)) ?_
              refine gx_iconst (pc := 120) (v := 0) (by decide) (htX7_step (120, .iconst 0, 1) (gx_m 72 rfl)) ?_
              refine gx_iconst (pc := 121) (v := 0) (by decide) (htX7_step (121, .iconst 0, 1) (gx_m 73 rfl)) ?_
              refine gx_iconst (pc := 122) (v := 0) (by decide) (htX7_step (122, .iconst 0, 1) (gx_m 74 rfl)) ?_
              refine gx_iload (pc := 123) (i := 4) 2 rfl (htX7_step (123, .iload 4, 2) (gx_m 75 rfl)) ?_
              refine gx_Jcv (pc := 125) (gx_hst (as := [gx_i x1, gx_i 0, gx_i 0, gx_i 0, gx_i 0, gx_i v2]) (b := gx_r 8 (some x0))) (gx_runV (as := [gx_i x1, gx_i 0, gx_i 0, gx_i 0, gx_i 0, gx_i v2]) (ci := 7) (ct_X7_delete Y x0 x1 0 0 0 0 v2) (by decide) (Or.inl rfl) rfl rfl rfl rfl q1349 q1351 qs27 q107 q1352 rfl dd_X7_delete (by decide) (by decide) (Nat.le_of_ble_eq_true rfl) (htX7_step (125, .invokevirtual 191, 3) (gx_m 76 rfl))) ?_
              refine gx_Jw (lv := [(0, gx_r 8 (some x0)), (4, gx_i v2)]) [0, 2] rfl ?_
              exact hj5 () trivial
      · refine gx_icmp_ne (pc := 99) (tgt := 106) (by decide) (htX7_step (99, .if_icmp .ne 7, 3) (gx_m 60 rfl)) (fun c7 => ?_) (fun c7 => ?_)
        · refine gx_iconst (pc := 102) (v := 1) (by decide) (htX7_step (102, .iconst 1, 1) (gx_m 61 rfl)) ?_
          refine gx_goto (pc := 103) (tgt := 107) (by decide) (htX7_step (103, .goto 4, 3) (gx_m 62 rfl)) ?_
          refine gx_Jw (lv := [(0, gx_r 8 (some x0)), (1, gx_i x1), (4, gx_i v2), (5, gx_i v8)]) [3, 4, 1, 0] rfl ?_
          exact hj3 (1 : Int32) gx_b1
        · refine gx_iconst (pc := 106) (v := 0) (by decide) (htX7_step (106, .iconst 0, 1) (gx_m 63 rfl)) ?_
          refine gx_Jw (lv := [(0, gx_r 8 (some x0)), (1, gx_i x1), (4, gx_i v2), (5, gx_i v8)]) [3, 4, 1, 0] rfl ?_
          exact hj3 (0 : Int32) gx_b0
theorem ct_X7_finish (Y : gx_Y) (x0 : gx_Nm) (x1 : Int32) (x2 : Int32) (x3 : Int32) (x4 : Int32) : gx_Ct Y yX7_finish (ws_ yX7_finish cX7_finish 10 (some .int)) 4 177 [gx_r 8 (some x0), gx_i x1, gx_i x2, gx_i x3, gx_i x4] gx_Oi (f_X7_finish x0 x1 x2 x3 x4) := by
  refine gx_start (lv := [(0, gx_r 8 (some x0)), (1, gx_i x1), (2, gx_i x2), (3, gx_i x3), (4, gx_i x4)]) gx_Oi_r pn_X7 (Nat.le_of_ble_eq_true rfl) rfl ?_
  unfold f_X7_finish
  refine gx_aload_n (pc := 0) (n := 0) (i := 0) rfl 0 rfl (htX7_finish_0 (0, .aload_n 0, 1) (gx_m 0 rfl)) ?_
  refine gx_Jgs (pc := 1) (ci := 7) (kk := 6) (t2 := 6) (by decide) (by decide) rfl rfl rfl q312 (htX7_finish_0 (1, .getfield 30, 3) (gx_m 1 rfl)) ?_
  refine gx_iload_n (pc := 4) (n := 1) (i := 1) rfl 1 rfl (htX7_finish_0 (4, .iload_n 1, 1) (gx_m 2 rfl)) ?_
  refine gx_Jci (pc := 5) (gx_hst (as := [gx_i x1]) (b := gx_r 6 (some (6 :: x0)))) (gx_runV (as := [gx_i x1]) (ci := 5) (ct_X5_get Y (6 :: x0) x1) (by decide) (Or.inl rfl) rfl rfl rfl rfl q667 q668 q669 q105 q670 rfl dd_X5_get (by decide) (by decide) (Nat.le_of_ble_eq_true rfl) (htX7_finish_0 (5, .invokevirtual 89, 3) (gx_m 3 rfl))) (fun v1 => ?_)
  refine gx_istore (pc := 8) (i := 5) (lv' := [(5, gx_i v1), (0, gx_r 8 (some x0)), (1, gx_i x1), (2, gx_i x2), (3, gx_i x3), (4, gx_i x4)]) (by decide) rfl (htX7_finish_0 (8, .istore 5, 2) (gx_m 4 rfl)) ?_
  refine gx_iconst (pc := 10) (v := 0) (by decide) (htX7_finish_0 (10, .iconst 0, 1) (gx_m 5 rfl)) ?_
  refine gx_istore (pc := 11) (i := 6) (lv' := [(6, gx_i 0), (5, gx_i v1), (0, gx_r 8 (some x0)), (1, gx_i x1), (2, gx_i x2), (3, gx_i x3), (4, gx_i x4)]) (by decide) rfl (htX7_finish_0 (11, .istore 6, 2) (gx_m 6 rfl)) ?_
  refine gx_iconst (pc := 13) (v := 0) (by decide) (htX7_finish_0 (13, .iconst 0, 1) (gx_m 7 rfl)) ?_
  refine gx_istore (pc := 14) (i := 7) (lv' := [(7, gx_i 0), (6, gx_i 0), (5, gx_i v1), (0, gx_r 8 (some x0)), (1, gx_i x1), (2, gx_i x2), (3, gx_i x3), (4, gx_i x4)]) (by decide) rfl (htX7_finish_0 (14, .istore 7, 2) (gx_m 8 rfl)) ?_
  refine gx_Jjoin (pcJ := 124) (lvJ := fun (j15 : Int32 × Int32) => [(0, gx_r 8 (some x0)), (1, gx_i x1), (2, gx_i x2), (3, gx_i x3), (4, gx_i x4), (5, gx_i j15.1), (6, gx_i j15.2)]) (stJ := fun (j15 : Int32 × Int32) => []) (fun _ => True) (fun j15 _ => ?_) (fun kk1 hj1 => ?_)
  · refine gx_aload_n (pc := 124) (n := 0) (i := 0) rfl 0 rfl (htX7_finish_0 (124, .aload_n 0, 1) (gx_m 57 rfl)) ?_
    refine gx_Jgs (pc := 125) (ci := 7) (kk := 12) (t2 := 9) (by decide) (by decide) rfl rfl rfl q318 (htX7_finish_0 (125, .getfield 52, 3) (gx_m 58 rfl)) ?_
    refine gx_iload (pc := 128) (i := 6) 6 rfl (htX7_finish_0 (128, .iload 6, 2) (gx_m 59 rfl)) ?_
    refine gx_Jpi (pc := 130) (ci := 8) (kk := 1) (by decide) (Or.inl rfl) (by decide) rfl rfl q245 (Or.inl rfl) (htX7_finish_0 (130, .putfield 88, 3) (gx_m 60 rfl)) ?_
    refine gx_iload (pc := 133) (i := 4) 4 rfl (htX7_finish_0 (133, .iload 4, 2) (gx_m 61 rfl)) ?_
    refine gx_Jcond (pcT := 146) (pcE := 206) (lv2 := [(0, gx_r 8 (some x0)), (1, gx_i x1), (2, gx_i x2), (3, gx_i x3), (4, gx_i x4), (5, gx_i j15.1), (6, gx_i j15.2)]) (st2 := []) ?_ ?_ (fun kk2 hT2 hE2 => ?_)
    · refine gx_iconst (pc := 146) (v := 0) (by decide) (htX7_finish_0 (146, .iconst 0, 1) (gx_m 66 rfl)) ?_
      refine gx_istore (pc := 147) (i := 7) (lv' := [(7, gx_i 0), (0, gx_r 8 (some x0)), (1, gx_i x1), (2, gx_i x2), (3, gx_i x3), (4, gx_i x4), (5, gx_i j15.1), (6, gx_i j15.2)]) (by decide) rfl (htX7_finish_0 (147, .istore 7, 2) (gx_m 67 rfl)) ?_
      refine gx_Jjoin (pcJ := 181) (lvJ := fun (j_3 : Unit) => [(0, gx_r 8 (some x0)), (1, gx_i x1), (2, gx_i x2)]) (stJ := fun (j_3 : Unit) => []) (fun _ => True) (fun j_3 _ => ?_) (fun kk3 hj3 => ?_)
      · refine gx_aload_n (pc := 181) (n := 0) (i := 0) rfl 0 rfl (htX7_finish_0 (181, .aload_n 0, 1) (gx_m 85 rfl)) ?_
        refine gx_iload_n (pc := 182) (n := 1) (i := 1) rfl 1 rfl (htX7_finish_0 (182, .iload_n 1, 1) (gx_m 86 rfl)) ?_
        refine gx_iload_n (pc := 183) (n := 2) (i := 2) rfl 2 rfl (htX7_finish_0 (183, .iload_n 2, 1) (gx_m 87 rfl)) ?_
        refine gx_aload_n (pc := 184) (n := 0) (i := 0) rfl 0 rfl (htX7_finish_0 (184, .aload_n 0, 1) (gx_m 88 rfl)) ?_
        refine gx_Jgs (pc := 185) (ci := 7) (kk := 3) (t2 := 6) (by decide) (by decide) rfl rfl rfl q309 (htX7_finish_0 (185, .getfield 21, 3) (gx_m 89 rfl)) ?_
        refine gx_iload_n (pc := 188) (n := 1) (i := 1) rfl 1 rfl (htX7_finish_0 (188, .iload_n 1, 1) (gx_m 90 rfl)) ?_
        refine gx_Jci (pc := 189) (gx_hst (as := [gx_i x1]) (b := gx_r 6 (some (3 :: x0)))) (gx_runV (as := [gx_i x1]) (ci := 5) (ct_X5_get Y (3 :: x0) x1) (by decide) (Or.inl rfl) rfl rfl rfl rfl q667 q668 q669 q105 q670 rfl dd_X5_get (by decide) (by decide) (Nat.le_of_ble_eq_true rfl) (htX7_finish_0 (189, .invokevirtual 89, 3) (gx_m 91 rfl))) (fun v19 => ?_)
        refine gx_iconst (pc := 192) (v := 2) (by decide) (htX7_finish_0 (192, .iconst 2, 1) (gx_m 92 rfl)) ?_
        refine gx_iconst (pc := 193) (v := 0) (by decide) (htX7_finish_0 (193, .iconst 0, 1) (gx_m 93 rfl)) ?_
        refine gx_aload_n (pc := 194) (n := 0) (i := 0) rfl 0 rfl (htX7_finish_0 (194, .aload_n 0, 1) (gx_m 94 rfl)) ?_
        refine gx_Jgs (pc := 195) (ci := 7) (kk := 6) (t2 := 6) (by decide) (by decide) rfl rfl rfl q312 (htX7_finish_0 (195, .getfield 30, 3) (gx_m 95 rfl)) ?_
        refine gx_iload_n (pc := 198) (n := 1) (i := 1) rfl 1 rfl (htX7_finish_0 (198, .iload_n 1, 1) (gx_m 96 rfl)) ?_
        refine gx_Jci (pc := 199) (gx_hst (as := [gx_i x1]) (b := gx_r 6 (some (6 :: x0)))) (gx_runV (as := [gx_i x1]) (ci := 5) (ct_X5_get Y (6 :: x0) x1) (by decide) (Or.inl rfl) rfl rfl rfl rfl q667 q668 q669 q105 q670 rfl dd_X5_get (by decide) (by decide) (Nat.le_of_ble_eq_true rfl) (htX7_finish_0 (199, .invokevirtual 89, 3) (gx_m 97 rfl))) (fun v20 => ?_)
        refine gx_Jci (pc := 202) (gx_hst (as := [gx_i x1, gx_i x2, gx_i v19, gx_i 2, gx_i 0, gx_i v20]) (b := gx_r 8 (some x0))) (gx_runV (as := [gx_i x1, gx_i x2, gx_i v19, gx_i 2, gx_i 0, gx_i v20]) (ci := 7) (ct_X7_enter Y x0 x1 x2 v19 2 0 v20) (by decide) (Or.inl rfl) rfl rfl rfl rfl q662 q664 qs0 q107 q665 rfl dd_X7_enter (by decide) (by decide) (Nat.le_of_ble_eq_true rfl) (htX7_finish_0 (202, .invokevirtual 77, 3) (gx_m 98 rfl))) (fun v21 => ?_)
        exact gx_Jiret (pc := 205) rfl (fun _ => trivial) (fun _ _ => rfl) (htX7_finish_0 (205, .ireturn, 1) (gx_m 99 rfl))
      · refine gx_Jw (lv := [(0, gx_r 8 (some x0)), (1, gx_i x1), (2, gx_i x2), (7, gx_i 0)]) [1, 2, 3, 0] rfl ?_
        refine gx_Jlp (pc := 149) (lvh := fun (s17 : Int32) => [(0, gx_r 8 (some x0)), (1, gx_i x1), (2, gx_i x2), (7, gx_i s17)]) (fun s17 kl3 ha3 hb3 => ?_) _
        unfold lb_X7_finish_2
        refine gx_iload (pc := 149) (i := 7) 3 rfl (htX7_finish_0 (149, .iload 7, 2) (gx_m 68 rfl)) ?_
        refine gx_iconst (pc := 151) (v := 4) (by decide) (htX7_finish_0 (151, .iconst 4, 1) (gx_m 69 rfl)) ?_
        refine gx_icmp_ge (pc := 152) (tgt := 181) (by decide) (htX7_finish_0 (152, .if_icmp .ge 29, 3) (gx_m 70 rfl)) (fun c4 => ?_) (fun c4 => ?_)
        · refine gx_Jw (lv := [(0, gx_r 8 (some x0)), (1, gx_i x1), (2, gx_i x2)]) [0, 1, 2] rfl ?_
          exact gx_Jout hb3 (hj3 () trivial)
        · refine gx_aload_n (pc := 155) (n := 0) (i := 0) rfl 0 rfl (htX7_finish_0 (155, .aload_n 0, 1) (gx_m 71 rfl)) ?_
          refine gx_Jgs (pc := 156) (ci := 7) (kk := 14) (t2 := 100) (by decide) (by decide) rfl rfl rfl q320 (htX7_finish_0 (156, .getfield 62, 3) (gx_m 72 rfl)) ?_
          refine gx_iload (pc := 159) (i := 7) 3 rfl (htX7_finish_0 (159, .iload 7, 2) (gx_m 73 rfl)) ?_
          refine gx_aload_n (pc := 161) (n := 0) (i := 0) rfl 0 rfl (htX7_finish_0 (161, .aload_n 0, 1) (gx_m 74 rfl)) ?_
          refine gx_Jgs (pc := 162) (ci := 7) (kk := 7) (t2 := 6) (by decide) (by decide) rfl rfl rfl q313 (htX7_finish_0 (162, .getfield 33, 3) (gx_m 75 rfl)) ?_
          refine gx_iconst (pc := 165) (v := 4) (by decide) (htX7_finish_0 (165, .iconst 4, 1) (gx_m 76 rfl)) ?_
          refine gx_iload_n (pc := 166) (n := 1) (i := 1) rfl 1 rfl (htX7_finish_0 (166, .iload_n 1, 1) (gx_m 77 rfl)) ?_
          refine gx_imul (pc := 167) (htX7_finish_0 (167, .imul, 1) (gx_m 78 rfl)) ?_
          refine gx_iload (pc := 168) (i := 7) 3 rfl (htX7_finish_0 (168, .iload 7, 2) (gx_m 79 rfl)) ?_
          refine gx_iadd (pc := 170) (htX7_finish_0 (170, .iadd, 1) (gx_m 80 rfl)) ?_
          refine gx_Jci (pc := 171) (gx_hst (as := [gx_i ((4 * x1) + s17)]) (b := gx_r 6 (some (7 :: x0)))) (gx_runV (as := [gx_i ((4 * x1) + s17)]) (ci := 5) (ct_X5_get Y (7 :: x0) ((4 * x1) + s17)) (by decide) (Or.inl rfl) rfl rfl rfl rfl q667 q668 q669 q105 q670 rfl dd_X5_get (by decide) (by decide) (Nat.le_of_ble_eq_true rfl) (htX7_finish_0 (171, .invokevirtual 89, 3) (gx_m 81 rfl))) (fun v18 => ?_)
          refine gx_Jis (pc := 174) (htX7_finish_0 (174, .iastore, 1) (gx_m 82 rfl)) ?_
          refine gx_iinc (pc := 175) (i := 7) (j := 3) (v := (s17 + 1)) (lv' := [(7, gx_i (s17 + 1)), (0, gx_r 8 (some x0)), (1, gx_i x1), (2, gx_i x2)]) rfl (gx_iv (by decide)) (by decide) rfl (htX7_finish_0 (175, .iinc 7 1, 3) (gx_m 83 rfl)) ?_
          refine gx_goto (pc := 178) (tgt := 149) (by decide) (htX7_finish_0 (178, .goto (-29), 3) (gx_m 84 rfl)) ?_
          refine gx_Jw (lv := [(0, gx_r 8 (some x0)), (1, gx_i x1), (2, gx_i x2), (7, gx_i (s17 + 1))]) [1, 2, 3, 0] rfl ?_
          exact ha3 ((s17 + 1) : Int32)
    · refine gx_iconst (pc := 206) (v := 0) (by decide) (htX7_finish_1 (206, .iconst 0, 1) (gx_m 0 rfl)) ?_
      refine gx_istore (pc := 207) (i := 7) (lv' := [(7, gx_i 0), (0, gx_r 8 (some x0)), (1, gx_i x1), (2, gx_i x2), (3, gx_i x3), (4, gx_i x4), (5, gx_i j15.1), (6, gx_i j15.2)]) (by decide) rfl (htX7_finish_1 (207, .istore 7, 2) (gx_m 1 rfl)) ?_
      refine gx_Jjoin (pcJ := 246) (lvJ := fun (j_5 : Unit) => [(0, gx_r 8 (some x0)), (1, gx_i x1), (2, gx_i x2), (3, gx_i x3), (5, gx_i j15.1)]) (stJ := fun (j_5 : Unit) => []) (fun _ => True) (fun j_5 _ => ?_) (fun kk5 hj5 => ?_)
      · refine gx_aload_n (pc := 246) (n := 0) (i := 0) rfl 0 rfl (htX7_finish_1 (246, .aload_n 0, 1) (gx_m 17 rfl)) ?_
        refine gx_iload_n (pc := 247) (n := 1) (i := 1) rfl 1 rfl (htX7_finish_1 (247, .iload_n 1, 1) (gx_m 18 rfl)) ?_
        refine gx_iload_n (pc := 248) (n := 2) (i := 2) rfl 2 rfl (htX7_finish_1 (248, .iload_n 2, 1) (gx_m 19 rfl)) ?_
        refine gx_aload_n (pc := 249) (n := 0) (i := 0) rfl 0 rfl (htX7_finish_1 (249, .aload_n 0, 1) (gx_m 20 rfl)) ?_
        refine gx_Jgs (pc := 250) (ci := 7) (kk := 3) (t2 := 6) (by decide) (by decide) rfl rfl rfl q309 (htX7_finish_1 (250, .getfield 21, 3) (gx_m 21 rfl)) ?_
        refine gx_iload_n (pc := 253) (n := 1) (i := 1) rfl 1 rfl (htX7_finish_1 (253, .iload_n 1, 1) (gx_m 22 rfl)) ?_
        refine gx_Jci (pc := 254) (gx_hst (as := [gx_i x1]) (b := gx_r 6 (some (3 :: x0)))) (gx_runV (as := [gx_i x1]) (ci := 5) (ct_X5_get Y (3 :: x0) x1) (by decide) (Or.inl rfl) rfl rfl rfl rfl q667 q668 q669 q105 q670 rfl dd_X5_get (by decide) (by decide) (Nat.le_of_ble_eq_true rfl) (htX7_finish_1 (254, .invokevirtual 89, 3) (gx_m 23 rfl))) (fun v26 => ?_)
        refine gx_aload_n (pc := 257) (n := 0) (i := 0) rfl 0 rfl (htX7_finish_1 (257, .aload_n 0, 1) (gx_m 24 rfl)) ?_
        refine gx_Jgi (pc := 258) (ci := 7) (kk := 16) (by decide) (Or.inl rfl) (by decide) (by decide) q322 (htX7_finish_1 (258, .getfield 177, 3) (gx_m 25 rfl)) (fun v27 hv27 => ?_)
        refine gx_Jjoin (pcJ := 269) (lvJ := fun (j28 : Int32) => [(0, gx_r 8 (some x0)), (3, gx_i x3), (5, gx_i j15.1)]) (stJ := fun (j28 : Int32) => [gx_i j28, gx_i v26, gx_i x2, gx_i x1, gx_r 8 (some x0)]) (fun (j28 : Int32) => j28 &&& 1 = j28) (fun j28 hj28 => ?_) (fun kk6 hj6 => ?_)
        · refine gx_iadd (pc := 269) (htX7_finish_1 (269, .iadd, 1) (gx_m 30 rfl)) ?_
          refine gx_iload_n (pc := 270) (n := 3) (i := 3) rfl 1 rfl (htX7_finish_1 (270, .iload_n 3, 1) (gx_m 31 rfl)) ?_
          refine gx_Jjoin (pcJ := 279) (lvJ := fun (j29 : Int32) => [(0, gx_r 8 (some x0)), (5, gx_i j15.1)]) (stJ := fun (j29 : Int32) => [gx_i j29, gx_i (v26 + j28), gx_i x2, gx_i x1, gx_r 8 (some x0)]) (fun (j29 : Int32) => j29 &&& 1 = j29) (fun j29 hj29 => ?_) (fun kk7 hj7 => ?_)
          · refine gx_aload_n (pc := 279) (n := 0) (i := 0) rfl 0 rfl (htX7_finish_1 (279, .aload_n 0, 1) (gx_m 36 rfl)) ?_
            refine gx_Jgi (pc := 280) (ci := 7) (kk := 15) (by decide) (Or.inl rfl) (by decide) (by decide) q321 (htX7_finish_1 (280, .getfield 174, 3) (gx_m 37 rfl)) (fun v30 hv30 => ?_)
            refine gx_iload (pc := 283) (i := 5) 1 rfl (htX7_finish_1 (283, .iload 5, 2) (gx_m 38 rfl)) ?_
            refine gx_Jci (pc := 285) (gx_hst (as := [gx_i x1, gx_i x2, gx_i (v26 + j28), gx_i j29, gx_i v30, gx_i j15.1]) (b := gx_r 8 (some x0))) (gx_runV (as := [gx_i x1, gx_i x2, gx_i (v26 + j28), gx_i j29, gx_i v30, gx_i j15.1]) (ci := 7) (ct_X7_enter Y x0 x1 x2 (v26 + j28) j29 v30 j15.1) (by decide) (Or.inl rfl) rfl rfl rfl rfl q662 q664 qs0 q107 q665 rfl dd_X7_enter (by decide) (by decide) (Nat.le_of_ble_eq_true rfl) (htX7_finish_1 (285, .invokevirtual 77, 3) (gx_m 39 rfl))) (fun v31 => ?_)
            exact gx_Jiret (pc := 288) rfl (fun _ => trivial) (fun _ _ => rfl) (htX7_finish_1 (288, .ireturn, 1) (gx_m 40 rfl))
          · refine gx_if_eq (pc := 271) (y := 0) (tgt := 278) (by decide) (htX7_finish_1 (271, .ifCond .eq 7, 3) (gx_m 32 rfl)) (fun c8 => ?_) (fun c8 => ?_)
            · refine gx_iconst (pc := 278) (v := 0) (by decide) (htX7_finish_1 (278, .iconst 0, 1) (gx_m 35 rfl)) ?_
              refine gx_Jw (lv := [(0, gx_r 8 (some x0)), (5, gx_i j15.1)]) [0, 2] rfl ?_
              exact hj7 (0 : Int32) gx_b0
            · refine gx_iconst (pc := 274) (v := 1) (by decide) (htX7_finish_1 (274, .iconst 1, 1) (gx_m 33 rfl)) ?_
              refine gx_goto (pc := 275) (tgt := 279) (by decide) (htX7_finish_1 (275, .goto 4, 3) (gx_m 34 rfl)) ?_
              refine gx_Jw (lv := [(0, gx_r 8 (some x0)), (5, gx_i j15.1)]) [0, 2] rfl ?_
              exact hj7 (1 : Int32) gx_b1
        · refine gx_if_eq (pc := 261) (y := 0) (tgt := 268) (by decide) (htX7_finish_1 (261, .ifCond .eq 7, 3) (gx_m 26 rfl)) (fun c9 => ?_) (fun c9 => ?_)
          · refine gx_iconst (pc := 268) (v := 0) (by decide) (htX7_finish_1 (268, .iconst 0, 1) (gx_m 29 rfl)) ?_
            refine gx_Jw (lv := [(0, gx_r 8 (some x0)), (3, gx_i x3), (5, gx_i j15.1)]) [0, 3, 4] rfl ?_
            exact hj6 (0 : Int32) gx_b0
          · refine gx_iconst (pc := 264) (v := 1) (by decide) (htX7_finish_1 (264, .iconst 1, 1) (gx_m 27 rfl)) ?_
            refine gx_goto (pc := 265) (tgt := 269) (by decide) (htX7_finish_1 (265, .goto 4, 3) (gx_m 28 rfl)) ?_
            refine gx_Jw (lv := [(0, gx_r 8 (some x0)), (3, gx_i x3), (5, gx_i j15.1)]) [0, 3, 4] rfl ?_
            exact hj6 (1 : Int32) gx_b1
      · refine gx_Jw (lv := [(0, gx_r 8 (some x0)), (1, gx_i x1), (2, gx_i x2), (3, gx_i x3), (5, gx_i j15.1), (7, gx_i 0)]) [1, 2, 3, 4, 6, 0] rfl ?_
        refine gx_Jlp (pc := 209) (lvh := fun (s22 : Int32) => [(0, gx_r 8 (some x0)), (1, gx_i x1), (2, gx_i x2), (3, gx_i x3), (5, gx_i j15.1), (7, gx_i s22)]) (fun s22 kl5 ha5 hb5 => ?_) _
        unfold lb_X7_finish_3
        refine gx_iload (pc := 209) (i := 7) 5 rfl (htX7_finish_1 (209, .iload 7, 2) (gx_m 2 rfl)) ?_
        refine gx_aload_n (pc := 211) (n := 0) (i := 0) rfl 0 rfl (htX7_finish_1 (211, .aload_n 0, 1) (gx_m 3 rfl)) ?_
        refine gx_Jgs (pc := 212) (ci := 7) (kk := 12) (t2 := 9) (by decide) (by decide) rfl rfl rfl q318 (htX7_finish_1 (212, .getfield 52, 3) (gx_m 4 rfl)) ?_
        refine gx_Jgi (pc := 215) (ci := 8) (kk := 1) (by decide) (Or.inl rfl) (by decide) (by decide) q245 (htX7_finish_1 (215, .getfield 88, 3) (gx_m 5 rfl)) (fun v23 hv23 => ?_)
        refine gx_icmp_ge (pc := 218) (tgt := 246) (by decide) (htX7_finish_1 (218, .if_icmp .ge 28, 3) (gx_m 6 rfl)) (fun c10 => ?_) (fun c10 => ?_)
        · refine gx_Jw (lv := [(0, gx_r 8 (some x0)), (1, gx_i x1), (2, gx_i x2), (3, gx_i x3), (5, gx_i j15.1)]) [0, 1, 2, 3, 4] rfl ?_
          exact gx_Jout hb5 (hj5 () trivial)
        · refine gx_aload_n (pc := 221) (n := 0) (i := 0) rfl 0 rfl (htX7_finish_1 (221, .aload_n 0, 1) (gx_m 7 rfl)) ?_
          refine gx_Jgs (pc := 222) (ci := 7) (kk := 9) (t2 := 9) (by decide) (by decide) rfl rfl rfl q315 (htX7_finish_1 (222, .getfield 42, 3) (gx_m 8 rfl)) ?_
          refine gx_Jcr (pc := 225) (t2 := 10) (gx_hst (as := []) (b := gx_r 9 (some (9 :: x0)))) (gx_runV (as := []) (ci := 8) (ct_X8_add Y (9 :: x0)) (by decide) (Or.inl rfl) rfl rfl rfl rfl q1344 q1345 q1346 q108 q1347 rfl dd_X8_add (by decide) (by decide) (Nat.le_of_ble_eq_true rfl) (htX7_finish_1 (225, .invokevirtual 144, 3) (gx_m 9 rfl))) (fun v24 => ?_)
          refine gx_aload_n (pc := 228) (n := 0) (i := 0) rfl 0 rfl (htX7_finish_1 (228, .aload_n 0, 1) (gx_m 10 rfl)) ?_
          refine gx_Jgs (pc := 229) (ci := 7) (kk := 12) (t2 := 9) (by decide) (by decide) rfl rfl rfl q318 (htX7_finish_1 (229, .getfield 52, 3) (gx_m 11 rfl)) ?_
          refine gx_iload (pc := 232) (i := 7) 5 rfl (htX7_finish_1 (232, .iload 7, 2) (gx_m 12 rfl)) ?_
          refine gx_Jcr (pc := 234) (t2 := 10) (gx_hst (as := [gx_i s22]) (b := gx_r 9 (some (12 :: x0)))) (gx_runV (as := [gx_i s22]) (ci := 8) (ct_X8_get Y (12 :: x0) s22) (by decide) (Or.inl rfl) rfl rfl rfl rfl q1308 q1309 q1310 q108 q1311 rfl dd_X8_get (by decide) (by decide) (Nat.le_of_ble_eq_true rfl) (htX7_finish_1 (234, .invokevirtual 104, 3) (gx_m 13 rfl))) (fun v25 => ?_)
          refine gx_Jcv (pc := 237) (gx_hst (as := [gx_r 10 (some v25)]) (b := gx_r 10 (some v24))) (gx_runV (as := [gx_r 10 (some v25)]) (ci := 9) (ct_X9_copy Y v24 v25) (by decide) (Or.inl rfl) rfl rfl rfl rfl q1336 q1337 q1338 q109 q1339 rfl dd_X9_copy (by decide) (by decide) (Nat.le_of_ble_eq_true rfl) (htX7_finish_1 (237, .invokevirtual 137, 3) (gx_m 14 rfl))) ?_
          refine gx_iinc (pc := 240) (i := 7) (j := 5) (v := (s22 + 1)) (lv' := [(7, gx_i (s22 + 1)), (0, gx_r 8 (some x0)), (1, gx_i x1), (2, gx_i x2), (3, gx_i x3), (5, gx_i j15.1)]) rfl (gx_iv (by decide)) (by decide) rfl (htX7_finish_1 (240, .iinc 7 1, 3) (gx_m 15 rfl)) ?_
          refine gx_goto (pc := 243) (tgt := 209) (by decide) (htX7_finish_1 (243, .goto (-34), 3) (gx_m 16 rfl)) ?_
          refine gx_Jw (lv := [(0, gx_r 8 (some x0)), (1, gx_i x1), (2, gx_i x2), (3, gx_i x3), (5, gx_i j15.1), (7, gx_i (s22 + 1))]) [1, 2, 3, 4, 5, 0] rfl ?_
          exact ha5 ((s22 + 1) : Int32)
    · refine gx_if_eq (pc := 135) (y := 0) (tgt := 146) (by decide) (htX7_finish_0 (135, .ifCond .eq 11, 3) (gx_m 62 rfl)) (fun c11 => ?_) (fun c11 => ?_)
      · exact hT2
      · refine gx_iload (pc := 138) (i := 5) 5 rfl (htX7_finish_0 (138, .iload 5, 2) (gx_m 63 rfl)) ?_
        refine gx_sipush (pc := 140) (v := 200) (by decide) (htX7_finish_0 (140, .sipush 200, 3) (gx_m 64 rfl)) ?_
        refine gx_icmp_le (pc := 143) (tgt := 206) (by decide) (htX7_finish_0 (143, .if_icmp .le 63, 3) (gx_m 65 rfl)) (fun c12 => ?_) (fun c12 => ?_)
        · exact hE2
        · exact hT2
  · refine gx_Jw (lv := [(0, gx_r 8 (some x0)), (1, gx_i x1), (2, gx_i x2), (3, gx_i x3), (4, gx_i x4), (5, gx_i v1), (6, gx_i 0), (7, gx_i 0)]) [3, 4, 5, 6, 7, 2, 1, 0] rfl ?_
    refine gx_Jlp (pc := 16) (lvh := fun (s2 : Int32 × Int32 × Int32) => [(0, gx_r 8 (some x0)), (1, gx_i x1), (2, gx_i x2), (3, gx_i x3), (4, gx_i x4), (5, gx_i s2.1), (6, gx_i s2.2.1), (7, gx_i s2.2.2)]) (fun s2 kl1 ha1 hb1 => ?_) _
    unfold lb_X7_finish_1
    refine gx_iload (pc := 16) (i := 7) 7 rfl (htX7_finish_0 (16, .iload 7, 2) (gx_m 9 rfl)) ?_
    refine gx_aload_n (pc := 18) (n := 0) (i := 0) rfl 0 rfl (htX7_finish_0 (18, .aload_n 0, 1) (gx_m 10 rfl)) ?_
    refine gx_Jgs (pc := 19) (ci := 7) (kk := 12) (t2 := 9) (by decide) (by decide) rfl rfl rfl q318 (htX7_finish_0 (19, .getfield 52, 3) (gx_m 11 rfl)) ?_
    refine gx_Jgi (pc := 22) (ci := 8) (kk := 1) (by decide) (Or.inl rfl) (by decide) (by decide) q245 (htX7_finish_0 (22, .getfield 88, 3) (gx_m 12 rfl)) (fun v3 hv3 => ?_)
    refine gx_icmp_ge (pc := 25) (tgt := 124) (by decide) (htX7_finish_0 (25, .if_icmp .ge 99, 3) (gx_m 13 rfl)) (fun c13 => ?_) (fun c13 => ?_)
    · refine gx_Jw (lv := [(0, gx_r 8 (some x0)), (1, gx_i x1), (2, gx_i x2), (3, gx_i x3), (4, gx_i x4), (5, gx_i s2.1), (6, gx_i s2.2.1)]) [0, 1, 2, 3, 4, 5, 6] rfl ?_
      exact gx_Jout hb1 (hj1 ((s2.1 : Int32), (s2.2.1 : Int32)) trivial)
    · refine gx_aload_n (pc := 28) (n := 0) (i := 0) rfl 0 rfl (htX7_finish_0 (28, .aload_n 0, 1) (gx_m 14 rfl)) ?_
      refine gx_Jgs (pc := 29) (ci := 7) (kk := 12) (t2 := 9) (by decide) (by decide) rfl rfl rfl q318 (htX7_finish_0 (29, .getfield 52, 3) (gx_m 15 rfl)) ?_
      refine gx_iload (pc := 32) (i := 7) 7 rfl (htX7_finish_0 (32, .iload 7, 2) (gx_m 16 rfl)) ?_
      refine gx_Jcr (pc := 34) (t2 := 10) (gx_hst (as := [gx_i s2.2.2]) (b := gx_r 9 (some (12 :: x0)))) (gx_runV (as := [gx_i s2.2.2]) (ci := 8) (ct_X8_get Y (12 :: x0) s2.2.2) (by decide) (Or.inl rfl) rfl rfl rfl rfl q1308 q1309 q1310 q108 q1311 rfl dd_X8_get (by decide) (by decide) (Nat.le_of_ble_eq_true rfl) (htX7_finish_0 (34, .invokevirtual 104, 3) (gx_m 17 rfl))) (fun v4 => ?_)
      refine gx_astore (pc := 37) (i := 8) (lv' := [(8, gx_r 10 (some v4)), (0, gx_r 8 (some x0)), (1, gx_i x1), (2, gx_i x2), (3, gx_i x3), (4, gx_i x4), (5, gx_i s2.1), (6, gx_i s2.2.1), (7, gx_i s2.2.2)]) (by decide) rfl (htX7_finish_0 (37, .astore 8, 2) (gx_m 18 rfl)) ?_
      refine gx_aload_n (pc := 39) (n := 0) (i := 0) rfl 1 rfl (htX7_finish_0 (39, .aload_n 0, 1) (gx_m 19 rfl)) ?_
      refine gx_iload_n (pc := 40) (n := 1) (i := 1) rfl 2 rfl (htX7_finish_0 (40, .iload_n 1, 1) (gx_m 20 rfl)) ?_
      refine gx_aload (pc := 41) (i := 8) 0 rfl (htX7_finish_0 (41, .aload 8, 2) (gx_m 21 rfl)) ?_
      refine gx_Jgi (pc := 43) (ci := 9) (kk := 0) (by decide) (Or.inl rfl) (by decide) (by decide) q259 (htX7_finish_0 (43, .getfield 113, 3) (gx_m 22 rfl)) (fun v5 hv5 => ?_)
      refine gx_aload (pc := 46) (i := 8) 0 rfl (htX7_finish_0 (46, .aload 8, 2) (gx_m 23 rfl)) ?_
      refine gx_Jgi (pc := 48) (ci := 9) (kk := 1) (by decide) (Or.inl rfl) (by decide) (by decide) q262 (htX7_finish_0 (48, .getfield 116, 3) (gx_m 24 rfl)) (fun v6 hv6 => ?_)
      refine gx_Jco (pc := 51) (t2 := 10) (gx_hst (as := [gx_i x1, gx_i v5, gx_i v6]) (b := gx_r 8 (some x0))) (gx_runV (as := [gx_i x1, gx_i v5, gx_i v6]) (ci := 7) (ct_X7_find Y x0 x1 v5 v6) (by decide) (Or.inl rfl) rfl rfl rfl rfl q1300 q1301 q1302 q107 q1303 rfl dd_X7_find (by decide) (by decide) (Nat.le_of_ble_eq_true rfl) (htX7_finish_0 (51, .invokevirtual 148, 3) (gx_m 25 rfl))) (fun v7 => ?_)
      refine gx_astore (pc := 54) (i := 9) (lv' := [(9, gx_r 10 v7), (8, gx_r 10 (some v4)), (0, gx_r 8 (some x0)), (1, gx_i x1), (2, gx_i x2), (3, gx_i x3), (4, gx_i x4), (5, gx_i s2.1), (6, gx_i s2.2.1), (7, gx_i s2.2.2)]) (by decide) rfl (htX7_finish_0 (54, .astore 9, 2) (gx_m 26 rfl)) ?_
      refine gx_iload (pc := 56) (i := 5) 7 rfl (htX7_finish_0 (56, .iload 5, 2) (gx_m 27 rfl)) ?_
      refine gx_aload (pc := 58) (i := 8) 1 rfl (htX7_finish_0 (58, .aload 8, 2) (gx_m 28 rfl)) ?_
      refine gx_Jgi (pc := 60) (ci := 9) (kk := 2) (by decide) (Or.inl rfl) (by decide) (by decide) q265 (htX7_finish_0 (60, .getfield 125, 3) (gx_m 29 rfl)) (fun v8 hv8 => ?_)
      refine gx_Jjoin (pcJ := 71) (lvJ := fun (j9 : Int32) => [(0, gx_r 8 (some x0)), (1, gx_i x1), (2, gx_i x2), (3, gx_i x3), (4, gx_i x4), (6, gx_i s2.2.1), (7, gx_i s2.2.2), (8, gx_r 10 (some v4)), (9, gx_r 10 v7)]) (stJ := fun (j9 : Int32) => [gx_i j9, gx_i s2.1]) (fun (j9 : Int32) => j9 &&& 1 = j9) (fun j9 hj9 => ?_) (fun kk14 hj14 => ?_)
      · refine gx_aload (pc := 71) (i := 9) 8 rfl (htX7_finish_0 (71, .aload 9, 2) (gx_m 34 rfl)) ?_
        refine gx_Jjoin (pcJ := 81) (lvJ := fun (j10 : Int32) => [(0, gx_r 8 (some x0)), (1, gx_i x1), (2, gx_i x2), (3, gx_i x3), (4, gx_i x4), (6, gx_i s2.2.1), (7, gx_i s2.2.2), (8, gx_r 10 (some v4)), (9, gx_r 10 v7)]) (stJ := fun (j10 : Int32) => [gx_i j10, gx_i j9, gx_i s2.1]) (fun (j10 : Int32) => j10 &&& 1 = j10) (fun j10 hj10 => ?_) (fun kk15 hj15 => ?_)
        · refine gx_isub (pc := 81) (htX7_finish_0 (81, .isub, 1) (gx_m 39 rfl)) ?_
          refine gx_iadd (pc := 82) (htX7_finish_0 (82, .iadd, 1) (gx_m 40 rfl)) ?_
          refine gx_istore (pc := 83) (i := 5) (lv' := [(5, gx_i (s2.1 + (j9 - j10))), (0, gx_r 8 (some x0)), (1, gx_i x1), (2, gx_i x2), (3, gx_i x3), (4, gx_i x4), (6, gx_i s2.2.1), (7, gx_i s2.2.2), (8, gx_r 10 (some v4)), (9, gx_r 10 v7)]) (by decide) rfl (htX7_finish_0 (83, .istore 5, 2) (gx_m 41 rfl)) ?_
          refine gx_aload (pc := 85) (i := 8) 8 rfl (htX7_finish_0 (85, .aload 8, 2) (gx_m 42 rfl)) ?_
          refine gx_Jgi (pc := 87) (ci := 9) (kk := 2) (by decide) (Or.inl rfl) (by decide) (by decide) q265 (htX7_finish_0 (87, .getfield 125, 3) (gx_m 43 rfl)) (fun v11 hv11 => ?_)
          refine gx_Jjoin (pcJ := 118) (lvJ := fun (j14 : Int32) => [(0, gx_r 8 (some x0)), (1, gx_i x1), (2, gx_i x2), (3, gx_i x3), (4, gx_i x4), (5, gx_i (s2.1 + (j9 - j10))), (6, gx_i j14), (7, gx_i s2.2.2)]) (stJ := fun (j14 : Int32) => []) (fun _ => True) (fun j14 hj14 => ?_) (fun kk16 hj16 => ?_)
          · refine gx_iinc (pc := 118) (i := 7) (j := 7) (v := (s2.2.2 + 1)) (lv' := [(7, gx_i (s2.2.2 + 1)), (0, gx_r 8 (some x0)), (1, gx_i x1), (2, gx_i x2), (3, gx_i x3), (4, gx_i x4), (5, gx_i (s2.1 + (j9 - j10))), (6, gx_i j14)]) rfl (gx_iv (by decide)) (by decide) rfl (htX7_finish_0 (118, .iinc 7 1, 3) (gx_m 55 rfl)) ?_
            refine gx_goto (pc := 121) (tgt := 16) (by decide) (htX7_finish_0 (121, .goto (-105), 3) (gx_m 56 rfl)) ?_
            refine gx_Jw (lv := [(0, gx_r 8 (some x0)), (1, gx_i x1), (2, gx_i x2), (3, gx_i x3), (4, gx_i x4), (5, gx_i (s2.1 + (j9 - j10))), (6, gx_i j14), (7, gx_i (s2.2.2 + 1))]) [1, 2, 3, 4, 5, 6, 7, 0] rfl ?_
            exact ha1 (((s2.1 + (j9 - j10)) : Int32), (j14 : Int32), ((s2.2.2 + 1) : Int32))
          · refine gx_Jcond (pcT := 98) (pcE := 101) (lv2 := [(5, gx_i (s2.1 + (j9 - j10))), (0, gx_r 8 (some x0)), (1, gx_i x1), (2, gx_i x2), (3, gx_i x3), (4, gx_i x4), (6, gx_i s2.2.1), (7, gx_i s2.2.2), (8, gx_r 10 (some v4)), (9, gx_r 10 v7)]) (st2 := []) ?_ ?_ (fun kk17 hT17 hE17 => ?_)
            · refine gx_goto (pc := 98) (tgt := 118) (by decide) (htX7_finish_0 (98, .goto 20, 3) (gx_m 47 rfl)) ?_
              refine gx_Jw (lv := [(0, gx_r 8 (some x0)), (1, gx_i x1), (2, gx_i x2), (3, gx_i x3), (4, gx_i x4), (5, gx_i (s2.1 + (j9 - j10))), (6, gx_i s2.2.1), (7, gx_i s2.2.2)]) [1, 2, 3, 4, 5, 0, 6, 7] rfl ?_
              exact hj16 (s2.2.1 : Int32) trivial
            · refine gx_aload_n (pc := 101) (n := 0) (i := 0) rfl 1 rfl (htX7_finish_0 (101, .aload_n 0, 1) (gx_m 48 rfl)) ?_
              refine gx_Jgs (pc := 102) (ci := 7) (kk := 12) (t2 := 9) (by decide) (by decide) rfl rfl rfl q318 (htX7_finish_0 (102, .getfield 52, 3) (gx_m 49 rfl)) ?_
              refine gx_iload (pc := 105) (i := 6) 6 rfl (htX7_finish_0 (105, .iload 6, 2) (gx_m 50 rfl)) ?_
              refine gx_Jcr (pc := 107) (t2 := 10) (gx_hst (as := [gx_i s2.2.1]) (b := gx_r 9 (some (12 :: x0)))) (gx_runV (as := [gx_i s2.2.1]) (ci := 8) (ct_X8_get Y (12 :: x0) s2.2.1) (by decide) (Or.inl rfl) rfl rfl rfl rfl q1308 q1309 q1310 q108 q1311 rfl dd_X8_get (by decide) (by decide) (Nat.le_of_ble_eq_true rfl) (htX7_finish_0 (107, .invokevirtual 104, 3) (gx_m 51 rfl))) (fun v13 => ?_)
              refine gx_aload (pc := 110) (i := 8) 8 rfl (htX7_finish_0 (110, .aload 8, 2) (gx_m 52 rfl)) ?_
              refine gx_Jcv (pc := 112) (gx_hst (as := [gx_r 10 (some v4)]) (b := gx_r 10 (some v13))) (gx_runV (as := [gx_r 10 (some v4)]) (ci := 9) (ct_X9_copy Y v13 v4) (by decide) (Or.inl rfl) rfl rfl rfl rfl q1336 q1337 q1338 q109 q1339 rfl dd_X9_copy (by decide) (by decide) (Nat.le_of_ble_eq_true rfl) (htX7_finish_0 (112, .invokevirtual 137, 3) (gx_m 53 rfl))) ?_
              refine gx_iinc (pc := 115) (i := 6) (j := 6) (v := (s2.2.1 + 1)) (lv' := [(6, gx_i (s2.2.1 + 1)), (5, gx_i (s2.1 + (j9 - j10))), (0, gx_r 8 (some x0)), (1, gx_i x1), (2, gx_i x2), (3, gx_i x3), (4, gx_i x4), (7, gx_i s2.2.2), (8, gx_r 10 (some v4)), (9, gx_r 10 v7)]) rfl (gx_iv (by decide)) (by decide) rfl (htX7_finish_0 (115, .iinc 6 1, 3) (gx_m 54 rfl)) ?_
              refine gx_Jw (lv := [(0, gx_r 8 (some x0)), (1, gx_i x1), (2, gx_i x2), (3, gx_i x3), (4, gx_i x4), (5, gx_i (s2.1 + (j9 - j10))), (6, gx_i (s2.2.1 + 1)), (7, gx_i s2.2.2)]) [2, 3, 4, 5, 6, 1, 0, 7] rfl ?_
              exact hj16 ((s2.2.1 + 1) : Int32) trivial
            · refine gx_if_ne (pc := 90) (y := 0) (tgt := 101) (by decide) (htX7_finish_0 (90, .ifCond .ne 11, 3) (gx_m 44 rfl)) (fun c18 => ?_) (fun c18 => ?_)
              · refine gx_aload (pc := 93) (i := 9) 9 rfl (htX7_finish_0 (93, .aload 9, 2) (gx_m 45 rfl)) ?_
                refine gx_ifnonnull (pc := 95) (tgt := 101) (by decide) (htX7_finish_0 (95, .ifnonnull 6, 3) (gx_m 46 rfl)) (fun c19 => ?_) (fun c19 => ?_)
                · exact hT17
                · exact hE17
              · exact hE17
        · refine gx_ifnonnull (pc := 73) (tgt := 80) (by decide) (htX7_finish_0 (73, .ifnonnull 7, 3) (gx_m 35 rfl)) (fun c20 => ?_) (fun c20 => ?_)
          · refine gx_iconst (pc := 76) (v := 0) (by decide) (htX7_finish_0 (76, .iconst 0, 1) (gx_m 36 rfl)) ?_
            refine gx_goto (pc := 77) (tgt := 81) (by decide) (htX7_finish_0 (77, .goto 4, 3) (gx_m 37 rfl)) ?_
            exact hj15 (0 : Int32) gx_b0
          · refine gx_iconst (pc := 80) (v := 1) (by decide) (htX7_finish_0 (80, .iconst 1, 1) (gx_m 38 rfl)) ?_
            exact hj15 (1 : Int32) gx_b1
      · refine gx_if_eq (pc := 63) (y := 0) (tgt := 70) (by decide) (htX7_finish_0 (63, .ifCond .eq 7, 3) (gx_m 30 rfl)) (fun c21 => ?_) (fun c21 => ?_)
        · refine gx_iconst (pc := 70) (v := 0) (by decide) (htX7_finish_0 (70, .iconst 0, 1) (gx_m 33 rfl)) ?_
          refine gx_Jw (lv := [(0, gx_r 8 (some x0)), (1, gx_i x1), (2, gx_i x2), (3, gx_i x3), (4, gx_i x4), (6, gx_i s2.2.1), (7, gx_i s2.2.2), (8, gx_r 10 (some v4)), (9, gx_r 10 v7)]) [2, 3, 4, 5, 6, 8, 9, 1, 0] rfl ?_
          exact hj14 (0 : Int32) gx_b0
        · refine gx_iconst (pc := 66) (v := 1) (by decide) (htX7_finish_0 (66, .iconst 1, 1) (gx_m 31 rfl)) ?_
          refine gx_goto (pc := 67) (tgt := 71) (by decide) (htX7_finish_0 (67, .goto 4, 3) (gx_m 32 rfl)) ?_
          refine gx_Jw (lv := [(0, gx_r 8 (some x0)), (1, gx_i x1), (2, gx_i x2), (3, gx_i x3), (4, gx_i x4), (6, gx_i s2.2.1), (7, gx_i s2.2.2), (8, gx_r 10 (some v4)), (9, gx_r 10 v7)]) [2, 3, 4, 5, 6, 8, 9, 1, 0] rfl ?_
          exact hj14 (1 : Int32) gx_b1
theorem ct_X7_apply (Y : gx_Y) (x0 : gx_Nm) (x1 : Int32) (x2 : Int32) : gx_Ct Y yX7_apply (ws_ yX7_apply cX7_apply 7 (some .int)) 7 258 [gx_r 8 (some x0), gx_i x1, gx_i x2] gx_Oi (f_X7_apply x0 x1 x2) := by
  refine gx_start (lv := [(0, gx_r 8 (some x0)), (1, gx_i x1), (2, gx_i x2)]) gx_Oi_r pn_X7 (Nat.le_of_ble_eq_true rfl) rfl ?_
  unfold f_X7_apply
  refine gx_aload_n (pc := 0) (n := 0) (i := 0) rfl 0 rfl (htX7_apply_0 (0, .aload_n 0, 1) (gx_m 0 rfl)) ?_
  refine gx_Jgs (pc := 1) (ci := 7) (kk := 10) (t2 := 6) (by decide) (by decide) rfl rfl rfl q316 (htX7_apply_0 (1, .getfield 46, 3) (gx_m 1 rfl)) ?_
  refine gx_iload_n (pc := 4) (n := 1) (i := 1) rfl 1 rfl (htX7_apply_0 (4, .iload_n 1, 1) (gx_m 2 rfl)) ?_
  refine gx_Jci (pc := 5) (gx_hst (as := [gx_i x1]) (b := gx_r 6 (some (10 :: x0)))) (gx_runV (as := [gx_i x1]) (ci := 5) (ct_X5_get Y (10 :: x0) x1) (by decide) (Or.inl rfl) rfl rfl rfl rfl q667 q668 q669 q105 q670 rfl dd_X5_get (by decide) (by decide) (Nat.le_of_ble_eq_true rfl) (htX7_apply_0 (5, .invokevirtual 89, 3) (gx_m 3 rfl))) (fun v1 => ?_)
  refine gx_istore_n (pc := 8) (n := 3) (i := 3) (lv' := [(3, gx_i v1), (0, gx_r 8 (some x0)), (1, gx_i x1), (2, gx_i x2)]) rfl (by decide) rfl (htX7_apply_0 (8, .istore_n 3, 1) (gx_m 4 rfl)) ?_
  refine gx_JjoinE (pcJ := 39) (lvJ := fun (j_1 : Unit) => [(0, gx_r 8 (some x0)), (1, gx_i x1), (2, gx_i x2)]) (stJ := fun (j_1 : Unit) => []) (gr := fun r => gx_rt r) (fun _ => rfl) (fun _ => rfl) (fun j_1 => ?_) (fun kk1 hj1 he1 => ?_)
  · refine gx_iconst (pc := 39) (v := 1) (by decide) (htX7_apply_0 (39, .iconst 1, 1) (gx_m 21 rfl)) ?_
    refine gx_istore_n (pc := 40) (n := 3) (i := 3) (lv' := [(3, gx_i 1), (0, gx_r 8 (some x0)), (1, gx_i x1), (2, gx_i x2)]) rfl (by decide) rfl (htX7_apply_0 (40, .istore_n 3, 1) (gx_m 22 rfl)) ?_
    refine gx_aload_n (pc := 41) (n := 0) (i := 0) rfl 1 rfl (htX7_apply_0 (41, .aload_n 0, 1) (gx_m 23 rfl)) ?_
    refine gx_Jgs (pc := 42) (ci := 7) (kk := 0) (t2 := 4) (by decide) (by decide) rfl rfl rfl q306 (htX7_apply_0 (42, .getfield 69, 3) (gx_m 24 rfl)) ?_
    refine gx_iload_n (pc := 45) (n := 2) (i := 2) rfl 3 rfl (htX7_apply_0 (45, .iload_n 2, 1) (gx_m 25 rfl)) ?_
    refine gx_iconst (pc := 46) (v := 0) (by decide) (htX7_apply_0 (46, .iconst 0, 1) (gx_m 26 rfl)) ?_
    refine gx_Jci (pc := 47) (gx_hst (as := [gx_i x2, gx_i 0]) (b := gx_r 4 (some [0, 0, 1]))) (gx_runV (as := [gx_i x2, gx_i 0]) (ci := 3) (ct_X3_begin Y [0, 0, 1] x2 0) (by decide) (Or.inl rfl) rfl rfl rfl rfl q1284 q1285 q1286 q103 q1287 rfl dd_X3_begin (by decide) (by decide) (Nat.le_of_ble_eq_true rfl) (htX7_apply_0 (47, .invokevirtual 164, 3) (gx_m 27 rfl))) (fun v7 => ?_)
    refine gx_istore (pc := 50) (i := 4) (lv' := [(4, gx_i v7), (3, gx_i 1), (0, gx_r 8 (some x0)), (1, gx_i x1), (2, gx_i x2)]) (by decide) rfl (htX7_apply_0 (50, .istore 4, 2) (gx_m 28 rfl)) ?_
    refine gx_Jjoin (pcJ := 92) (lvJ := fun (j12 : Int32) => [(0, gx_r 8 (some x0)), (1, gx_i x1), (2, gx_i x2), (3, gx_i j12)]) (stJ := fun (j12 : Int32) => []) (fun _ => True) (fun j12 _ => ?_) (fun kk2 hj2 => ?_)
    · refine gx_iconst (pc := 92) (v := 0) (by decide) (htX7_apply_0 (92, .iconst 0, 1) (gx_m 49 rfl)) ?_
      refine gx_istore (pc := 93) (i := 4) (lv' := [(4, gx_i 0), (0, gx_r 8 (some x0)), (1, gx_i x1), (2, gx_i x2), (3, gx_i j12)]) (by decide) rfl (htX7_apply_0 (93, .istore 4, 2) (gx_m 50 rfl)) ?_
      refine gx_Jjoin (pcJ := 127) (lvJ := fun (j_3 : Unit) => [(0, gx_r 8 (some x0)), (1, gx_i x1), (2, gx_i x2), (3, gx_i j12)]) (stJ := fun (j_3 : Unit) => []) (fun _ => True) (fun j_3 _ => ?_) (fun kk3 hj3 => ?_)
      · refine gx_aload_n (pc := 127) (n := 0) (i := 0) rfl 0 rfl (htX7_apply_0 (127, .aload_n 0, 1) (gx_m 68 rfl)) ?_
        refine gx_Jgs (pc := 128) (ci := 7) (kk := 12) (t2 := 9) (by decide) (by decide) rfl rfl rfl q318 (htX7_apply_0 (128, .getfield 52, 3) (gx_m 69 rfl)) ?_
        refine gx_Jcv (pc := 131) (gx_hst (as := []) (b := gx_r 9 (some (12 :: x0)))) (gx_runV (as := []) (ci := 8) (ct_X8_clear Y (12 :: x0)) (by decide) (Or.inl rfl) rfl rfl rfl rfl q658 q659 q660 q108 q661 rfl dd_X8_clear (by decide) (by decide) (Nat.le_of_ble_eq_true rfl) (htX7_apply_0 (131, .invokevirtual 76, 3) (gx_m 70 rfl))) ?_
        refine gx_aload_n (pc := 134) (n := 0) (i := 0) rfl 0 rfl (htX7_apply_0 (134, .aload_n 0, 1) (gx_m 71 rfl)) ?_
        refine gx_iconst (pc := 135) (v := 0) (by decide) (htX7_apply_0 (135, .iconst 0, 1) (gx_m 72 rfl)) ?_
        refine gx_Jpi (pc := 136) (ci := 7) (kk := 15) (by decide) (Or.inl rfl) (by decide) rfl rfl q321 (Or.inl rfl) (htX7_apply_0 (136, .putfield 174, 3) (gx_m 73 rfl)) ?_
        refine gx_aload_n (pc := 139) (n := 0) (i := 0) rfl 0 rfl (htX7_apply_0 (139, .aload_n 0, 1) (gx_m 74 rfl)) ?_
        refine gx_iconst (pc := 140) (v := 0) (by decide) (htX7_apply_0 (140, .iconst 0, 1) (gx_m 75 rfl)) ?_
        refine gx_Jpz (pc := 141) (ci := 7) (kk := 16) (by decide) (Or.inl rfl) (by decide) rfl rfl gx_b0 q322 (Or.inl rfl) (htX7_apply_0 (141, .putfield 177, 3) (gx_m 76 rfl)) ?_
        refine gx_iload_n (pc := 144) (n := 3) (i := 3) rfl 3 rfl (htX7_apply_0 (144, .iload_n 3, 1) (gx_m 77 rfl)) ?_
        refine gx_Jjoin (pcJ := 153) (lvJ := fun (j15 : Int32) => [(0, gx_r 8 (some x0)), (1, gx_i x1), (2, gx_i x2), (3, gx_i j12)]) (stJ := fun (j15 : Int32) => [gx_i j15]) (fun _ => True) (fun j15 hj15 => ?_) (fun kk4 hj4 => ?_)
        · refine gx_istore (pc := 153) (i := 4) (lv' := [(4, gx_i j15), (0, gx_r 8 (some x0)), (1, gx_i x1), (2, gx_i x2), (3, gx_i j12)]) (by decide) rfl (htX7_apply_0 (153, .istore 4, 2) (gx_m 82 rfl)) ?_
          refine gx_iconst (pc := 155) (v := 1) (by decide) (htX7_apply_0 (155, .iconst 1, 1) (gx_m 83 rfl)) ?_
          refine gx_istore (pc := 156) (i := 5) (lv' := [(5, gx_i 1), (4, gx_i j15), (0, gx_r 8 (some x0)), (1, gx_i x1), (2, gx_i x2), (3, gx_i j12)]) (by decide) rfl (htX7_apply_0 (156, .istore 5, 2) (gx_m 84 rfl)) ?_
          refine gx_aload_n (pc := 158) (n := 0) (i := 0) rfl 2 rfl (htX7_apply_0 (158, .aload_n 0, 1) (gx_m 85 rfl)) ?_
          refine gx_Jgs (pc := 159) (ci := 7) (kk := 0) (t2 := 4) (by decide) (by decide) rfl rfl rfl q306 (htX7_apply_0 (159, .getfield 69, 3) (gx_m 86 rfl)) ?_
          refine gx_iload_n (pc := 162) (n := 2) (i := 2) rfl 4 rfl (htX7_apply_0 (162, .iload_n 2, 1) (gx_m 87 rfl)) ?_
          refine gx_iload (pc := 163) (i := 4) 1 rfl (htX7_apply_0 (163, .iload 4, 2) (gx_m 88 rfl)) ?_
          refine gx_Jci (pc := 165) (gx_hst (as := [gx_i x2, gx_i j15]) (b := gx_r 4 (some [0, 0, 1]))) (gx_runV (as := [gx_i x2, gx_i j15]) (ci := 3) (ct_X3_begin Y [0, 0, 1] x2 j15) (by decide) (Or.inl rfl) rfl rfl rfl rfl q1284 q1285 q1286 q103 q1287 rfl dd_X3_begin (by decide) (by decide) (Nat.le_of_ble_eq_true rfl) (htX7_apply_0 (165, .invokevirtual 164, 3) (gx_m 89 rfl))) (fun v16 => ?_)
          refine gx_istore (pc := 168) (i := 6) (lv' := [(6, gx_i v16), (5, gx_i 1), (4, gx_i j15), (0, gx_r 8 (some x0)), (1, gx_i x1), (2, gx_i x2), (3, gx_i j12)]) (by decide) rfl (htX7_apply_0 (168, .istore 6, 2) (gx_m 90 rfl)) ?_
          refine gx_Jjoin (pcJ := 205) (lvJ := fun (j20 : Int32) => [(0, gx_r 8 (some x0)), (1, gx_i x1), (2, gx_i x2), (3, gx_i j12), (5, gx_i j20)]) (stJ := fun (j20 : Int32) => []) (fun _ => True) (fun j20 _ => ?_) (fun kk5 hj5 => ?_)
          · refine gx_aload_n (pc := 205) (n := 0) (i := 0) rfl 0 rfl (htX7_apply_1 (205, .aload_n 0, 1) (gx_m 7 rfl)) ?_
            refine gx_iload_n (pc := 206) (n := 1) (i := 1) rfl 1 rfl (htX7_apply_1 (206, .iload_n 1, 1) (gx_m 8 rfl)) ?_
            refine gx_iload_n (pc := 207) (n := 2) (i := 2) rfl 2 rfl (htX7_apply_1 (207, .iload_n 2, 1) (gx_m 9 rfl)) ?_
            refine gx_iload_n (pc := 208) (n := 3) (i := 3) rfl 3 rfl (htX7_apply_1 (208, .iload_n 3, 1) (gx_m 10 rfl)) ?_
            refine gx_iload (pc := 209) (i := 5) 4 rfl (htX7_apply_1 (209, .iload 5, 2) (gx_m 11 rfl)) ?_
            refine gx_Jci (pc := 211) (gx_hst (as := [gx_i x1, gx_i x2, gx_i j12, gx_i j20]) (b := gx_r 8 (some x0))) (gx_runV (as := [gx_i x1, gx_i x2, gx_i j12, gx_i j20]) (ci := 7) (ct_X7_finish Y x0 x1 x2 j12 j20) (by decide) (Or.inl rfl) rfl rfl rfl rfl q1365 q1367 qs30 q107 q1368 rfl dd_X7_finish (by decide) (by decide) (Nat.le_of_ble_eq_true rfl) (htX7_apply_1 (211, .invokevirtual 183, 3) (gx_m 12 rfl))) (fun v21 => ?_)
            exact gx_Jiret (pc := 214) rfl (fun _ => trivial) (fun _ _ => rfl) (htX7_apply_1 (214, .ireturn, 1) (gx_m 13 rfl))
          · refine gx_Jw (lv := [(0, gx_r 8 (some x0)), (1, gx_i x1), (2, gx_i x2), (3, gx_i j12), (4, gx_i j15), (5, gx_i 1), (6, gx_i v16)]) [3, 4, 5, 6, 2, 1, 0] rfl ?_
            refine gx_Jlp (pc := 170) (lvh := fun (s17 : Int32 × Int32) => [(0, gx_r 8 (some x0)), (1, gx_i x1), (2, gx_i x2), (3, gx_i j12), (4, gx_i j15), (5, gx_i s17.1), (6, gx_i s17.2)]) (fun s17 kl5 ha5 hb5 => ?_) _
            unfold lb_X7_apply_4
            refine gx_iload (pc := 170) (i := 6) 6 rfl (htX7_apply_0 (170, .iload 6, 2) (gx_m 91 rfl)) ?_
            refine gx_aload_n (pc := 172) (n := 0) (i := 0) rfl 0 rfl (htX7_apply_0 (172, .aload_n 0, 1) (gx_m 92 rfl)) ?_
            refine gx_Jgs (pc := 173) (ci := 7) (kk := 0) (t2 := 4) (by decide) (by decide) rfl rfl rfl q306 (htX7_apply_0 (173, .getfield 69, 3) (gx_m 93 rfl)) ?_
            refine gx_iload_n (pc := 176) (n := 2) (i := 2) rfl 2 rfl (htX7_apply_0 (176, .iload_n 2, 1) (gx_m 94 rfl)) ?_
            refine gx_iload (pc := 177) (i := 4) 4 rfl (htX7_apply_0 (177, .iload 4, 2) (gx_m 95 rfl)) ?_
            refine gx_Jci (pc := 179) (gx_hst (as := [gx_i x2, gx_i j15]) (b := gx_r 4 (some [0, 0, 1]))) (gx_runV (as := [gx_i x2, gx_i j15]) (ci := 3) (ct_X3_end Y [0, 0, 1] x2 j15) (by decide) (Or.inl rfl) rfl rfl rfl rfl q1288 q1289 q1290 q103 q1291 rfl dd_X3_end (by decide) (by decide) (Nat.le_of_ble_eq_true rfl) (htX7_apply_0 (179, .invokevirtual 167, 3) (gx_m 96 rfl))) (fun v18 => ?_)
            refine gx_icmp_ge (pc := 182) (tgt := 205) (by decide) (htX7_apply_0 (182, .if_icmp .ge 23, 3) (gx_m 97 rfl)) (fun c6 => ?_) (fun c6 => ?_)
            · refine gx_Jw (lv := [(0, gx_r 8 (some x0)), (1, gx_i x1), (2, gx_i x2), (3, gx_i j12), (5, gx_i s17.1)]) [0, 1, 2, 3, 5] rfl ?_
              exact gx_Jout hb5 (hj5 (s17.1 : Int32) trivial)
            · refine gx_iload (pc := 185) (i := 5) 5 rfl (htX7_apply_0 (185, .iload 5, 2) (gx_m 98 rfl)) ?_
              refine gx_if_eq (pc := 187) (y := 0) (tgt := 205) (by decide) (htX7_apply_0 (187, .ifCond .eq 18, 3) (gx_m 99 rfl)) (fun c7 => ?_) (fun c7 => ?_)
              · refine gx_Jw (lv := [(0, gx_r 8 (some x0)), (1, gx_i x1), (2, gx_i x2), (3, gx_i j12), (5, gx_i s17.1)]) [0, 1, 2, 3, 5] rfl ?_
                exact gx_Jout hb5 (hj5 (s17.1 : Int32) trivial)
              · refine gx_aload_n (pc := 190) (n := 0) (i := 0) rfl 0 rfl (htX7_apply_1 (190, .aload_n 0, 1) (gx_m 0 rfl)) ?_
                refine gx_iload_n (pc := 191) (n := 1) (i := 1) rfl 1 rfl (htX7_apply_1 (191, .iload_n 1, 1) (gx_m 1 rfl)) ?_
                refine gx_iload (pc := 192) (i := 6) 6 rfl (htX7_apply_1 (192, .iload 6, 2) (gx_m 2 rfl)) ?_
                refine gx_Jcz (pc := 194) (gx_hst (as := [gx_i x1, gx_i s17.2]) (b := gx_r 8 (some x0))) (gx_runV (as := [gx_i x1, gx_i s17.2]) (ci := 7) (ct_X7_step Y x0 x1 s17.2) (by decide) (Or.inl rfl) rfl rfl rfl rfl q1320 q1322 qs22 q107 q1323 rfl dd_X7_step (by decide) (by decide) (Nat.le_of_ble_eq_true rfl) (htX7_apply_1 (194, .invokevirtual 180, 3) (gx_m 3 rfl))) (fun v19 hv19 => ?_)
                refine gx_istore (pc := 197) (i := 5) (lv' := [(5, gx_i v19), (0, gx_r 8 (some x0)), (1, gx_i x1), (2, gx_i x2), (3, gx_i j12), (4, gx_i j15), (6, gx_i s17.2)]) (by decide) rfl (htX7_apply_1 (197, .istore 5, 2) (gx_m 4 rfl)) ?_
                refine gx_iinc (pc := 199) (i := 6) (j := 6) (v := (s17.2 + 6)) (lv' := [(6, gx_i (s17.2 + 6)), (5, gx_i v19), (0, gx_r 8 (some x0)), (1, gx_i x1), (2, gx_i x2), (3, gx_i j12), (4, gx_i j15)]) rfl (gx_iv (by decide)) (by decide) rfl (htX7_apply_1 (199, .iinc 6 6, 3) (gx_m 5 rfl)) ?_
                refine gx_goto (pc := 202) (tgt := 170) (by decide) (htX7_apply_1 (202, .goto (-32), 3) (gx_m 6 rfl)) ?_
                refine gx_Jw (lv := [(0, gx_r 8 (some x0)), (1, gx_i x1), (2, gx_i x2), (3, gx_i j12), (4, gx_i j15), (5, gx_i v19), (6, gx_i (s17.2 + 6))]) [2, 3, 4, 5, 6, 1, 0] rfl ?_
                exact ha5 ((v19 : Int32), ((s17.2 + 6) : Int32))
        · refine gx_if_eq (pc := 145) (y := 0) (tgt := 152) (by decide) (htX7_apply_0 (145, .ifCond .eq 7, 3) (gx_m 78 rfl)) (fun c8 => ?_) (fun c8 => ?_)
          · refine gx_iconst (pc := 152) (v := 2) (by decide) (htX7_apply_0 (152, .iconst 2, 1) (gx_m 81 rfl)) ?_
            exact hj4 (2 : Int32) trivial
          · refine gx_iconst (pc := 148) (v := 1) (by decide) (htX7_apply_0 (148, .iconst 1, 1) (gx_m 79 rfl)) ?_
            refine gx_goto (pc := 149) (tgt := 153) (by decide) (htX7_apply_0 (149, .goto 4, 3) (gx_m 80 rfl)) ?_
            exact hj4 (1 : Int32) trivial
      · refine gx_Jw (lv := [(0, gx_r 8 (some x0)), (1, gx_i x1), (2, gx_i x2), (3, gx_i j12), (4, gx_i 0)]) [1, 2, 3, 4, 0] rfl ?_
        refine gx_Jlp (pc := 95) (lvh := fun (s13 : Int32) => [(0, gx_r 8 (some x0)), (1, gx_i x1), (2, gx_i x2), (3, gx_i j12), (4, gx_i s13)]) (fun s13 kl3 ha3 hb3 => ?_) _
        unfold lb_X7_apply_3
        refine gx_iload (pc := 95) (i := 4) 4 rfl (htX7_apply_0 (95, .iload 4, 2) (gx_m 51 rfl)) ?_
        refine gx_iconst (pc := 97) (v := 4) (by decide) (htX7_apply_0 (97, .iconst 4, 1) (gx_m 52 rfl)) ?_
        refine gx_icmp_ge (pc := 98) (tgt := 127) (by decide) (htX7_apply_0 (98, .if_icmp .ge 29, 3) (gx_m 53 rfl)) (fun c9 => ?_) (fun c9 => ?_)
        · refine gx_Jw (lv := [(0, gx_r 8 (some x0)), (1, gx_i x1), (2, gx_i x2), (3, gx_i j12)]) [0, 1, 2, 3] rfl ?_
          exact gx_Jout hb3 (hj3 () trivial)
        · refine gx_aload_n (pc := 101) (n := 0) (i := 0) rfl 0 rfl (htX7_apply_0 (101, .aload_n 0, 1) (gx_m 54 rfl)) ?_
          refine gx_Jgs (pc := 102) (ci := 7) (kk := 14) (t2 := 100) (by decide) (by decide) rfl rfl rfl q320 (htX7_apply_0 (102, .getfield 62, 3) (gx_m 55 rfl)) ?_
          refine gx_iload (pc := 105) (i := 4) 4 rfl (htX7_apply_0 (105, .iload 4, 2) (gx_m 56 rfl)) ?_
          refine gx_aload_n (pc := 107) (n := 0) (i := 0) rfl 0 rfl (htX7_apply_0 (107, .aload_n 0, 1) (gx_m 57 rfl)) ?_
          refine gx_Jgs (pc := 108) (ci := 7) (kk := 7) (t2 := 6) (by decide) (by decide) rfl rfl rfl q313 (htX7_apply_0 (108, .getfield 33, 3) (gx_m 58 rfl)) ?_
          refine gx_iconst (pc := 111) (v := 4) (by decide) (htX7_apply_0 (111, .iconst 4, 1) (gx_m 59 rfl)) ?_
          refine gx_iload_n (pc := 112) (n := 1) (i := 1) rfl 1 rfl (htX7_apply_0 (112, .iload_n 1, 1) (gx_m 60 rfl)) ?_
          refine gx_imul (pc := 113) (htX7_apply_0 (113, .imul, 1) (gx_m 61 rfl)) ?_
          refine gx_iload (pc := 114) (i := 4) 4 rfl (htX7_apply_0 (114, .iload 4, 2) (gx_m 62 rfl)) ?_
          refine gx_iadd (pc := 116) (htX7_apply_0 (116, .iadd, 1) (gx_m 63 rfl)) ?_
          refine gx_Jci (pc := 117) (gx_hst (as := [gx_i ((4 * x1) + s13)]) (b := gx_r 6 (some (7 :: x0)))) (gx_runV (as := [gx_i ((4 * x1) + s13)]) (ci := 5) (ct_X5_get Y (7 :: x0) ((4 * x1) + s13)) (by decide) (Or.inl rfl) rfl rfl rfl rfl q667 q668 q669 q105 q670 rfl dd_X5_get (by decide) (by decide) (Nat.le_of_ble_eq_true rfl) (htX7_apply_0 (117, .invokevirtual 89, 3) (gx_m 64 rfl))) (fun v14 => ?_)
          refine gx_Jis (pc := 120) (htX7_apply_0 (120, .iastore, 1) (gx_m 65 rfl)) ?_
          refine gx_iinc (pc := 121) (i := 4) (j := 4) (v := (s13 + 1)) (lv' := [(4, gx_i (s13 + 1)), (0, gx_r 8 (some x0)), (1, gx_i x1), (2, gx_i x2), (3, gx_i j12)]) rfl (gx_iv (by decide)) (by decide) rfl (htX7_apply_0 (121, .iinc 4 1, 3) (gx_m 66 rfl)) ?_
          refine gx_goto (pc := 124) (tgt := 95) (by decide) (htX7_apply_0 (124, .goto (-29), 3) (gx_m 67 rfl)) ?_
          refine gx_Jw (lv := [(0, gx_r 8 (some x0)), (1, gx_i x1), (2, gx_i x2), (3, gx_i j12), (4, gx_i (s13 + 1))]) [1, 2, 3, 4, 0] rfl ?_
          exact ha3 ((s13 + 1) : Int32)
    · refine gx_Jw (lv := [(0, gx_r 8 (some x0)), (1, gx_i x1), (2, gx_i x2), (3, gx_i 1), (4, gx_i v7)]) [2, 3, 4, 1, 0] rfl ?_
      refine gx_Jlp (pc := 52) (lvh := fun (s8 : Int32 × Int32) => [(0, gx_r 8 (some x0)), (1, gx_i x1), (2, gx_i x2), (3, gx_i s8.1), (4, gx_i s8.2)]) (fun s8 kl2 ha2 hb2 => ?_) _
      unfold lb_X7_apply_2
      refine gx_iload (pc := 52) (i := 4) 4 rfl (htX7_apply_0 (52, .iload 4, 2) (gx_m 29 rfl)) ?_
      refine gx_aload_n (pc := 54) (n := 0) (i := 0) rfl 0 rfl (htX7_apply_0 (54, .aload_n 0, 1) (gx_m 30 rfl)) ?_
      refine gx_Jgs (pc := 55) (ci := 7) (kk := 0) (t2 := 4) (by decide) (by decide) rfl rfl rfl q306 (htX7_apply_0 (55, .getfield 69, 3) (gx_m 31 rfl)) ?_
      refine gx_iload_n (pc := 58) (n := 2) (i := 2) rfl 2 rfl (htX7_apply_0 (58, .iload_n 2, 1) (gx_m 32 rfl)) ?_
      refine gx_iconst (pc := 59) (v := 0) (by decide) (htX7_apply_0 (59, .iconst 0, 1) (gx_m 33 rfl)) ?_
      refine gx_Jci (pc := 60) (gx_hst (as := [gx_i x2, gx_i 0]) (b := gx_r 4 (some [0, 0, 1]))) (gx_runV (as := [gx_i x2, gx_i 0]) (ci := 3) (ct_X3_end Y [0, 0, 1] x2 0) (by decide) (Or.inl rfl) rfl rfl rfl rfl q1288 q1289 q1290 q103 q1291 rfl dd_X3_end (by decide) (by decide) (Nat.le_of_ble_eq_true rfl) (htX7_apply_0 (60, .invokevirtual 167, 3) (gx_m 34 rfl))) (fun v9 => ?_)
      refine gx_icmp_ge (pc := 63) (tgt := 92) (by decide) (htX7_apply_0 (63, .if_icmp .ge 29, 3) (gx_m 35 rfl)) (fun c10 => ?_) (fun c10 => ?_)
      · refine gx_Jw (lv := [(0, gx_r 8 (some x0)), (1, gx_i x1), (2, gx_i x2), (3, gx_i s8.1)]) [0, 1, 2, 3] rfl ?_
        exact gx_Jout hb2 (hj2 (s8.1 : Int32) trivial)
      · refine gx_iload_n (pc := 66) (n := 3) (i := 3) rfl 3 rfl (htX7_apply_0 (66, .iload_n 3, 1) (gx_m 36 rfl)) ?_
        refine gx_Jjoin (pcJ := 85) (lvJ := fun (j11 : Int32) => [(0, gx_r 8 (some x0)), (1, gx_i x1), (2, gx_i x2), (4, gx_i s8.2)]) (stJ := fun (j11 : Int32) => [gx_i j11]) (fun (j11 : Int32) => j11 &&& 1 = j11) (fun j11 hj11 => ?_) (fun kk11 hj11 => ?_)
        · refine gx_istore_n (pc := 85) (n := 3) (i := 3) (lv' := [(3, gx_i j11), (0, gx_r 8 (some x0)), (1, gx_i x1), (2, gx_i x2), (4, gx_i s8.2)]) rfl (by decide) rfl (htX7_apply_0 (85, .istore_n 3, 1) (gx_m 46 rfl)) ?_
          refine gx_iinc (pc := 86) (i := 4) (j := 4) (v := (s8.2 + 5)) (lv' := [(4, gx_i (s8.2 + 5)), (3, gx_i j11), (0, gx_r 8 (some x0)), (1, gx_i x1), (2, gx_i x2)]) rfl (gx_iv (by decide)) (by decide) rfl (htX7_apply_0 (86, .iinc 4 5, 3) (gx_m 47 rfl)) ?_
          refine gx_goto (pc := 89) (tgt := 52) (by decide) (htX7_apply_0 (89, .goto (-37), 3) (gx_m 48 rfl)) ?_
          refine gx_Jw (lv := [(0, gx_r 8 (some x0)), (1, gx_i x1), (2, gx_i x2), (3, gx_i j11), (4, gx_i (s8.2 + 5))]) [2, 3, 4, 1, 0] rfl ?_
          exact ha2 ((j11 : Int32), ((s8.2 + 5) : Int32))
        · refine gx_if_eq (pc := 67) (y := 0) (tgt := 84) (by decide) (htX7_apply_0 (67, .ifCond .eq 17, 3) (gx_m 37 rfl)) (fun c12 => ?_) (fun c12 => ?_)
          · refine gx_iconst (pc := 84) (v := 0) (by decide) (htX7_apply_0 (84, .iconst 0, 1) (gx_m 45 rfl)) ?_
            refine gx_Jw (lv := [(0, gx_r 8 (some x0)), (1, gx_i x1), (2, gx_i x2), (4, gx_i s8.2)]) [0, 1, 2, 4] rfl ?_
            exact hj11 (0 : Int32) gx_b0
          · refine gx_aload_n (pc := 70) (n := 0) (i := 0) rfl 0 rfl (htX7_apply_0 (70, .aload_n 0, 1) (gx_m 38 rfl)) ?_
            refine gx_iload_n (pc := 71) (n := 1) (i := 1) rfl 1 rfl (htX7_apply_0 (71, .iload_n 1, 1) (gx_m 39 rfl)) ?_
            refine gx_iload (pc := 72) (i := 4) 4 rfl (htX7_apply_0 (72, .iload 4, 2) (gx_m 40 rfl)) ?_
            refine gx_Jcz (pc := 74) (gx_hst (as := [gx_i x1, gx_i s8.2]) (b := gx_r 8 (some x0))) (gx_runV (as := [gx_i x1, gx_i s8.2]) (ci := 7) (ct_X7_holds Y x0 x1 s8.2) (by decide) (Or.inl rfl) rfl rfl rfl rfl q1292 q1294 qs20 q107 q1295 rfl dd_X7_holds (by decide) (by decide) (Nat.le_of_ble_eq_true rfl) (htX7_apply_0 (74, .invokevirtual 170, 3) (gx_m 41 rfl))) (fun v10 hv10 => ?_)
            refine gx_if_eq (pc := 77) (y := 0) (tgt := 84) (by decide) (htX7_apply_0 (77, .ifCond .eq 7, 3) (gx_m 42 rfl)) (fun c13 => ?_) (fun c13 => ?_)
            · refine gx_iconst (pc := 84) (v := 0) (by decide) (htX7_apply_0 (84, .iconst 0, 1) (gx_m 45 rfl)) ?_
              refine gx_Jw (lv := [(0, gx_r 8 (some x0)), (1, gx_i x1), (2, gx_i x2), (4, gx_i s8.2)]) [0, 1, 2, 4] rfl ?_
              exact hj11 (0 : Int32) gx_b0
            · refine gx_iconst (pc := 80) (v := 1) (by decide) (htX7_apply_0 (80, .iconst 1, 1) (gx_m 43 rfl)) ?_
              refine gx_goto (pc := 81) (tgt := 85) (by decide) (htX7_apply_0 (81, .goto 4, 3) (gx_m 44 rfl)) ?_
              refine gx_Jw (lv := [(0, gx_r 8 (some x0)), (1, gx_i x1), (2, gx_i x2), (4, gx_i s8.2)]) [0, 1, 2, 4] rfl ?_
              exact hj11 (1 : Int32) gx_b1
  · refine gx_Jw (lv := [(0, gx_r 8 (some x0)), (1, gx_i x1), (2, gx_i x2), (3, gx_i v1)]) [1, 2, 3, 0] rfl ?_
    refine gx_Jlp (pc := 9) (lvh := fun (s2 : Int32) => [(0, gx_r 8 (some x0)), (1, gx_i x1), (2, gx_i x2), (3, gx_i s2)]) (fun s2 kl1 ha1 hb1 => ?_) _
    unfold lb_X7_apply_1
    refine gx_iload_n (pc := 9) (n := 3) (i := 3) rfl 3 rfl (htX7_apply_0 (9, .iload_n 3, 1) (gx_m 5 rfl)) ?_
    refine gx_if_lt (pc := 10) (y := 0) (tgt := 39) (by decide) (htX7_apply_0 (10, .ifCond .lt 29, 3) (gx_m 6 rfl)) (fun c14 => ?_) (fun c14 => ?_)
    · refine gx_Jw (lv := [(0, gx_r 8 (some x0)), (1, gx_i x1), (2, gx_i x2)]) [0, 1, 2] rfl ?_
      exact gx_Jout hb1 (hj1 ())
    · refine gx_aload_n (pc := 13) (n := 0) (i := 0) rfl 0 rfl (htX7_apply_0 (13, .aload_n 0, 1) (gx_m 7 rfl)) ?_
      refine gx_Jgs (pc := 14) (ci := 7) (kk := 2) (t2 := 6) (by decide) (by decide) rfl rfl rfl q308 (htX7_apply_0 (14, .getfield 18, 3) (gx_m 8 rfl)) ?_
      refine gx_iload_n (pc := 17) (n := 3) (i := 3) rfl 3 rfl (htX7_apply_0 (17, .iload_n 3, 1) (gx_m 9 rfl)) ?_
      refine gx_Jci (pc := 18) (gx_hst (as := [gx_i s2]) (b := gx_r 6 (some (2 :: x0)))) (gx_runV (as := [gx_i s2]) (ci := 5) (ct_X5_get Y (2 :: x0) s2) (by decide) (Or.inl rfl) rfl rfl rfl rfl q667 q668 q669 q105 q670 rfl dd_X5_get (by decide) (by decide) (Nat.le_of_ble_eq_true rfl) (htX7_apply_0 (18, .invokevirtual 89, 3) (gx_m 10 rfl))) (fun v3 => ?_)
      refine gx_iload_n (pc := 21) (n := 2) (i := 2) rfl 2 rfl (htX7_apply_0 (21, .iload_n 2, 1) (gx_m 11 rfl)) ?_
      refine gx_icmp_ne (pc := 22) (tgt := 27) (by decide) (htX7_apply_0 (22, .if_icmp .ne 5, 3) (gx_m 12 rfl)) (fun c15 => ?_) (fun c15 => ?_)
      · refine gx_iload_n (pc := 25) (n := 3) (i := 3) rfl 3 rfl (htX7_apply_0 (25, .iload_n 3, 1) (gx_m 13 rfl)) ?_
        refine gx_Jret ((hb1 _).trans (he1 _)) ?_
        exact gx_Jiret (pc := 26) rfl (fun _ => trivial) (fun _ _ => rfl) (htX7_apply_0 (26, .ireturn, 1) (gx_m 14 rfl))
      · refine gx_aload_n (pc := 27) (n := 0) (i := 0) rfl 0 rfl (htX7_apply_0 (27, .aload_n 0, 1) (gx_m 15 rfl)) ?_
        refine gx_Jgs (pc := 28) (ci := 7) (kk := 11) (t2 := 6) (by decide) (by decide) rfl rfl rfl q317 (htX7_apply_0 (28, .getfield 49, 3) (gx_m 16 rfl)) ?_
        refine gx_iload_n (pc := 31) (n := 3) (i := 3) rfl 3 rfl (htX7_apply_0 (31, .iload_n 3, 1) (gx_m 17 rfl)) ?_
        refine gx_Jci (pc := 32) (gx_hst (as := [gx_i s2]) (b := gx_r 6 (some (11 :: x0)))) (gx_runV (as := [gx_i s2]) (ci := 5) (ct_X5_get Y (11 :: x0) s2) (by decide) (Or.inl rfl) rfl rfl rfl rfl q667 q668 q669 q105 q670 rfl dd_X5_get (by decide) (by decide) (Nat.le_of_ble_eq_true rfl) (htX7_apply_0 (32, .invokevirtual 89, 3) (gx_m 18 rfl))) (fun v4 => ?_)
        refine gx_istore_n (pc := 35) (n := 3) (i := 3) (lv' := [(3, gx_i v4), (0, gx_r 8 (some x0)), (1, gx_i x1), (2, gx_i x2)]) rfl (by decide) rfl (htX7_apply_0 (35, .istore_n 3, 1) (gx_m 19 rfl)) ?_
        refine gx_goto (pc := 36) (tgt := 9) (by decide) (htX7_apply_0 (36, .goto (-27), 3) (gx_m 20 rfl)) ?_
        refine gx_Jw (lv := [(0, gx_r 8 (some x0)), (1, gx_i x1), (2, gx_i x2), (3, gx_i v4)]) [1, 2, 3, 0] rfl ?_
        exact ha1 (v4 : Int32)
theorem ct_X13_commitTo (Y : gx_Y) (x0 : gx_Nm) (x1 : Int32) : gx_Ct Y yX13_commitTo (ws_ yX13_commitTo cX13_commitTo 3 none) 8 284 [gx_r 14 (some x0), gx_i x1] gx_Ov (f_X13_commitTo x0 x1) := by
  refine gx_start (lv := [(0, gx_r 14 (some x0)), (1, gx_i x1)]) gx_Ov_r pn_X13 (Nat.le_of_ble_eq_true rfl) rfl ?_
  unfold f_X13_commitTo
  refine gx_Jjoin (pcJ := 88) (lvJ := fun (j_1 : Unit) => []) (stJ := fun (j_1 : Unit) => []) (fun _ => True) (fun j_1 _ => ?_) (fun kk1 hj1 => ?_)
  · exact gx_Jvret (pc := 88) rfl (fun _ => trivial) (fun _ _ => rfl) (htX13_commitTo (88, .return_, 1) (gx_m 42 rfl))
  · refine gx_Jlp (pc := 0) (lvh := fun (s1 : Unit) => [(0, gx_r 14 (some x0)), (1, gx_i x1)]) (fun s1 kl1 ha1 hb1 => ?_) _
    unfold lb_X13_commitTo_1
    refine gx_aload_n (pc := 0) (n := 0) (i := 0) rfl 0 rfl (htX13_commitTo (0, .aload_n 0, 1) (gx_m 0 rfl)) ?_
    refine gx_Jgi (pc := 1) (ci := 13) (kk := 10) (by decide) (Or.inl rfl) (by decide) (by decide) q563 (htX13_commitTo (1, .getfield 131, 3) (gx_m 1 rfl)) (fun v2 hv2 => ?_)
    refine gx_iload_n (pc := 4) (n := 1) (i := 1) rfl 1 rfl (htX13_commitTo (4, .iload_n 1, 1) (gx_m 2 rfl)) ?_
    refine gx_icmp_ge (pc := 5) (tgt := 88) (by decide) (htX13_commitTo (5, .if_icmp .ge 83, 3) (gx_m 3 rfl)) (fun c2 => ?_) (fun c2 => ?_)
    · refine gx_Jw (lv := []) [] rfl ?_
      exact gx_Jout hb1 (hj1 () trivial)
    · refine gx_aload_n (pc := 8) (n := 0) (i := 0) rfl 0 rfl (htX13_commitTo (8, .aload_n 0, 1) (gx_m 4 rfl)) ?_
      refine gx_dup (pc := 9) rfl (htX13_commitTo (9, .dup, 1) (gx_m 5 rfl)) ?_
      refine gx_Jgi (pc := 10) (ci := 13) (kk := 10) (by decide) (Or.inl rfl) (by decide) (by decide) q563 (htX13_commitTo (10, .getfield 131, 3) (gx_m 6 rfl)) (fun v3 hv3 => ?_)
      refine gx_iconst (pc := 13) (v := 1) (by decide) (htX13_commitTo (13, .iconst 1, 1) (gx_m 7 rfl)) ?_
      refine gx_iadd (pc := 14) (htX13_commitTo (14, .iadd, 1) (gx_m 8 rfl)) ?_
      refine gx_Jpi (pc := 15) (ci := 13) (kk := 10) (by decide) (Or.inl rfl) (by decide) rfl rfl q563 (Or.inl rfl) (htX13_commitTo (15, .putfield 131, 3) (gx_m 9 rfl)) ?_
      refine gx_aload_n (pc := 18) (n := 0) (i := 0) rfl 0 rfl (htX13_commitTo (18, .aload_n 0, 1) (gx_m 10 rfl)) ?_
      refine gx_Jgs (pc := 19) (ci := 13) (kk := 5) (t2 := 16) (by decide) (by decide) rfl rfl rfl q554 (htX13_commitTo (19, .getfield 69, 3) (gx_m 11 rfl)) ?_
      refine gx_aload_n (pc := 22) (n := 0) (i := 0) rfl 0 rfl (htX13_commitTo (22, .aload_n 0, 1) (gx_m 12 rfl)) ?_
      refine gx_Jgi (pc := 23) (ci := 13) (kk := 10) (by decide) (Or.inl rfl) (by decide) (by decide) q563 (htX13_commitTo (23, .getfield 131, 3) (gx_m 13 rfl)) (fun v4 hv4 => ?_)
      refine gx_Jci (pc := 26) (gx_hst (as := [gx_i v4]) (b := gx_r 16 (some (5 :: x0)))) (gx_runV (as := [gx_i v4]) (ci := 15) (ct_X15_entry Y (5 :: x0) v4) (by decide) (Or.inl rfl) rfl rfl rfl rfl q1178 q1179 q1180 q115 q1181 rfl dd_X15_entry (by decide) (by decide) (Nat.le_of_ble_eq_true rfl) (htX13_commitTo (26, .invokevirtual 271, 3) (gx_m 14 rfl))) (fun v5 => ?_)
      refine gx_istore_n (pc := 29) (n := 2) (i := 2) (lv' := [(2, gx_i v5), (0, gx_r 14 (some x0)), (1, gx_i x1)]) rfl (by decide) rfl (htX13_commitTo (29, .istore_n 2, 1) (gx_m 15 rfl)) ?_
      refine gx_aload_n (pc := 30) (n := 0) (i := 0) rfl 1 rfl (htX13_commitTo (30, .aload_n 0, 1) (gx_m 16 rfl)) ?_
      refine gx_Jgs (pc := 31) (ci := 13) (kk := 0) (t2 := 3) (by decide) (by decide) rfl rfl rfl q546 (htX13_commitTo (31, .getfield 43, 3) (gx_m 17 rfl)) ?_
      refine gx_aload_n (pc := 34) (n := 0) (i := 0) rfl 1 rfl (htX13_commitTo (34, .aload_n 0, 1) (gx_m 18 rfl)) ?_
      refine gx_Jgi (pc := 35) (ci := 13) (kk := 10) (by decide) (Or.inl rfl) (by decide) (by decide) q563 (htX13_commitTo (35, .getfield 131, 3) (gx_m 19 rfl)) (fun v6 hv6 => ?_)
      refine gx_iload_n (pc := 38) (n := 2) (i := 2) rfl 0 rfl (htX13_commitTo (38, .iload_n 2, 1) (gx_m 20 rfl)) ?_
      refine gx_Jcv (pc := 39) (gx_hst (as := [gx_i v6, gx_i v5]) (b := gx_r 3 (some [0, 1]))) (gx_runV (as := [gx_i v6, gx_i v5]) (ci := 2) (ct_X2_applies Y [0, 1] v6 v5) (by decide) (Or.inl rfl) rfl rfl rfl rfl q1275 q1276 q1277 q102 q1278 rfl dd_X2_applies (by decide) (by decide) (Nat.le_of_ble_eq_true rfl) (htX13_commitTo (39, .invokevirtual 277, 3) (gx_m 21 rfl))) ?_
      refine gx_aload_n (pc := 42) (n := 0) (i := 0) rfl 1 rfl (htX13_commitTo (42, .aload_n 0, 1) (gx_m 22 rfl)) ?_
      refine gx_aload_n (pc := 43) (n := 0) (i := 0) rfl 1 rfl (htX13_commitTo (43, .aload_n 0, 1) (gx_m 23 rfl)) ?_
      refine gx_Jgs (pc := 44) (ci := 13) (kk := 0) (t2 := 3) (by decide) (by decide) rfl rfl rfl q546 (htX13_commitTo (44, .getfield 43, 3) (gx_m 24 rfl)) ?_
      refine gx_Jgs (pc := 47) (ci := 2) (kk := 2) (t2 := 8) (by decide) (by decide) rfl rfl rfl q407 (htX13_commitTo (47, .getfield 280, 3) (gx_m 25 rfl)) ?_
      refine gx_aload_n (pc := 50) (n := 0) (i := 0) rfl 1 rfl (htX13_commitTo (50, .aload_n 0, 1) (gx_m 26 rfl)) ?_
      refine gx_Jgi (pc := 51) (ci := 13) (kk := 11) (by decide) (Or.inl rfl) (by decide) (by decide) q565 (htX13_commitTo (51, .getfield 137, 3) (gx_m 27 rfl)) (fun v7 hv7 => ?_)
      refine gx_aload_n (pc := 54) (n := 0) (i := 0) rfl 1 rfl (htX13_commitTo (54, .aload_n 0, 1) (gx_m 28 rfl)) ?_
      refine gx_Jgs (pc := 55) (ci := 13) (kk := 0) (t2 := 3) (by decide) (by decide) rfl rfl rfl q546 (htX13_commitTo (55, .getfield 43, 3) (gx_m 29 rfl)) ?_
      refine gx_Jgs (pc := 58) (ci := 2) (kk := 1) (t2 := 7) (by decide) (by decide) rfl rfl rfl q405 (htX13_commitTo (58, .getfield 53, 3) (gx_m 30 rfl)) ?_
      refine gx_Jgs (pc := 61) (ci := 6) (kk := 1) (t2 := 6) (by decide) (by decide) rfl rfl rfl q221 (htX13_commitTo (61, .getfield 284, 3) (gx_m 31 rfl)) ?_
      refine gx_iload_n (pc := 64) (n := 2) (i := 2) rfl 0 rfl (htX13_commitTo (64, .iload_n 2, 1) (gx_m 32 rfl)) ?_
      refine gx_Jci (pc := 65) (gx_hst (as := [gx_i v5]) (b := gx_r 6 (some [1, 1, 0, 1]))) (gx_runV (as := [gx_i v5]) (ci := 5) (ct_X5_get Y [1, 1, 0, 1] v5) (by decide) (Or.inl rfl) rfl rfl rfl rfl q1279 q668 q669 q105 q670 rfl dd_X5_get (by decide) (by decide) (Nat.le_of_ble_eq_true rfl) (htX13_commitTo (65, .invokevirtual 286, 3) (gx_m 33 rfl))) (fun v8 => ?_)
      refine gx_Jci (pc := 68) (gx_hst (as := [gx_i v7, gx_i v8]) (b := gx_r 8 (some [2, 0, 1]))) (gx_runV (as := [gx_i v7, gx_i v8]) (ci := 7) (ct_X7_apply Y [2, 0, 1] v7 v8) (by decide) (Or.inl rfl) rfl rfl rfl rfl q1280 q1281 q1282 q107 q1283 rfl dd_X7_apply (by decide) (by decide) (Nat.le_of_ble_eq_true rfl) (htX13_commitTo (68, .invokevirtual 288, 3) (gx_m 34 rfl))) (fun v9 => ?_)
      refine gx_Jpi (pc := 71) (ci := 13) (kk := 11) (by decide) (Or.inl rfl) (by decide) rfl rfl q565 (Or.inl rfl) (htX13_commitTo (71, .putfield 137, 3) (gx_m 35 rfl)) ?_
      refine gx_aload_n (pc := 74) (n := 0) (i := 0) rfl 1 rfl (htX13_commitTo (74, .aload_n 0, 1) (gx_m 36 rfl)) ?_
      refine gx_Jgs (pc := 75) (ci := 13) (kk := 12) (t2 := 6) (by decide) (by decide) rfl rfl rfl q567 (htX13_commitTo (75, .getfield 23, 3) (gx_m 37 rfl)) ?_
      refine gx_aload_n (pc := 78) (n := 0) (i := 0) rfl 1 rfl (htX13_commitTo (78, .aload_n 0, 1) (gx_m 38 rfl)) ?_
      refine gx_Jgi (pc := 79) (ci := 13) (kk := 11) (by decide) (Or.inl rfl) (by decide) (by decide) q565 (htX13_commitTo (79, .getfield 137, 3) (gx_m 39 rfl)) (fun v10 hv10 => ?_)
      refine gx_Jcv (pc := 82) (gx_hst (as := [gx_i v10]) (b := gx_r 6 (some (12 :: x0)))) (gx_runV (as := [gx_i v10]) (ci := 5) (ct_X5_add Y (12 :: x0) v10) (by decide) (Or.inl rfl) rfl rfl rfl rfl q1369 q642 q643 q105 q644 rfl dd_X5_add (by decide) (by decide) (Nat.le_of_ble_eq_true rfl) (htX13_commitTo (82, .invokevirtual 293, 3) (gx_m 40 rfl))) ?_
      refine gx_goto (pc := 85) (tgt := 0) (by decide) (htX13_commitTo (85, .goto (-85), 3) (gx_m 41 rfl)) ?_
      refine gx_Jw (lv := [(0, gx_r 14 (some x0)), (1, gx_i x1)]) [1, 2] rfl ?_
      exact ha1 ()
theorem ct_X13_lookForCommit (Y : gx_Y) (x0 : gx_Nm) : gx_Ct Y yX13_lookForCommit (ws_ yX13_lookForCommit cX13_lookForCommit 4 none) 9 306 [gx_r 14 (some x0)] gx_Ov (f_X13_lookForCommit x0) := by
  refine gx_start (lv := [(0, gx_r 14 (some x0))]) gx_Ov_r pn_X13 (Nat.le_of_ble_eq_true rfl) rfl ?_
  unfold f_X13_lookForCommit
  refine gx_aload_n (pc := 0) (n := 0) (i := 0) rfl 0 rfl (htX13_lookForCommit (0, .aload_n 0, 1) (gx_m 0 rfl)) ?_
  refine gx_Jgs (pc := 1) (ci := 13) (kk := 5) (t2 := 16) (by decide) (by decide) rfl rfl rfl q554 (htX13_lookForCommit (1, .getfield 69, 3) (gx_m 1 rfl)) ?_
  refine gx_Jci (pc := 4) (gx_hst (as := []) (b := gx_r 16 (some (5 :: x0)))) (gx_runV (as := []) (ci := 15) (ct_X15_last Y (5 :: x0)) (by decide) (Or.inl rfl) rfl rfl rfl rfl q1071 q1072 q1073 q115 q1074 rfl dd_X15_last (by decide) (by decide) (Nat.le_of_ble_eq_true rfl) (htX13_lookForCommit (4, .invokevirtual 198, 3) (gx_m 2 rfl))) (fun v1 => ?_)
  refine gx_istore_n (pc := 7) (n := 1) (i := 1) (lv' := [(1, gx_i v1), (0, gx_r 14 (some x0))]) rfl (by decide) rfl (htX13_lookForCommit (7, .istore_n 1, 1) (gx_m 3 rfl)) ?_
  refine gx_JjoinE (pcJ := 106) (lvJ := fun (j_1 : Unit) => []) (stJ := fun (j_1 : Unit) => []) (gr := fun r => gx_rt r) (fun _ => rfl) (fun _ => rfl) (fun j_1 => ?_) (fun kk1 hj1 he1 => ?_)
  · exact gx_Jvret (pc := 106) rfl (fun _ => trivial) (fun _ _ => rfl) (htX13_lookForCommit (106, .return_, 1) (gx_m 56 rfl))
  · refine gx_Jw (lv := [(0, gx_r 14 (some x0)), (1, gx_i v1)]) [1, 0] rfl ?_
    refine gx_Jlp (pc := 8) (lvh := fun (s2 : Int32) => [(0, gx_r 14 (some x0)), (1, gx_i s2)]) (fun s2 kl1 ha1 hb1 => ?_) _
    unfold lb_X13_lookForCommit_2
    refine gx_iload_n (pc := 8) (n := 1) (i := 1) rfl 1 rfl (htX13_lookForCommit (8, .iload_n 1, 1) (gx_m 4 rfl)) ?_
    refine gx_aload_n (pc := 9) (n := 0) (i := 0) rfl 0 rfl (htX13_lookForCommit (9, .aload_n 0, 1) (gx_m 5 rfl)) ?_
    refine gx_Jgi (pc := 10) (ci := 13) (kk := 10) (by decide) (Or.inl rfl) (by decide) (by decide) q563 (htX13_lookForCommit (10, .getfield 131, 3) (gx_m 6 rfl)) (fun v3 hv3 => ?_)
    refine gx_icmp_le (pc := 13) (tgt := 106) (by decide) (htX13_lookForCommit (13, .if_icmp .le 93, 3) (gx_m 7 rfl)) (fun c2 => ?_) (fun c2 => ?_)
    · refine gx_Jw (lv := []) [] rfl ?_
      exact gx_Jout hb1 (hj1 ())
    · refine gx_iload_n (pc := 16) (n := 1) (i := 1) rfl 1 rfl (htX13_lookForCommit (16, .iload_n 1, 1) (gx_m 8 rfl)) ?_
      refine gx_aload_n (pc := 17) (n := 0) (i := 0) rfl 0 rfl (htX13_lookForCommit (17, .aload_n 0, 1) (gx_m 9 rfl)) ?_
      refine gx_Jgs (pc := 18) (ci := 13) (kk := 5) (t2 := 16) (by decide) (by decide) rfl rfl rfl q554 (htX13_lookForCommit (18, .getfield 69, 3) (gx_m 10 rfl)) ?_
      refine gx_Jgi (pc := 21) (ci := 15) (kk := 1) (by decide) (Or.inl rfl) (by decide) (by decide) q507 (htX13_lookForCommit (21, .getfield 128, 3) (gx_m 11 rfl)) (fun v4 hv4 => ?_)
      refine gx_icmp_le (pc := 24) (tgt := 106) (by decide) (htX13_lookForCommit (24, .if_icmp .le 82, 3) (gx_m 12 rfl)) (fun c3 => ?_) (fun c3 => ?_)
      · refine gx_Jw (lv := []) [] rfl ?_
        exact gx_Jout hb1 (hj1 ())
      · refine gx_aload_n (pc := 27) (n := 0) (i := 0) rfl 0 rfl (htX13_lookForCommit (27, .aload_n 0, 1) (gx_m 13 rfl)) ?_
        refine gx_Jgs (pc := 28) (ci := 13) (kk := 5) (t2 := 16) (by decide) (by decide) rfl rfl rfl q554 (htX13_lookForCommit (28, .getfield 69, 3) (gx_m 14 rfl)) ?_
        refine gx_iload_n (pc := 31) (n := 1) (i := 1) rfl 1 rfl (htX13_lookForCommit (31, .iload_n 1, 1) (gx_m 15 rfl)) ?_
        refine gx_Jci (pc := 32) (gx_hst (as := [gx_i s2]) (b := gx_r 16 (some (5 :: x0)))) (gx_runV (as := [gx_i s2]) (ci := 15) (ct_X15_term Y (5 :: x0) s2) (by decide) (Or.inl rfl) rfl rfl rfl rfl q1173 q1174 q1175 q115 q1176 rfl dd_X15_term (by decide) (by decide) (Nat.le_of_ble_eq_true rfl) (htX13_lookForCommit (32, .invokevirtual 267, 3) (gx_m 16 rfl))) (fun v5 => ?_)
        refine gx_aload_n (pc := 35) (n := 0) (i := 0) rfl 0 rfl (htX13_lookForCommit (35, .aload_n 0, 1) (gx_m 17 rfl)) ?_
        refine gx_Jgi (pc := 36) (ci := 13) (kk := 3) (by decide) (Or.inl rfl) (by decide) (by decide) q550 (htX13_lookForCommit (36, .getfield 103, 3) (gx_m 18 rfl)) (fun v6 hv6 => ?_)
        refine gx_icmp_ne (pc := 39) (tgt := 106) (by decide) (htX13_lookForCommit (39, .if_icmp .ne 67, 3) (gx_m 19 rfl)) (fun c4 => ?_) (fun c4 => ?_)
        · refine gx_iconst (pc := 42) (v := 0) (by decide) (htX13_lookForCommit (42, .iconst 0, 1) (gx_m 20 rfl)) ?_
          refine gx_istore_n (pc := 43) (n := 2) (i := 2) (lv' := [(2, gx_i 0), (0, gx_r 14 (some x0)), (1, gx_i s2)]) rfl (by decide) rfl (htX13_lookForCommit (43, .istore_n 2, 1) (gx_m 21 rfl)) ?_
          refine gx_iconst (pc := 44) (v := 0) (by decide) (htX13_lookForCommit (44, .iconst 0, 1) (gx_m 22 rfl)) ?_
          refine gx_istore_n (pc := 45) (n := 3) (i := 3) (lv' := [(3, gx_i 0), (2, gx_i 0), (0, gx_r 14 (some x0)), (1, gx_i s2)]) rfl (by decide) rfl (htX13_lookForCommit (45, .istore_n 3, 1) (gx_m 23 rfl)) ?_
          refine gx_Jjoin (pcJ := 83) (lvJ := fun (j11 : Int32) => [(0, gx_r 14 (some x0)), (1, gx_i s2), (2, gx_i j11)]) (stJ := fun (j11 : Int32) => []) (fun _ => True) (fun j11 _ => ?_) (fun kk5 hj5 => ?_)
          · refine gx_aload_n (pc := 83) (n := 0) (i := 0) rfl 0 rfl (htX13_lookForCommit (83, .aload_n 0, 1) (gx_m 45 rfl)) ?_
            refine gx_iload_n (pc := 84) (n := 2) (i := 2) rfl 2 rfl (htX13_lookForCommit (84, .iload_n 2, 1) (gx_m 46 rfl)) ?_
            refine gx_Jcz (pc := 85) (gx_hst (as := [gx_i j11]) (b := gx_r 14 (some x0))) (gx_runV (as := [gx_i j11]) (ci := 13) (ct_X13_isMajority Y x0 j11) (by decide) (Or.inl rfl) rfl rfl rfl rfl q1207 q1209 qs16 q113 q1210 rfl dd_X13_isMajority (by decide) (by decide) (Nat.le_of_ble_eq_true rfl) (htX13_lookForCommit (85, .invokevirtual 223, 3) (gx_m 47 rfl))) (fun v12 hv12 => ?_)
            refine gx_if_ne (pc := 88) (y := 0) (tgt := 94) (by decide) (htX13_lookForCommit (88, .ifCond .ne 6, 3) (gx_m 48 rfl)) (fun c6 => ?_) (fun c6 => ?_)
            · refine gx_goto (pc := 91) (tgt := 100) (by decide) (htX13_lookForCommit (91, .goto 9, 3) (gx_m 49 rfl)) ?_
              refine gx_iinc (pc := 100) (i := 1) (j := 1) (v := (s2 + (-1))) (lv' := [(1, gx_i (s2 + (-1))), (0, gx_r 14 (some x0)), (2, gx_i j11)]) rfl (gx_iv (by decide)) (by decide) rfl (htX13_lookForCommit (100, .iinc 1 (-1), 3) (gx_m 54 rfl)) ?_
              refine gx_goto (pc := 103) (tgt := 8) (by decide) (htX13_lookForCommit (103, .goto (-95), 3) (gx_m 55 rfl)) ?_
              refine gx_Jw (lv := [(0, gx_r 14 (some x0)), (1, gx_i (s2 + (-1)))]) [1, 0] rfl ?_
              exact ha1 ((s2 + (-1)) : Int32)
            · refine gx_aload_n (pc := 94) (n := 0) (i := 0) rfl 0 rfl (htX13_lookForCommit (94, .aload_n 0, 1) (gx_m 50 rfl)) ?_
              refine gx_iload_n (pc := 95) (n := 1) (i := 1) rfl 1 rfl (htX13_lookForCommit (95, .iload_n 1, 1) (gx_m 51 rfl)) ?_
              refine gx_Jcv (pc := 96) (gx_hst (as := [gx_i s2]) (b := gx_r 14 (some x0))) (gx_runV (as := [gx_i s2]) (ci := 13) (ct_X13_commitTo Y x0 s2) (by decide) (Or.inl rfl) rfl rfl rfl rfl q1271 q1273 qs19 q113 q1274 rfl dd_X13_commitTo (by decide) (by decide) (Nat.le_of_ble_eq_true rfl) (htX13_lookForCommit (96, .invokevirtual 274, 3) (gx_m 52 rfl))) ?_
              refine gx_Jret ((hb1 _).trans (he1 _)) ?_
              exact gx_Jvret (pc := 99) rfl (fun _ => trivial) (fun _ _ => rfl) (htX13_lookForCommit (99, .return_, 1) (gx_m 53 rfl))
          · refine gx_Jw (lv := [(0, gx_r 14 (some x0)), (1, gx_i s2), (2, gx_i 0), (3, gx_i 0)]) [2, 3, 1, 0] rfl ?_
            refine gx_Jlp (pc := 46) (lvh := fun (s7 : Int32 × Int32) => [(0, gx_r 14 (some x0)), (1, gx_i s2), (2, gx_i s7.1), (3, gx_i s7.2)]) (fun s7 kl5 ha5 hb5 => ?_) _
            unfold lb_X13_lookForCommit_1
            refine gx_iload_n (pc := 46) (n := 3) (i := 3) rfl 3 rfl (htX13_lookForCommit (46, .iload_n 3, 1) (gx_m 24 rfl)) ?_
            refine gx_aload_n (pc := 47) (n := 0) (i := 0) rfl 0 rfl (htX13_lookForCommit (47, .aload_n 0, 1) (gx_m 25 rfl)) ?_
            refine gx_Jgs (pc := 48) (ci := 13) (kk := 0) (t2 := 3) (by decide) (by decide) rfl rfl rfl q546 (htX13_lookForCommit (48, .getfield 43, 3) (gx_m 26 rfl)) ?_
            refine gx_Jgi (pc := 51) (ci := 2) (kk := 4) (by decide) (Or.inl rfl) (by decide) (by decide) q414 (htX13_lookForCommit (51, .getfield 211, 3) (gx_m 27 rfl)) (fun v8 hv8 => ?_)
            refine gx_icmp_ge (pc := 54) (tgt := 83) (by decide) (htX13_lookForCommit (54, .if_icmp .ge 29, 3) (gx_m 28 rfl)) (fun c7 => ?_) (fun c7 => ?_)
            · refine gx_Jw (lv := [(0, gx_r 14 (some x0)), (1, gx_i s2), (2, gx_i s7.1)]) [0, 1, 2] rfl ?_
              exact gx_Jout hb5 (hj5 (s7.1 : Int32) trivial)
            · refine gx_iload_n (pc := 57) (n := 2) (i := 2) rfl 2 rfl (htX13_lookForCommit (57, .iload_n 2, 1) (gx_m 29 rfl)) ?_
              refine gx_aload_n (pc := 58) (n := 0) (i := 0) rfl 0 rfl (htX13_lookForCommit (58, .aload_n 0, 1) (gx_m 30 rfl)) ?_
              refine gx_Jgs (pc := 59) (ci := 13) (kk := 18) (t2 := 100) (by decide) (by decide) rfl rfl rfl q573 (htX13_lookForCommit (59, .getfield 31, 3) (gx_m 31 rfl)) ?_
              refine gx_iload_n (pc := 62) (n := 3) (i := 3) rfl 3 rfl (htX13_lookForCommit (62, .iload_n 3, 1) (gx_m 32 rfl)) ?_
              refine gx_Jia (pc := 63) (htX13_lookForCommit (63, .iaload, 1) (gx_m 33 rfl)) (fun v9 => ?_)
              refine gx_iload_n (pc := 64) (n := 1) (i := 1) rfl 1 rfl (htX13_lookForCommit (64, .iload_n 1, 1) (gx_m 34 rfl)) ?_
              refine gx_Jjoin (pcJ := 75) (lvJ := fun (j10 : Int32) => [(0, gx_r 14 (some x0)), (1, gx_i s2), (3, gx_i s7.2)]) (stJ := fun (j10 : Int32) => [gx_i j10, gx_i s7.1]) (fun _ => True) (fun j10 hj10 => ?_) (fun kk8 hj8 => ?_)
              · refine gx_ior (pc := 75) (htX13_lookForCommit (75, .ior, 1) (gx_m 41 rfl)) ?_
                refine gx_istore_n (pc := 76) (n := 2) (i := 2) (lv' := [(2, gx_i (s7.1 ||| j10)), (0, gx_r 14 (some x0)), (1, gx_i s2), (3, gx_i s7.2)]) rfl (by decide) rfl (htX13_lookForCommit (76, .istore_n 2, 1) (gx_m 42 rfl)) ?_
                refine gx_iinc (pc := 77) (i := 3) (j := 3) (v := (s7.2 + 1)) (lv' := [(3, gx_i (s7.2 + 1)), (2, gx_i (s7.1 ||| j10)), (0, gx_r 14 (some x0)), (1, gx_i s2)]) rfl (gx_iv (by decide)) (by decide) rfl (htX13_lookForCommit (77, .iinc 3 1, 3) (gx_m 43 rfl)) ?_
                refine gx_goto (pc := 80) (tgt := 46) (by decide) (htX13_lookForCommit (80, .goto (-34), 3) (gx_m 44 rfl)) ?_
                refine gx_Jw (lv := [(0, gx_r 14 (some x0)), (1, gx_i s2), (2, gx_i (s7.1 ||| j10)), (3, gx_i (s7.2 + 1))]) [2, 3, 1, 0] rfl ?_
                exact ha5 (((s7.1 ||| j10) : Int32), ((s7.2 + 1) : Int32))
              · refine gx_icmp_lt (pc := 65) (tgt := 74) (by decide) (htX13_lookForCommit (65, .if_icmp .lt 9, 3) (gx_m 35 rfl)) (fun c9 => ?_) (fun c9 => ?_)
                · refine gx_iconst (pc := 74) (v := 0) (by decide) (htX13_lookForCommit (74, .iconst 0, 1) (gx_m 40 rfl)) ?_
                  refine gx_Jw (lv := [(0, gx_r 14 (some x0)), (1, gx_i s2), (3, gx_i s7.2)]) [0, 1, 3] rfl ?_
                  exact hj8 (0 : Int32) trivial
                · refine gx_iconst (pc := 68) (v := 1) (by decide) (htX13_lookForCommit (68, .iconst 1, 1) (gx_m 36 rfl)) ?_
                  refine gx_iload_n (pc := 69) (n := 3) (i := 3) rfl 3 rfl (htX13_lookForCommit (69, .iload_n 3, 1) (gx_m 37 rfl)) ?_
                  refine gx_ishl (pc := 70) (htX13_lookForCommit (70, .ishl, 1) (gx_m 38 rfl)) ?_
                  refine gx_goto (pc := 71) (tgt := 75) (by decide) (htX13_lookForCommit (71, .goto 4, 3) (gx_m 39 rfl)) ?_
                  refine gx_Jw (lv := [(0, gx_r 14 (some x0)), (1, gx_i s2), (3, gx_i s7.2)]) [0, 1, 3] rfl ?_
                  exact hj8 ((1 <<< (s7.2 &&& 31)) : Int32) trivial
        · refine gx_Jw (lv := []) [] rfl ?_
          exact gx_Jout hb1 (hj1 ())
theorem ct_X13_sync (Y : gx_Y) (x0 : gx_Nm) : gx_Ct Y yX13_sync (ws_ yX13_sync cX13_sync 3 (some .int)) 10 329 [gx_r 14 (some x0)] gx_Oi (f_X13_sync x0) := by
  refine gx_start (lv := [(0, gx_r 14 (some x0))]) gx_Oi_r pn_X13 (Nat.le_of_ble_eq_true rfl) rfl ?_
  unfold f_X13_sync
  refine gx_aload_n (pc := 0) (n := 0) (i := 0) rfl 0 rfl (htX13_sync (0, .aload_n 0, 1) (gx_m 0 rfl)) ?_
  refine gx_Jgs (pc := 1) (ci := 13) (kk := 2) (t2 := 15) (by decide) (by decide) rfl rfl rfl q548 (htX13_sync (1, .getfield 62, 3) (gx_m 1 rfl)) ?_
  refine gx_aload_n (pc := 4) (n := 0) (i := 0) rfl 0 rfl (htX13_sync (4, .aload_n 0, 1) (gx_m 2 rfl)) ?_
  refine gx_Jgs (pc := 5) (ci := 13) (kk := 2) (t2 := 15) (by decide) (by decide) rfl rfl rfl q548 (htX13_sync (5, .getfield 62, 3) (gx_m 3 rfl)) ?_
  refine gx_Jci (pc := 8) (gx_hst (as := []) (b := gx_r 15 (some (2 :: x0)))) (gx_runV (as := []) (ci := 14) (ct_X14_unsynced Y (2 :: x0)) (by decide) (Or.inl rfl) rfl rfl rfl rfl q1163 q1164 q1165 q114 q1166 rfl dd_X14_unsynced (by decide) (by decide) (Nat.le_of_ble_eq_true rfl) (htX13_sync (8, .invokevirtual 183, 3) (gx_m 4 rfl))) (fun v1 => ?_)
  refine gx_Jcv (pc := 11) (gx_hst (as := [gx_i v1]) (b := gx_r 15 (some (2 :: x0)))) (gx_runV (as := [gx_i v1]) (ci := 14) (ct_X14_keep Y (2 :: x0) v1) (by decide) (Or.inl rfl) rfl rfl rfl rfl q1249 q1250 q1251 q114 q1252 rfl dd_X14_keep (by decide) (by decide) (Nat.le_of_ble_eq_true rfl) (htX13_sync (11, .invokevirtual 151, 3) (gx_m 5 rfl))) ?_
  refine gx_iconst (pc := 14) (v := 0) (by decide) (htX13_sync (14, .iconst 0, 1) (gx_m 6 rfl)) ?_
  refine gx_istore_n (pc := 15) (n := 1) (i := 1) (lv' := [(1, gx_i 0), (0, gx_r 14 (some x0))]) rfl (by decide) rfl (htX13_sync (15, .istore_n 1, 1) (gx_m 7 rfl)) ?_
  refine gx_iconst (pc := 16) (v := 0) (by decide) (htX13_sync (16, .iconst 0, 1) (gx_m 8 rfl)) ?_
  refine gx_istore_n (pc := 17) (n := 2) (i := 2) (lv' := [(2, gx_i 0), (1, gx_i 0), (0, gx_r 14 (some x0))]) rfl (by decide) rfl (htX13_sync (17, .istore_n 2, 1) (gx_m 9 rfl)) ?_
  refine gx_Jjoin (pcJ := 56) (lvJ := fun (j6 : Int32) => [(0, gx_r 14 (some x0)), (1, gx_i j6)]) (stJ := fun (j6 : Int32) => []) (fun _ => True) (fun j6 _ => ?_) (fun kk1 hj1 => ?_)
  · refine gx_aload_n (pc := 56) (n := 0) (i := 0) rfl 0 rfl (htX13_sync (56, .aload_n 0, 1) (gx_m 28 rfl)) ?_
    refine gx_Jgs (pc := 57) (ci := 13) (kk := 6) (t2 := 12) (by decide) (by decide) rfl rfl rfl q556 (htX13_sync (57, .getfield 12, 3) (gx_m 29 rfl)) ?_
    refine gx_iconst (pc := 60) (v := 0) (by decide) (htX13_sync (60, .iconst 0, 1) (gx_m 30 rfl)) ?_
    refine gx_Jpi (pc := 61) (ci := 11) (kk := 1) (by decide) (Or.inl rfl) (by decide) rfl rfl q380 (Or.inl rfl) (htX13_sync (61, .putfield 76, 3) (gx_m 31 rfl)) ?_
    refine gx_aload_n (pc := 64) (n := 0) (i := 0) rfl 0 rfl (htX13_sync (64, .aload_n 0, 1) (gx_m 32 rfl)) ?_
    refine gx_Jgi (pc := 65) (ci := 13) (kk := 8) (by decide) (Or.inl rfl) (by decide) (by decide) q559 (htX13_sync (65, .getfield 113, 3) (gx_m 33 rfl)) (fun v7 hv7 => ?_)
    refine gx_iconst (pc := 68) (v := 2) (by decide) (htX13_sync (68, .iconst 2, 1) (gx_m 34 rfl)) ?_
    refine gx_Jjoin (pcJ := 92) (lvJ := fun (j_2 : Unit) => [(1, gx_i j6)]) (stJ := fun (j_2 : Unit) => []) (fun _ => True) (fun j_2 hj_2 => ?_) (fun kk2 hj2 => ?_)
    · refine gx_iload_n (pc := 92) (n := 1) (i := 1) rfl 0 rfl (htX13_sync (92, .iload_n 1, 1) (gx_m 46 rfl)) ?_
      exact gx_Jiret (pc := 93) rfl (fun _ => trivial) (fun _ _ => rfl) (htX13_sync (93, .ireturn, 1) (gx_m 47 rfl))
    · refine gx_icmp_ne (pc := 69) (tgt := 92) (by decide) (htX13_sync (69, .if_icmp .ne 23, 3) (gx_m 35 rfl)) (fun c3 => ?_) (fun c3 => ?_)
      · refine gx_aload_n (pc := 72) (n := 0) (i := 0) rfl 0 rfl (htX13_sync (72, .aload_n 0, 1) (gx_m 36 rfl)) ?_
        refine gx_Jgs (pc := 73) (ci := 13) (kk := 18) (t2 := 100) (by decide) (by decide) rfl rfl rfl q573 (htX13_sync (73, .getfield 31, 3) (gx_m 37 rfl)) ?_
        refine gx_aload_n (pc := 76) (n := 0) (i := 0) rfl 0 rfl (htX13_sync (76, .aload_n 0, 1) (gx_m 38 rfl)) ?_
        refine gx_Jgi (pc := 77) (ci := 13) (kk := 1) (by decide) (Or.inl rfl) (by decide) (by decide) q547 (htX13_sync (77, .getfield 47, 3) (gx_m 39 rfl)) (fun v8 hv8 => ?_)
        refine gx_aload_n (pc := 80) (n := 0) (i := 0) rfl 0 rfl (htX13_sync (80, .aload_n 0, 1) (gx_m 40 rfl)) ?_
        refine gx_Jgs (pc := 81) (ci := 13) (kk := 5) (t2 := 16) (by decide) (by decide) rfl rfl rfl q554 (htX13_sync (81, .getfield 69, 3) (gx_m 41 rfl)) ?_
        refine gx_Jci (pc := 84) (gx_hst (as := []) (b := gx_r 16 (some (5 :: x0)))) (gx_runV (as := []) (ci := 15) (ct_X15_last Y (5 :: x0)) (by decide) (Or.inl rfl) rfl rfl rfl rfl q1071 q1072 q1073 q115 q1074 rfl dd_X15_last (by decide) (by decide) (Nat.le_of_ble_eq_true rfl) (htX13_sync (84, .invokevirtual 198, 3) (gx_m 42 rfl))) (fun v9 => ?_)
        refine gx_Jis (pc := 87) (htX13_sync (87, .iastore, 1) (gx_m 43 rfl)) ?_
        refine gx_aload_n (pc := 88) (n := 0) (i := 0) rfl 0 rfl (htX13_sync (88, .aload_n 0, 1) (gx_m 44 rfl)) ?_
        refine gx_Jcv (pc := 89) (gx_hst (as := []) (b := gx_r 14 (some x0))) (gx_runV (as := []) (ci := 13) (ct_X13_lookForCommit Y x0) (by decide) (Or.inl rfl) rfl rfl rfl rfl q1267 q1269 qs18 q113 q1270 rfl dd_X13_lookForCommit (by decide) (by decide) (Nat.le_of_ble_eq_true rfl) (htX13_sync (89, .invokevirtual 201, 3) (gx_m 45 rfl))) ?_
        refine gx_Jw (lv := [(1, gx_i j6)]) [1] rfl ?_
        exact hj2 () trivial
      · refine gx_Jw (lv := [(1, gx_i j6)]) [1] rfl ?_
        exact hj2 () trivial
  · refine gx_Jw (lv := [(0, gx_r 14 (some x0)), (1, gx_i 0), (2, gx_i 0)]) [2, 1, 0] rfl ?_
    refine gx_Jlp (pc := 18) (lvh := fun (s2 : Int32 × Int32) => [(0, gx_r 14 (some x0)), (1, gx_i s2.1), (2, gx_i s2.2)]) (fun s2 kl1 ha1 hb1 => ?_) _
    unfold lb_X13_sync_1
    refine gx_iload_n (pc := 18) (n := 2) (i := 2) rfl 2 rfl (htX13_sync (18, .iload_n 2, 1) (gx_m 10 rfl)) ?_
    refine gx_aload_n (pc := 19) (n := 0) (i := 0) rfl 0 rfl (htX13_sync (19, .aload_n 0, 1) (gx_m 11 rfl)) ?_
    refine gx_Jgs (pc := 20) (ci := 13) (kk := 6) (t2 := 12) (by decide) (by decide) rfl rfl rfl q556 (htX13_sync (20, .getfield 12, 3) (gx_m 12 rfl)) ?_
    refine gx_Jgi (pc := 23) (ci := 11) (kk := 1) (by decide) (Or.inl rfl) (by decide) (by decide) q380 (htX13_sync (23, .getfield 76, 3) (gx_m 13 rfl)) (fun v3 hv3 => ?_)
    refine gx_icmp_ge (pc := 26) (tgt := 56) (by decide) (htX13_sync (26, .if_icmp .ge 30, 3) (gx_m 14 rfl)) (fun c4 => ?_) (fun c4 => ?_)
    · refine gx_Jw (lv := [(0, gx_r 14 (some x0)), (1, gx_i s2.1)]) [0, 1] rfl ?_
      exact gx_Jout hb1 (hj1 (s2.1 : Int32) trivial)
    · refine gx_iload_n (pc := 29) (n := 1) (i := 1) rfl 1 rfl (htX13_sync (29, .iload_n 1, 1) (gx_m 15 rfl)) ?_
      refine gx_aload_n (pc := 30) (n := 0) (i := 0) rfl 0 rfl (htX13_sync (30, .aload_n 0, 1) (gx_m 16 rfl)) ?_
      refine gx_Jgs (pc := 31) (ci := 13) (kk := 0) (t2 := 3) (by decide) (by decide) rfl rfl rfl q546 (htX13_sync (31, .getfield 43, 3) (gx_m 17 rfl)) ?_
      refine gx_Jgs (pc := 34) (ci := 2) (kk := 3) (t2 := 11) (by decide) (by decide) rfl rfl rfl q410 (htX13_sync (34, .getfield 79, 3) (gx_m 18 rfl)) ?_
      refine gx_aload_n (pc := 37) (n := 0) (i := 0) rfl 0 rfl (htX13_sync (37, .aload_n 0, 1) (gx_m 19 rfl)) ?_
      refine gx_Jgs (pc := 38) (ci := 13) (kk := 6) (t2 := 12) (by decide) (by decide) rfl rfl rfl q556 (htX13_sync (38, .getfield 12, 3) (gx_m 20 rfl)) ?_
      refine gx_iload_n (pc := 41) (n := 2) (i := 2) rfl 2 rfl (htX13_sync (41, .iload_n 2, 1) (gx_m 21 rfl)) ?_
      refine gx_Jcr (pc := 42) (t2 := 18) (gx_hst (as := [gx_i s2.2]) (b := gx_r 12 (some (6 :: x0)))) (gx_runV (as := [gx_i s2.2]) (ci := 11) (ct_X11_get Y (6 :: x0) s2.2) (by decide) (Or.inl rfl) rfl rfl rfl rfl q1263 q1264 q1265 q111 q1266 rfl dd_X11_get (by decide) (by decide) (Nat.le_of_ble_eq_true rfl) (htX13_sync (42, .invokevirtual 194, 3) (gx_m 22 rfl))) (fun v4 => ?_)
      refine gx_Jci (pc := 45) (gx_hst (as := [gx_r 18 (some v4)]) (b := gx_r 11 (some [3, 0, 1]))) (gx_runV (as := [gx_r 18 (some v4)]) (ci := 10) (ct_X10_send Y [3, 0, 1] v4) (by decide) (Or.inl rfl) rfl rfl rfl rfl q1168 q1169 q1170 q110 q1171 rfl dd_X10_send (by decide) (by decide) (Nat.le_of_ble_eq_true rfl) (htX13_sync (45, .invokevirtual 190, 3) (gx_m 23 rfl))) (fun v5 => ?_)
      refine gx_iadd (pc := 48) (htX13_sync (48, .iadd, 1) (gx_m 24 rfl)) ?_
      refine gx_istore_n (pc := 49) (n := 1) (i := 1) (lv' := [(1, gx_i (s2.1 + v5)), (0, gx_r 14 (some x0)), (2, gx_i s2.2)]) rfl (by decide) rfl (htX13_sync (49, .istore_n 1, 1) (gx_m 25 rfl)) ?_
      refine gx_iinc (pc := 50) (i := 2) (j := 2) (v := (s2.2 + 1)) (lv' := [(2, gx_i (s2.2 + 1)), (1, gx_i (s2.1 + v5)), (0, gx_r 14 (some x0))]) rfl (gx_iv (by decide)) (by decide) rfl (htX13_sync (50, .iinc 2 1, 3) (gx_m 26 rfl)) ?_
      refine gx_goto (pc := 53) (tgt := 18) (by decide) (htX13_sync (53, .goto (-35), 3) (gx_m 27 rfl)) ?_
      refine gx_Jw (lv := [(0, gx_r 14 (some x0)), (1, gx_i (s2.1 + v5)), (2, gx_i (s2.2 + 1))]) [2, 1, 0] rfl ?_
      exact ha1 (((s2.1 + v5) : Int32), ((s2.2 + 1) : Int32))
theorem ct_X13_fall (Y : gx_Y) (x0 : gx_Nm) (x1 : Int32) : gx_Ct Y yX13_fall (ws_ yX13_fall cX13_fall 2 none) 5 189 [gx_r 14 (some x0), gx_i x1] gx_Ov (f_X13_fall x0 x1) := by
  refine gx_start (lv := [(0, gx_r 14 (some x0)), (1, gx_i x1)]) gx_Ov_r pn_X13 (Nat.le_of_ble_eq_true rfl) rfl ?_
  unfold f_X13_fall
  refine gx_aload_n (pc := 0) (n := 0) (i := 0) rfl 0 rfl (htX13_fall (0, .aload_n 0, 1) (gx_m 0 rfl)) ?_
  refine gx_Jgs (pc := 1) (ci := 13) (kk := 2) (t2 := 15) (by decide) (by decide) rfl rfl rfl q548 (htX13_fall (1, .getfield 62, 3) (gx_m 1 rfl)) ?_
  refine gx_iload_n (pc := 4) (n := 1) (i := 1) rfl 1 rfl (htX13_fall (4, .iload_n 1, 1) (gx_m 2 rfl)) ?_
  refine gx_Jcv (pc := 5) (gx_hst (as := [gx_i x1]) (b := gx_r 15 (some (2 :: x0)))) (gx_runV (as := [gx_i x1]) (ci := 14) (ct_X14_keep Y (2 :: x0) x1) (by decide) (Or.inl rfl) rfl rfl rfl rfl q1249 q1250 q1251 q114 q1252 rfl dd_X14_keep (by decide) (by decide) (Nat.le_of_ble_eq_true rfl) (htX13_fall (5, .invokevirtual 151, 3) (gx_m 3 rfl))) ?_
  refine gx_Jjoin (pcJ := 38) (lvJ := fun (j_1 : Unit) => [(0, gx_r 14 (some x0))]) (stJ := fun (j_1 : Unit) => []) (fun _ => True) (fun j_1 _ => ?_) (fun kk1 hj1 => ?_)
  · refine gx_aload_n (pc := 38) (n := 0) (i := 0) rfl 0 rfl (htX13_fall (38, .aload_n 0, 1) (gx_m 16 rfl)) ?_
    refine gx_iconst (pc := 39) (v := 1) (by decide) (htX13_fall (39, .iconst 1, 1) (gx_m 17 rfl)) ?_
    refine gx_Jpz (pc := 40) (ci := 13) (kk := 7) (by decide) (Or.inl rfl) (by decide) rfl rfl gx_b1 q557 (Or.inl rfl) (htX13_fall (40, .putfield 96, 3) (gx_m 18 rfl)) ?_
    exact gx_Jvret (pc := 43) rfl (fun _ => trivial) (fun _ _ => rfl) (htX13_fall (43, .return_, 1) (gx_m 19 rfl))
  · refine gx_Jw (lv := [(0, gx_r 14 (some x0))]) [0] rfl ?_
    refine gx_Jlp (pc := 8) (lvh := fun (s1 : Unit) => [(0, gx_r 14 (some x0))]) (fun s1 kl1 ha1 hb1 => ?_) _
    unfold lb_X13_fall_1
    refine gx_aload_n (pc := 8) (n := 0) (i := 0) rfl 0 rfl (htX13_fall (8, .aload_n 0, 1) (gx_m 4 rfl)) ?_
    refine gx_Jgs (pc := 9) (ci := 13) (kk := 6) (t2 := 12) (by decide) (by decide) rfl rfl rfl q556 (htX13_fall (9, .getfield 12, 3) (gx_m 5 rfl)) ?_
    refine gx_Jgi (pc := 12) (ci := 11) (kk := 1) (by decide) (Or.inl rfl) (by decide) (by decide) q380 (htX13_fall (12, .getfield 76, 3) (gx_m 6 rfl)) (fun v2 hv2 => ?_)
    refine gx_if_le (pc := 15) (y := 0) (tgt := 38) (by decide) (htX13_fall (15, .ifCond .le 23, 3) (gx_m 7 rfl)) (fun c2 => ?_) (fun c2 => ?_)
    · exact gx_Jout hb1 (hj1 () trivial)
    · refine gx_aload_n (pc := 18) (n := 0) (i := 0) rfl 0 rfl (htX13_fall (18, .aload_n 0, 1) (gx_m 8 rfl)) ?_
      refine gx_Jgs (pc := 19) (ci := 13) (kk := 0) (t2 := 3) (by decide) (by decide) rfl rfl rfl q546 (htX13_fall (19, .getfield 43, 3) (gx_m 9 rfl)) ?_
      refine gx_Jgs (pc := 22) (ci := 2) (kk := 3) (t2 := 11) (by decide) (by decide) rfl rfl rfl q410 (htX13_fall (22, .getfield 79, 3) (gx_m 10 rfl)) ?_
      refine gx_aload_n (pc := 25) (n := 0) (i := 0) rfl 0 rfl (htX13_fall (25, .aload_n 0, 1) (gx_m 11 rfl)) ?_
      refine gx_Jgs (pc := 26) (ci := 13) (kk := 6) (t2 := 12) (by decide) (by decide) rfl rfl rfl q556 (htX13_fall (26, .getfield 12, 3) (gx_m 12 rfl)) ?_
      refine gx_Jcr (pc := 29) (t2 := 18) (gx_hst (as := []) (b := gx_r 12 (some (6 :: x0)))) (gx_runV (as := []) (ci := 11) (ct_X11_pop Y (6 :: x0)) (by decide) (Or.inl rfl) rfl rfl rfl rfl q842 q680 q681 q111 q682 rfl dd_X11_pop (by decide) (by decide) (Nat.le_of_ble_eq_true rfl) (htX13_fall (29, .invokevirtual 83, 3) (gx_m 13 rfl))) (fun v3 => ?_)
      refine gx_Jcv (pc := 32) (gx_hst (as := [gx_r 18 (some v3)]) (b := gx_r 11 (some [3, 0, 1]))) (gx_runV (as := [gx_r 18 (some v3)]) (ci := 10) (ct_X10_leave Y [3, 0, 1] v3) (by decide) (Or.inl rfl) rfl rfl rfl rfl q843 q844 q845 q110 q846 rfl dd_X10_leave (by decide) (by decide) (Nat.le_of_ble_eq_true rfl) (htX13_fall (32, .invokevirtual 87, 3) (gx_m 14 rfl))) ?_
      refine gx_goto (pc := 35) (tgt := 8) (by decide) (htX13_fall (35, .goto (-27), 3) (gx_m 15 rfl)) ?_
      exact ha1 ()
theorem ct_X13_wouldLead (Y : gx_Y) (x0 : gx_Nm) (x1 : gx_Nm) : gx_Ct Y yX13_wouldLead (ws_ yX13_wouldLead cX13_wouldLead 2 (some .boolean)) 2 123 [gx_r 14 (some x0), gx_r 18 (some x1)] gx_Oz (f_X13_wouldLead x0 x1) := by
  refine gx_start (lv := [(0, gx_r 14 (some x0)), (1, gx_r 18 (some x1))]) gx_Oz_r pn_X13 (Nat.le_of_ble_eq_true rfl) rfl ?_
  unfold f_X13_wouldLead
  refine gx_aload_n (pc := 0) (n := 1) (i := 1) rfl 1 rfl (htX13_wouldLead (0, .aload_n 1, 1) (gx_m 0 rfl)) ?_
  refine gx_Jgi (pc := 1) (ci := 17) (kk := 0) (by decide) (Or.inl rfl) (by decide) (by decide) q1115 (htX13_wouldLead (1, .getfield 157, 3) (gx_m 1 rfl)) (fun v1 hv1 => ?_)
  refine gx_iconst (pc := 4) (v := 2) (by decide) (htX13_wouldLead (4, .iconst 2, 1) (gx_m 2 rfl)) ?_
  refine gx_Jjoin (pcJ := 58) (lvJ := fun (j9 : Int32) => []) (stJ := fun (j9 : Int32) => [gx_i j9]) (fun (j9 : Int32) => j9 &&& 1 = j9) (fun j9 hj9 => ?_) (fun kk1 hj1 => ?_)
  · exact gx_Jzret (pc := 58) rfl hj9 (fun _ => hj9) (fun _ _ => rfl) (htX13_wouldLead (58, .ireturn, 1) (gx_m 30 rfl))
  · refine gx_icmp_ne (pc := 5) (tgt := 57) (by decide) (htX13_wouldLead (5, .if_icmp .ne 52, 3) (gx_m 3 rfl)) (fun c2 => ?_) (fun c2 => ?_)
    · refine gx_aload_n (pc := 8) (n := 0) (i := 0) rfl 0 rfl (htX13_wouldLead (8, .aload_n 0, 1) (gx_m 4 rfl)) ?_
      refine gx_Jgi (pc := 9) (ci := 13) (kk := 8) (by decide) (Or.inl rfl) (by decide) (by decide) q559 (htX13_wouldLead (9, .getfield 113, 3) (gx_m 5 rfl)) (fun v2 hv2 => ?_)
      refine gx_iconst (pc := 12) (v := 1) (by decide) (htX13_wouldLead (12, .iconst 1, 1) (gx_m 6 rfl)) ?_
      refine gx_icmp_ne (pc := 13) (tgt := 57) (by decide) (htX13_wouldLead (13, .if_icmp .ne 44, 3) (gx_m 7 rfl)) (fun c3 => ?_) (fun c3 => ?_)
      · refine gx_aload_n (pc := 16) (n := 1) (i := 1) rfl 1 rfl (htX13_wouldLead (16, .aload_n 1, 1) (gx_m 8 rfl)) ?_
        refine gx_Jgi (pc := 17) (ci := 17) (kk := 3) (by decide) (Or.inl rfl) (by decide) (by decide) q1121 (htX13_wouldLead (17, .getfield 168, 3) (gx_m 9 rfl)) (fun v3 hv3 => ?_)
        refine gx_aload_n (pc := 20) (n := 0) (i := 0) rfl 0 rfl (htX13_wouldLead (20, .aload_n 0, 1) (gx_m 10 rfl)) ?_
        refine gx_Jgi (pc := 21) (ci := 13) (kk := 3) (by decide) (Or.inl rfl) (by decide) (by decide) q550 (htX13_wouldLead (21, .getfield 103, 3) (gx_m 11 rfl)) (fun v4 hv4 => ?_)
        refine gx_icmp_ne (pc := 24) (tgt := 57) (by decide) (htX13_wouldLead (24, .if_icmp .ne 33, 3) (gx_m 12 rfl)) (fun c4 => ?_) (fun c4 => ?_)
        · refine gx_aload_n (pc := 27) (n := 1) (i := 1) rfl 1 rfl (htX13_wouldLead (27, .aload_n 1, 1) (gx_m 13 rfl)) ?_
          refine gx_Jgi (pc := 28) (ci := 17) (kk := 5) (by decide) (Or.inl rfl) (by decide) (by decide) q1125 (htX13_wouldLead (28, .getfield 172, 3) (gx_m 14 rfl)) (fun v5 hv5 => ?_)
          refine gx_iconst (pc := 31) (v := 1) (by decide) (htX13_wouldLead (31, .iconst 1, 1) (gx_m 15 rfl)) ?_
          refine gx_icmp_ne (pc := 32) (tgt := 57) (by decide) (htX13_wouldLead (32, .if_icmp .ne 25, 3) (gx_m 16 rfl)) (fun c5 => ?_) (fun c5 => ?_)
          · refine gx_aload_n (pc := 35) (n := 0) (i := 0) rfl 0 rfl (htX13_wouldLead (35, .aload_n 0, 1) (gx_m 17 rfl)) ?_
            refine gx_aload_n (pc := 36) (n := 0) (i := 0) rfl 0 rfl (htX13_wouldLead (36, .aload_n 0, 1) (gx_m 18 rfl)) ?_
            refine gx_Jgi (pc := 37) (ci := 13) (kk := 15) (by decide) (Or.inl rfl) (by decide) (by decide) q570 (htX13_wouldLead (37, .getfield 122, 3) (gx_m 19 rfl)) (fun v6 hv6 => ?_)
            refine gx_iconst (pc := 40) (v := 1) (by decide) (htX13_wouldLead (40, .iconst 1, 1) (gx_m 20 rfl)) ?_
            refine gx_aload_n (pc := 41) (n := 1) (i := 1) rfl 1 rfl (htX13_wouldLead (41, .aload_n 1, 1) (gx_m 21 rfl)) ?_
            refine gx_Jgi (pc := 42) (ci := 17) (kk := 1) (by decide) (Or.inl rfl) (by decide) (by decide) q1117 (htX13_wouldLead (42, .getfield 162, 3) (gx_m 22 rfl)) (fun v7 hv7 => ?_)
            refine gx_ishl (pc := 45) (htX13_wouldLead (45, .ishl, 1) (gx_m 23 rfl)) ?_
            refine gx_ior (pc := 46) (htX13_wouldLead (46, .ior, 1) (gx_m 24 rfl)) ?_
            refine gx_Jcz (pc := 47) (gx_hst (as := [gx_i (v6 ||| (1 <<< (v7 &&& 31)))]) (b := gx_r 14 (some x0))) (gx_runV (as := [gx_i (v6 ||| (1 <<< (v7 &&& 31)))]) (ci := 13) (ct_X13_isMajority Y x0 (v6 ||| (1 <<< (v7 &&& 31)))) (by decide) (Or.inl rfl) rfl rfl rfl rfl q1207 q1209 qs16 q113 q1210 rfl dd_X13_isMajority (by decide) (by decide) (Nat.le_of_ble_eq_true rfl) (htX13_wouldLead (47, .invokevirtual 223, 3) (gx_m 25 rfl))) (fun v8 hv8 => ?_)
            refine gx_if_eq (pc := 50) (y := 0) (tgt := 57) (by decide) (htX13_wouldLead (50, .ifCond .eq 7, 3) (gx_m 26 rfl)) (fun c6 => ?_) (fun c6 => ?_)
            · refine gx_iconst (pc := 57) (v := 0) (by decide) (htX13_wouldLead (57, .iconst 0, 1) (gx_m 29 rfl)) ?_
              refine gx_Jw (lv := []) [] rfl ?_
              exact hj1 (0 : Int32) gx_b0
            · refine gx_iconst (pc := 53) (v := 1) (by decide) (htX13_wouldLead (53, .iconst 1, 1) (gx_m 27 rfl)) ?_
              refine gx_goto (pc := 54) (tgt := 58) (by decide) (htX13_wouldLead (54, .goto 4, 3) (gx_m 28 rfl)) ?_
              refine gx_Jw (lv := []) [] rfl ?_
              exact hj1 (1 : Int32) gx_b1
          · refine gx_iconst (pc := 57) (v := 0) (by decide) (htX13_wouldLead (57, .iconst 0, 1) (gx_m 29 rfl)) ?_
            refine gx_Jw (lv := []) [] rfl ?_
            exact hj1 (0 : Int32) gx_b0
        · refine gx_iconst (pc := 57) (v := 0) (by decide) (htX13_wouldLead (57, .iconst 0, 1) (gx_m 29 rfl)) ?_
          refine gx_Jw (lv := []) [] rfl ?_
          exact hj1 (0 : Int32) gx_b0
      · refine gx_iconst (pc := 57) (v := 0) (by decide) (htX13_wouldLead (57, .iconst 0, 1) (gx_m 29 rfl)) ?_
        refine gx_Jw (lv := []) [] rfl ?_
        exact hj1 (0 : Int32) gx_b0
    · refine gx_iconst (pc := 57) (v := 0) (by decide) (htX13_wouldLead (57, .iconst 0, 1) (gx_m 29 rfl)) ?_
      refine gx_Jw (lv := []) [] rfl ?_
      exact hj1 (0 : Int32) gx_b0
theorem ct_X11_remove (Y : gx_Y) (x0 : gx_Nm) (x1 : Int32) : gx_Ct Y yX11_remove (ws_ yX11_remove cX11_remove 4 (some (.object "CouncilStore$Message"))) 1 100 [gx_r 12 (some x0), gx_i x1] (gx_Or Y 18) (f_X11_remove x0 x1) := by
  refine gx_start (lv := [(0, gx_r 12 (some x0)), (1, gx_i x1)]) gx_Or_r pn_X11 (Nat.le_of_ble_eq_true rfl) rfl ?_
  unfold f_X11_remove
  refine gx_aload_n (pc := 0) (n := 0) (i := 0) rfl 0 rfl (htX11_remove (0, .aload_n 0, 1) (gx_m 0 rfl)) ?_
  refine gx_Jgr (pc := 1) (ci := 11) (kk := 0) (t2 := 108) (by decide) (Or.inl rfl) (by decide) rfl rfl q378 (htX11_remove (1, .getfield 9, 3) (gx_m 1 rfl)) (fun v1 => ?_)
  refine gx_iload_n (pc := 4) (n := 1) (i := 1) rfl 1 rfl (htX11_remove (4, .iload_n 1, 1) (gx_m 2 rfl)) ?_
  refine gx_Jra (pc := 5) (t := 8) (t2 := 18) (by decide) (by decide) rfl (htX11_remove (5, .aaload, 1) (gx_m 3 rfl)) (fun v2 => ?_)
  refine gx_astore_n (pc := 6) (n := 2) (i := 2) (lv' := [(2, gx_r 18 (some v2)), (0, gx_r 12 (some x0)), (1, gx_i x1)]) rfl (by decide) rfl (htX11_remove (6, .astore_n 2, 1) (gx_m 4 rfl)) ?_
  refine gx_iload_n (pc := 7) (n := 1) (i := 1) rfl 2 rfl (htX11_remove (7, .iload_n 1, 1) (gx_m 5 rfl)) ?_
  refine gx_istore_n (pc := 8) (n := 3) (i := 3) (lv' := [(3, gx_i x1), (2, gx_r 18 (some v2)), (0, gx_r 12 (some x0)), (1, gx_i x1)]) rfl (by decide) rfl (htX11_remove (8, .istore_n 3, 1) (gx_m 6 rfl)) ?_
  refine gx_Jjoin (pcJ := 39) (lvJ := fun (j_1 : Unit) => [(0, gx_r 12 (some x0)), (2, gx_r 18 (some v2))]) (stJ := fun (j_1 : Unit) => []) (fun _ => True) (fun j_1 _ => ?_) (fun kk1 hj1 => ?_)
  · refine gx_aload_n (pc := 39) (n := 0) (i := 0) rfl 0 rfl (htX11_remove (39, .aload_n 0, 1) (gx_m 25 rfl)) ?_
    refine gx_dup (pc := 40) rfl (htX11_remove (40, .dup, 1) (gx_m 26 rfl)) ?_
    refine gx_Jgi (pc := 41) (ci := 11) (kk := 1) (by decide) (Or.inl rfl) (by decide) (by decide) q381 (htX11_remove (41, .getfield 15, 3) (gx_m 27 rfl)) (fun v8 hv8 => ?_)
    refine gx_iconst (pc := 44) (v := 1) (by decide) (htX11_remove (44, .iconst 1, 1) (gx_m 28 rfl)) ?_
    refine gx_isub (pc := 45) (htX11_remove (45, .isub, 1) (gx_m 29 rfl)) ?_
    refine gx_Jpi (pc := 46) (ci := 11) (kk := 1) (by decide) (Or.inl rfl) (by decide) rfl rfl q381 (Or.inl rfl) (htX11_remove (46, .putfield 15, 3) (gx_m 30 rfl)) ?_
    refine gx_aload_n (pc := 49) (n := 2) (i := 2) rfl 1 rfl (htX11_remove (49, .aload_n 2, 1) (gx_m 31 rfl)) ?_
    exact gx_Jaret (pc := 50) rfl (Or.inl ⟨_, rfl⟩) (fun _ h => h) (fun _ _ => rfl) (htX11_remove (50, .areturn, 1) (gx_m 32 rfl))
  · refine gx_Jw (lv := [(0, gx_r 12 (some x0)), (2, gx_r 18 (some v2)), (3, gx_i x1)]) [2, 1, 0] rfl ?_
    refine gx_Jlp (pc := 9) (lvh := fun (s3 : Int32) => [(0, gx_r 12 (some x0)), (2, gx_r 18 (some v2)), (3, gx_i s3)]) (fun s3 kl1 ha1 hb1 => ?_) _
    unfold lb_X11_remove_1
    refine gx_iload_n (pc := 9) (n := 3) (i := 3) rfl 2 rfl (htX11_remove (9, .iload_n 3, 1) (gx_m 7 rfl)) ?_
    refine gx_iconst (pc := 10) (v := 1) (by decide) (htX11_remove (10, .iconst 1, 1) (gx_m 8 rfl)) ?_
    refine gx_iadd (pc := 11) (htX11_remove (11, .iadd, 1) (gx_m 9 rfl)) ?_
    refine gx_aload_n (pc := 12) (n := 0) (i := 0) rfl 0 rfl (htX11_remove (12, .aload_n 0, 1) (gx_m 10 rfl)) ?_
    refine gx_Jgi (pc := 13) (ci := 11) (kk := 1) (by decide) (Or.inl rfl) (by decide) (by decide) q381 (htX11_remove (13, .getfield 15, 3) (gx_m 11 rfl)) (fun v4 hv4 => ?_)
    refine gx_icmp_ge (pc := 16) (tgt := 39) (by decide) (htX11_remove (16, .if_icmp .ge 23, 3) (gx_m 12 rfl)) (fun c2 => ?_) (fun c2 => ?_)
    · refine gx_Jw (lv := [(0, gx_r 12 (some x0)), (2, gx_r 18 (some v2))]) [0, 1] rfl ?_
      exact gx_Jout hb1 (hj1 () trivial)
    · refine gx_aload_n (pc := 19) (n := 0) (i := 0) rfl 0 rfl (htX11_remove (19, .aload_n 0, 1) (gx_m 13 rfl)) ?_
      refine gx_Jgr (pc := 20) (ci := 11) (kk := 0) (t2 := 108) (by decide) (Or.inl rfl) (by decide) rfl rfl q378 (htX11_remove (20, .getfield 9, 3) (gx_m 14 rfl)) (fun v5 => ?_)
      refine gx_iload_n (pc := 23) (n := 3) (i := 3) rfl 2 rfl (htX11_remove (23, .iload_n 3, 1) (gx_m 15 rfl)) ?_
      refine gx_aload_n (pc := 24) (n := 0) (i := 0) rfl 0 rfl (htX11_remove (24, .aload_n 0, 1) (gx_m 16 rfl)) ?_
      refine gx_Jgr (pc := 25) (ci := 11) (kk := 0) (t2 := 108) (by decide) (Or.inl rfl) (by decide) rfl rfl q378 (htX11_remove (25, .getfield 9, 3) (gx_m 17 rfl)) (fun v6 => ?_)
      refine gx_iload_n (pc := 28) (n := 3) (i := 3) rfl 2 rfl (htX11_remove (28, .iload_n 3, 1) (gx_m 18 rfl)) ?_
      refine gx_iconst (pc := 29) (v := 1) (by decide) (htX11_remove (29, .iconst 1, 1) (gx_m 19 rfl)) ?_
      refine gx_iadd (pc := 30) (htX11_remove (30, .iadd, 1) (gx_m 20 rfl)) ?_
      refine gx_Jra (pc := 31) (t := 8) (t2 := 18) (by decide) (by decide) rfl (htX11_remove (31, .aaload, 1) (gx_m 21 rfl)) (fun v7 => ?_)
      refine gx_Jrs (pc := 32) (t := 8) (ci := 17) (by decide) (by decide) rfl (by decide) rfl rfl (htX11_remove (32, .aastore, 1) (gx_m 22 rfl)) ?_
      refine gx_iinc (pc := 33) (i := 3) (j := 2) (v := (s3 + 1)) (lv' := [(3, gx_i (s3 + 1)), (0, gx_r 12 (some x0)), (2, gx_r 18 (some v2))]) rfl (gx_iv (by decide)) (by decide) rfl (htX11_remove (33, .iinc 3 1, 3) (gx_m 23 rfl)) ?_
      refine gx_goto (pc := 36) (tgt := 9) (by decide) (htX11_remove (36, .goto (-27), 3) (gx_m 24 rfl)) ?_
      refine gx_Jw (lv := [(0, gx_r 12 (some x0)), (2, gx_r 18 (some v2)), (3, gx_i (s3 + 1))]) [1, 2, 0] rfl ?_
      exact ha1 ((s3 + 1) : Int32)
theorem ct_X13_follow (Y : gx_Y) (x0 : gx_Nm) (x1 : Int32) : gx_Ct Y yX13_follow (ws_ yX13_follow cX13_follow 2 none) 2 120 [gx_r 14 (some x0), gx_i x1] gx_Ov (f_X13_follow x0 x1) := by
  refine gx_start (lv := [(0, gx_r 14 (some x0)), (1, gx_i x1)]) gx_Ov_r pn_X13 (Nat.le_of_ble_eq_true rfl) rfl ?_
  unfold f_X13_follow
  refine gx_aload_n (pc := 0) (n := 0) (i := 0) rfl 0 rfl (htX13_follow (0, .aload_n 0, 1) (gx_m 0 rfl)) ?_
  refine gx_Jgi (pc := 1) (ci := 13) (kk := 8) (by decide) (Or.inl rfl) (by decide) (by decide) q559 (htX13_follow (1, .getfield 113, 3) (gx_m 1 rfl)) (fun v1 hv1 => ?_)
  refine gx_iconst (pc := 4) (v := 2) (by decide) (htX13_follow (4, .iconst 2, 1) (gx_m 2 rfl)) ?_
  refine gx_Jjoin (pcJ := 12) (lvJ := fun (j_1 : Unit) => [(0, gx_r 14 (some x0)), (1, gx_i x1)]) (stJ := fun (j_1 : Unit) => []) (fun _ => True) (fun j_1 hj_1 => ?_) (fun kk1 hj1 => ?_)
  · refine gx_aload_n (pc := 12) (n := 0) (i := 0) rfl 0 rfl (htX13_follow (12, .aload_n 0, 1) (gx_m 6 rfl)) ?_
    refine gx_iconst (pc := 13) (v := 0) (by decide) (htX13_follow (13, .iconst 0, 1) (gx_m 7 rfl)) ?_
    refine gx_Jpi (pc := 14) (ci := 13) (kk := 8) (by decide) (Or.inl rfl) (by decide) rfl rfl q559 (Or.inl rfl) (htX13_follow (14, .putfield 113, 3) (gx_m 8 rfl)) ?_
    refine gx_aload_n (pc := 17) (n := 0) (i := 0) rfl 0 rfl (htX13_follow (17, .aload_n 0, 1) (gx_m 9 rfl)) ?_
    refine gx_iload_n (pc := 18) (n := 1) (i := 1) rfl 1 rfl (htX13_follow (18, .iload_n 1, 1) (gx_m 10 rfl)) ?_
    refine gx_Jpi (pc := 19) (ci := 13) (kk := 9) (by decide) (Or.inl rfl) (by decide) rfl rfl q561 (Or.inl rfl) (htX13_follow (19, .putfield 116, 3) (gx_m 11 rfl)) ?_
    exact gx_Jvret (pc := 22) rfl (fun _ => trivial) (fun _ _ => rfl) (htX13_follow (22, .return_, 1) (gx_m 12 rfl))
  · refine gx_icmp_ne (pc := 5) (tgt := 12) (by decide) (htX13_follow (5, .if_icmp .ne 7, 3) (gx_m 3 rfl)) (fun c2 => ?_) (fun c2 => ?_)
    · refine gx_aload_n (pc := 8) (n := 0) (i := 0) rfl 0 rfl (htX13_follow (8, .aload_n 0, 1) (gx_m 4 rfl)) ?_
      refine gx_Jcv (pc := 9) (gx_hst (as := []) (b := gx_r 14 (some x0))) (gx_runV (as := []) (ci := 13) (ct_X13_forgetReads Y x0) (by decide) (Or.inl rfl) rfl rfl rfl rfl q866 q868 qs3 q113 q869 rfl dd_X13_forgetReads (by decide) (by decide) (Nat.le_of_ble_eq_true rfl) (htX13_follow (9, .invokevirtual 125, 3) (gx_m 5 rfl))) ?_
      exact hj1 () trivial
    · exact hj1 () trivial
theorem ct_X13_asked (Y : gx_Y) (x0 : gx_Nm) (x1 : gx_Nm) : gx_Ct Y yX13_asked (ws_ yX13_asked cX13_asked 6 none) 5 190 [gx_r 14 (some x0), gx_r 18 (some x1)] gx_Ov (f_X13_asked x0 x1) := by
  refine gx_start (lv := [(0, gx_r 14 (some x0)), (1, gx_r 18 (some x1))]) gx_Ov_r pn_X13 (Nat.le_of_ble_eq_true rfl) rfl ?_
  unfold f_X13_asked
  refine gx_aload_n (pc := 0) (n := 0) (i := 0) rfl 0 rfl (htX13_asked (0, .aload_n 0, 1) (gx_m 0 rfl)) ?_
  refine gx_Jgs (pc := 1) (ci := 13) (kk := 5) (t2 := 16) (by decide) (by decide) rfl rfl rfl q554 (htX13_asked (1, .getfield 69, 3) (gx_m 1 rfl)) ?_
  refine gx_Jci (pc := 4) (gx_hst (as := []) (b := gx_r 16 (some (5 :: x0)))) (gx_runV (as := []) (ci := 15) (ct_X15_lastTerm Y (5 :: x0)) (by decide) (Or.inl rfl) rfl rfl rfl rfl q1201 q1202 q1203 q115 q1204 rfl dd_X15_lastTerm (by decide) (by decide) (Nat.le_of_ble_eq_true rfl) (htX13_asked (4, .invokevirtual 218, 3) (gx_m 2 rfl))) (fun v1 => ?_)
  refine gx_istore_n (pc := 7) (n := 2) (i := 2) (lv' := [(2, gx_i v1), (0, gx_r 14 (some x0)), (1, gx_r 18 (some x1))]) rfl (by decide) rfl (htX13_asked (7, .istore_n 2, 1) (gx_m 3 rfl)) ?_
  refine gx_aload_n (pc := 8) (n := 1) (i := 1) rfl 2 rfl (htX13_asked (8, .aload_n 1, 1) (gx_m 4 rfl)) ?_
  refine gx_Jgi (pc := 9) (ci := 17) (kk := 5) (by decide) (Or.inl rfl) (by decide) (by decide) q1125 (htX13_asked (9, .getfield 172, 3) (gx_m 5 rfl)) (fun v2 hv2 => ?_)
  refine gx_iload_n (pc := 12) (n := 2) (i := 2) rfl 0 rfl (htX13_asked (12, .iload_n 2, 1) (gx_m 6 rfl)) ?_
  refine gx_Jjoin (pcJ := 43) (lvJ := fun (j6 : Int32) => [(0, gx_r 14 (some x0)), (1, gx_r 18 (some x1))]) (stJ := fun (j6 : Int32) => [gx_i j6]) (fun (j6 : Int32) => j6 &&& 1 = j6) (fun j6 hj6 => ?_) (fun kk1 hj1 => ?_)
  · refine gx_istore_n (pc := 43) (n := 3) (i := 3) (lv' := [(3, gx_i j6), (0, gx_r 14 (some x0)), (1, gx_r 18 (some x1))]) rfl (by decide) rfl (htX13_asked (43, .istore_n 3, 1) (gx_m 21 rfl)) ?_
    refine gx_aload_n (pc := 44) (n := 1) (i := 1) rfl 2 rfl (htX13_asked (44, .aload_n 1, 1) (gx_m 22 rfl)) ?_
    refine gx_Jgi (pc := 45) (ci := 17) (kk := 3) (by decide) (Or.inl rfl) (by decide) (by decide) q1121 (htX13_asked (45, .getfield 168, 3) (gx_m 23 rfl)) (fun v7 hv7 => ?_)
    refine gx_aload_n (pc := 48) (n := 0) (i := 0) rfl 1 rfl (htX13_asked (48, .aload_n 0, 1) (gx_m 24 rfl)) ?_
    refine gx_Jgi (pc := 49) (ci := 13) (kk := 3) (by decide) (Or.inl rfl) (by decide) (by decide) q550 (htX13_asked (49, .getfield 103, 3) (gx_m 25 rfl)) (fun v8 hv8 => ?_)
    refine gx_Jjoin (pcJ := 83) (lvJ := fun (j12 : Int32) => [(0, gx_r 14 (some x0)), (1, gx_r 18 (some x1))]) (stJ := fun (j12 : Int32) => [gx_i j12]) (fun (j12 : Int32) => j12 &&& 1 = j12) (fun j12 hj12 => ?_) (fun kk2 hj2 => ?_)
    · refine gx_istore (pc := 83) (i := 4) (lv' := [(4, gx_i j12), (0, gx_r 14 (some x0)), (1, gx_r 18 (some x1))]) (by decide) rfl (htX13_asked (83, .istore 4, 2) (gx_m 41 rfl)) ?_
      refine gx_iload (pc := 85) (i := 4) 0 rfl (htX13_asked (85, .iload 4, 2) (gx_m 42 rfl)) ?_
      refine gx_Jjoin (pcJ := 110) (lvJ := fun (j_3 : Unit) => [(0, gx_r 14 (some x0)), (1, gx_r 18 (some x1)), (4, gx_i j12)]) (stJ := fun (j_3 : Unit) => []) (fun _ => True) (fun j_3 hj_3 => ?_) (fun kk3 hj3 => ?_)
      · refine gx_aload_n (pc := 110) (n := 0) (i := 0) rfl 0 rfl (htX13_asked (110, .aload_n 0, 1) (gx_m 54 rfl)) ?_
        refine gx_iconst (pc := 111) (v := 2) (by decide) (htX13_asked (111, .iconst 2, 1) (gx_m 55 rfl)) ?_
        refine gx_aload_n (pc := 112) (n := 1) (i := 1) rfl 1 rfl (htX13_asked (112, .aload_n 1, 1) (gx_m 56 rfl)) ?_
        refine gx_Jgi (pc := 113) (ci := 17) (kk := 1) (by decide) (Or.inl rfl) (by decide) (by decide) q1117 (htX13_asked (113, .getfield 162, 3) (gx_m 57 rfl)) (fun v16 hv16 => ?_)
        refine gx_Jcr (pc := 116) (t2 := 18) (gx_hst (as := [gx_i 2, gx_i v16]) (b := gx_r 14 (some x0))) (gx_runV (as := [gx_i 2, gx_i v16]) (ci := 13) (ct_X13_message Y x0 2 v16) (by decide) (Or.inl rfl) rfl rfl rfl rfl q1101 q1103 qs13 q113 q1104 rfl dd_X13_message (by decide) (by decide) (Nat.le_of_ble_eq_true rfl) (htX13_asked (116, .invokevirtual 214, 3) (gx_m 58 rfl))) (fun v17 => ?_)
        refine gx_astore (pc := 119) (i := 5) (lv' := [(5, gx_r 18 (some v17)), (0, gx_r 14 (some x0)), (1, gx_r 18 (some x1)), (4, gx_i j12)]) (by decide) rfl (htX13_asked (119, .astore 5, 2) (gx_m 59 rfl)) ?_
        refine gx_aload (pc := 121) (i := 5) 0 rfl (htX13_asked (121, .aload 5, 2) (gx_m 60 rfl)) ?_
        refine gx_iload (pc := 123) (i := 4) 3 rfl (htX13_asked (123, .iload 4, 2) (gx_m 61 rfl)) ?_
        refine gx_Jjoin (pcJ := 133) (lvJ := fun (j18 : Int32) => [(0, gx_r 14 (some x0)), (5, gx_r 18 (some v17))]) (stJ := fun (j18 : Int32) => [gx_i j18, gx_r 18 (some v17)]) (fun (j18 : Int32) => j18 &&& 1 = j18) (fun j18 hj18 => ?_) (fun kk4 hj4 => ?_)
        · refine gx_Jpi (pc := 133) (ci := 17) (kk := 5) (by decide) (Or.inl rfl) (by decide) rfl rfl q1125 (Or.inl rfl) (htX13_asked (133, .putfield 172, 3) (gx_m 66 rfl)) ?_
          refine gx_aload_n (pc := 136) (n := 0) (i := 0) rfl 0 rfl (htX13_asked (136, .aload_n 0, 1) (gx_m 67 rfl)) ?_
          refine gx_aload (pc := 137) (i := 5) 1 rfl (htX13_asked (137, .aload 5, 2) (gx_m 68 rfl)) ?_
          refine gx_Jcv (pc := 139) (gx_hst (as := [gx_r 18 (some v17)]) (b := gx_r 14 (some x0))) (gx_runV (as := [gx_r 18 (some v17)]) (ci := 13) (ct_X13_send Y x0 v17) (by decide) (Or.inl rfl) rfl rfl rfl rfl q1159 q1161 qs14 q113 q1162 rfl dd_X13_send (by decide) (by decide) (Nat.le_of_ble_eq_true rfl) (htX13_asked (139, .invokevirtual 221, 3) (gx_m 69 rfl))) ?_
          exact gx_Jvret (pc := 142) rfl (fun _ => trivial) (fun _ _ => rfl) (htX13_asked (142, .return_, 1) (gx_m 70 rfl))
        · refine gx_if_eq (pc := 125) (y := 0) (tgt := 132) (by decide) (htX13_asked (125, .ifCond .eq 7, 3) (gx_m 62 rfl)) (fun c5 => ?_) (fun c5 => ?_)
          · refine gx_iconst (pc := 132) (v := 0) (by decide) (htX13_asked (132, .iconst 0, 1) (gx_m 65 rfl)) ?_
            refine gx_Jw (lv := [(0, gx_r 14 (some x0)), (5, gx_r 18 (some v17))]) [1, 0] rfl ?_
            exact hj4 (0 : Int32) gx_b0
          · refine gx_iconst (pc := 128) (v := 1) (by decide) (htX13_asked (128, .iconst 1, 1) (gx_m 63 rfl)) ?_
            refine gx_goto (pc := 129) (tgt := 133) (by decide) (htX13_asked (129, .goto 4, 3) (gx_m 64 rfl)) ?_
            refine gx_Jw (lv := [(0, gx_r 14 (some x0)), (5, gx_r 18 (some v17))]) [1, 0] rfl ?_
            exact hj4 (1 : Int32) gx_b1
      · refine gx_if_eq (pc := 87) (y := 0) (tgt := 110) (by decide) (htX13_asked (87, .ifCond .eq 23, 3) (gx_m 43 rfl)) (fun c6 => ?_) (fun c6 => ?_)
        · refine gx_Jw (lv := [(0, gx_r 14 (some x0)), (1, gx_r 18 (some x1)), (4, gx_i j12)]) [1, 2, 0] rfl ?_
          exact hj3 () trivial
        · refine gx_aload_n (pc := 90) (n := 0) (i := 0) rfl 1 rfl (htX13_asked (90, .aload_n 0, 1) (gx_m 44 rfl)) ?_
          refine gx_Jgi (pc := 91) (ci := 13) (kk := 4) (by decide) (Or.inl rfl) (by decide) (by decide) q552 (htX13_asked (91, .getfield 107, 3) (gx_m 45 rfl)) (fun v13 hv13 => ?_)
          refine gx_iconst (pc := 94) (v := (-1)) (by decide) (htX13_asked (94, .iconst (-1), 1) (gx_m 46 rfl)) ?_
          refine gx_icmp_ne (pc := 95) (tgt := 110) (by decide) (htX13_asked (95, .if_icmp .ne 15, 3) (gx_m 47 rfl)) (fun c7 => ?_) (fun c7 => ?_)
          · refine gx_aload_n (pc := 98) (n := 0) (i := 0) rfl 1 rfl (htX13_asked (98, .aload_n 0, 1) (gx_m 48 rfl)) ?_
            refine gx_aload_n (pc := 99) (n := 0) (i := 0) rfl 1 rfl (htX13_asked (99, .aload_n 0, 1) (gx_m 49 rfl)) ?_
            refine gx_Jgi (pc := 100) (ci := 13) (kk := 3) (by decide) (Or.inl rfl) (by decide) (by decide) q550 (htX13_asked (100, .getfield 103, 3) (gx_m 50 rfl)) (fun v14 hv14 => ?_)
            refine gx_aload_n (pc := 103) (n := 1) (i := 1) rfl 2 rfl (htX13_asked (103, .aload_n 1, 1) (gx_m 51 rfl)) ?_
            refine gx_Jgi (pc := 104) (ci := 17) (kk := 1) (by decide) (Or.inl rfl) (by decide) (by decide) q1117 (htX13_asked (104, .getfield 162, 3) (gx_m 52 rfl)) (fun v15 hv15 => ?_)
            refine gx_Jcv (pc := 107) (gx_hst (as := [gx_i v14, gx_i v15]) (b := gx_r 14 (some x0))) (gx_runV (as := [gx_i v14, gx_i v15]) (ci := 13) (ct_X13_setTerm Y x0 v14 v15) (by decide) (Or.inl rfl) rfl rfl rfl rfl q1193 q1195 qs15 q113 q1196 rfl dd_X13_setTerm (by decide) (by decide) (Nat.le_of_ble_eq_true rfl) (htX13_asked (107, .invokevirtual 208, 3) (gx_m 53 rfl))) ?_
            refine gx_Jw (lv := [(0, gx_r 14 (some x0)), (1, gx_r 18 (some x1)), (4, gx_i j12)]) [1, 2, 0] rfl ?_
            exact hj3 () trivial
          · refine gx_Jw (lv := [(0, gx_r 14 (some x0)), (1, gx_r 18 (some x1)), (4, gx_i j12)]) [1, 2, 0] rfl ?_
            exact hj3 () trivial
    · refine gx_icmp_ne (pc := 52) (tgt := 82) (by decide) (htX13_asked (52, .if_icmp .ne 30, 3) (gx_m 26 rfl)) (fun c8 => ?_) (fun c8 => ?_)
      · refine gx_aload_n (pc := 55) (n := 0) (i := 0) rfl 1 rfl (htX13_asked (55, .aload_n 0, 1) (gx_m 27 rfl)) ?_
        refine gx_Jgi (pc := 56) (ci := 13) (kk := 4) (by decide) (Or.inl rfl) (by decide) (by decide) q552 (htX13_asked (56, .getfield 107, 3) (gx_m 28 rfl)) (fun v9 hv9 => ?_)
        refine gx_iconst (pc := 59) (v := (-1)) (by decide) (htX13_asked (59, .iconst (-1), 1) (gx_m 29 rfl)) ?_
        refine gx_icmp_eq (pc := 60) (tgt := 74) (by decide) (htX13_asked (60, .if_icmp .eq 14, 3) (gx_m 30 rfl)) (fun c9 => ?_) (fun c9 => ?_)
        · refine gx_iload_n (pc := 74) (n := 3) (i := 3) rfl 0 rfl (htX13_asked (74, .iload_n 3, 1) (gx_m 36 rfl)) ?_
          refine gx_if_eq (pc := 75) (y := 0) (tgt := 82) (by decide) (htX13_asked (75, .ifCond .eq 7, 3) (gx_m 37 rfl)) (fun c10 => ?_) (fun c10 => ?_)
          · refine gx_iconst (pc := 82) (v := 0) (by decide) (htX13_asked (82, .iconst 0, 1) (gx_m 40 rfl)) ?_
            refine gx_Jw (lv := [(0, gx_r 14 (some x0)), (1, gx_r 18 (some x1))]) [1, 2] rfl ?_
            exact hj2 (0 : Int32) gx_b0
          · refine gx_iconst (pc := 78) (v := 1) (by decide) (htX13_asked (78, .iconst 1, 1) (gx_m 38 rfl)) ?_
            refine gx_goto (pc := 79) (tgt := 83) (by decide) (htX13_asked (79, .goto 4, 3) (gx_m 39 rfl)) ?_
            refine gx_Jw (lv := [(0, gx_r 14 (some x0)), (1, gx_r 18 (some x1))]) [1, 2] rfl ?_
            exact hj2 (1 : Int32) gx_b1
        · refine gx_aload_n (pc := 63) (n := 0) (i := 0) rfl 1 rfl (htX13_asked (63, .aload_n 0, 1) (gx_m 31 rfl)) ?_
          refine gx_Jgi (pc := 64) (ci := 13) (kk := 4) (by decide) (Or.inl rfl) (by decide) (by decide) q552 (htX13_asked (64, .getfield 107, 3) (gx_m 32 rfl)) (fun v10 hv10 => ?_)
          refine gx_aload_n (pc := 67) (n := 1) (i := 1) rfl 2 rfl (htX13_asked (67, .aload_n 1, 1) (gx_m 33 rfl)) ?_
          refine gx_Jgi (pc := 68) (ci := 17) (kk := 1) (by decide) (Or.inl rfl) (by decide) (by decide) q1117 (htX13_asked (68, .getfield 162, 3) (gx_m 34 rfl)) (fun v11 hv11 => ?_)
          refine gx_icmp_ne (pc := 71) (tgt := 82) (by decide) (htX13_asked (71, .if_icmp .ne 11, 3) (gx_m 35 rfl)) (fun c11 => ?_) (fun c11 => ?_)
          · refine gx_iload_n (pc := 74) (n := 3) (i := 3) rfl 0 rfl (htX13_asked (74, .iload_n 3, 1) (gx_m 36 rfl)) ?_
            refine gx_if_eq (pc := 75) (y := 0) (tgt := 82) (by decide) (htX13_asked (75, .ifCond .eq 7, 3) (gx_m 37 rfl)) (fun c12 => ?_) (fun c12 => ?_)
            · refine gx_iconst (pc := 82) (v := 0) (by decide) (htX13_asked (82, .iconst 0, 1) (gx_m 40 rfl)) ?_
              refine gx_Jw (lv := [(0, gx_r 14 (some x0)), (1, gx_r 18 (some x1))]) [1, 2] rfl ?_
              exact hj2 (0 : Int32) gx_b0
            · refine gx_iconst (pc := 78) (v := 1) (by decide) (htX13_asked (78, .iconst 1, 1) (gx_m 38 rfl)) ?_
              refine gx_goto (pc := 79) (tgt := 83) (by decide) (htX13_asked (79, .goto 4, 3) (gx_m 39 rfl)) ?_
              refine gx_Jw (lv := [(0, gx_r 14 (some x0)), (1, gx_r 18 (some x1))]) [1, 2] rfl ?_
              exact hj2 (1 : Int32) gx_b1
          · refine gx_iconst (pc := 82) (v := 0) (by decide) (htX13_asked (82, .iconst 0, 1) (gx_m 40 rfl)) ?_
            refine gx_Jw (lv := [(0, gx_r 14 (some x0)), (1, gx_r 18 (some x1))]) [1, 2] rfl ?_
            exact hj2 (0 : Int32) gx_b0
      · refine gx_iconst (pc := 82) (v := 0) (by decide) (htX13_asked (82, .iconst 0, 1) (gx_m 40 rfl)) ?_
        refine gx_Jw (lv := [(0, gx_r 14 (some x0)), (1, gx_r 18 (some x1))]) [1, 2] rfl ?_
        exact hj2 (0 : Int32) gx_b0
  · refine gx_icmp_gt (pc := 13) (tgt := 38) (by decide) (htX13_asked (13, .if_icmp .gt 25, 3) (gx_m 7 rfl)) (fun c13 => ?_) (fun c13 => ?_)
    · refine gx_iconst (pc := 38) (v := 1) (by decide) (htX13_asked (38, .iconst 1, 1) (gx_m 18 rfl)) ?_
      refine gx_goto (pc := 39) (tgt := 43) (by decide) (htX13_asked (39, .goto 4, 3) (gx_m 19 rfl)) ?_
      refine gx_Jw (lv := [(0, gx_r 14 (some x0)), (1, gx_r 18 (some x1))]) [1, 2] rfl ?_
      exact hj1 (1 : Int32) gx_b1
    · refine gx_aload_n (pc := 16) (n := 1) (i := 1) rfl 2 rfl (htX13_asked (16, .aload_n 1, 1) (gx_m 8 rfl)) ?_
      refine gx_Jgi (pc := 17) (ci := 17) (kk := 5) (by decide) (Or.inl rfl) (by decide) (by decide) q1125 (htX13_asked (17, .getfield 172, 3) (gx_m 9 rfl)) (fun v3 hv3 => ?_)
      refine gx_iload_n (pc := 20) (n := 2) (i := 2) rfl 0 rfl (htX13_asked (20, .iload_n 2, 1) (gx_m 10 rfl)) ?_
      refine gx_icmp_ne (pc := 21) (tgt := 42) (by decide) (htX13_asked (21, .if_icmp .ne 21, 3) (gx_m 11 rfl)) (fun c14 => ?_) (fun c14 => ?_)
      · refine gx_aload_n (pc := 24) (n := 1) (i := 1) rfl 2 rfl (htX13_asked (24, .aload_n 1, 1) (gx_m 12 rfl)) ?_
        refine gx_Jgi (pc := 25) (ci := 17) (kk := 4) (by decide) (Or.inl rfl) (by decide) (by decide) q1123 (htX13_asked (25, .getfield 169, 3) (gx_m 13 rfl)) (fun v4 hv4 => ?_)
        refine gx_aload_n (pc := 28) (n := 0) (i := 0) rfl 1 rfl (htX13_asked (28, .aload_n 0, 1) (gx_m 14 rfl)) ?_
        refine gx_Jgs (pc := 29) (ci := 13) (kk := 5) (t2 := 16) (by decide) (by decide) rfl rfl rfl q554 (htX13_asked (29, .getfield 69, 3) (gx_m 15 rfl)) ?_
        refine gx_Jci (pc := 32) (gx_hst (as := []) (b := gx_r 16 (some (5 :: x0)))) (gx_runV (as := []) (ci := 15) (ct_X15_last Y (5 :: x0)) (by decide) (Or.inl rfl) rfl rfl rfl rfl q1071 q1072 q1073 q115 q1074 rfl dd_X15_last (by decide) (by decide) (Nat.le_of_ble_eq_true rfl) (htX13_asked (32, .invokevirtual 198, 3) (gx_m 16 rfl))) (fun v5 => ?_)
        refine gx_icmp_lt (pc := 35) (tgt := 42) (by decide) (htX13_asked (35, .if_icmp .lt 7, 3) (gx_m 17 rfl)) (fun c15 => ?_) (fun c15 => ?_)
        · refine gx_iconst (pc := 42) (v := 0) (by decide) (htX13_asked (42, .iconst 0, 1) (gx_m 20 rfl)) ?_
          refine gx_Jw (lv := [(0, gx_r 14 (some x0)), (1, gx_r 18 (some x1))]) [1, 2] rfl ?_
          exact hj1 (0 : Int32) gx_b0
        · refine gx_iconst (pc := 38) (v := 1) (by decide) (htX13_asked (38, .iconst 1, 1) (gx_m 18 rfl)) ?_
          refine gx_goto (pc := 39) (tgt := 43) (by decide) (htX13_asked (39, .goto 4, 3) (gx_m 19 rfl)) ?_
          refine gx_Jw (lv := [(0, gx_r 14 (some x0)), (1, gx_r 18 (some x1))]) [1, 2] rfl ?_
          exact hj1 (1 : Int32) gx_b1
      · refine gx_iconst (pc := 42) (v := 0) (by decide) (htX13_asked (42, .iconst 0, 1) (gx_m 20 rfl)) ?_
        refine gx_Jw (lv := [(0, gx_r 14 (some x0)), (1, gx_r 18 (some x1))]) [1, 2] rfl ?_
        exact hj1 (0 : Int32) gx_b0
theorem ct_X13_reply (Y : gx_Y) (x0 : gx_Nm) (x1 : gx_Nm) (x2 : Int32) (x3 : Int32) (x4 : Int32) : gx_Ct Y yX13_reply (ws_ yX13_reply cX13_reply 6 none) 5 186 [gx_r 14 (some x0), gx_r 18 (some x1), gx_i x2, gx_i x3, gx_i x4] gx_Ov (f_X13_reply x0 x1 x2 x3 x4) := by
  refine gx_start (lv := [(0, gx_r 14 (some x0)), (1, gx_r 18 (some x1)), (2, gx_i x2), (3, gx_i x3), (4, gx_i x4)]) gx_Ov_r pn_X13 (Nat.le_of_ble_eq_true rfl) rfl ?_
  unfold f_X13_reply
  refine gx_aload_n (pc := 0) (n := 0) (i := 0) rfl 0 rfl (htX13_reply (0, .aload_n 0, 1) (gx_m 0 rfl)) ?_
  refine gx_iconst (pc := 1) (v := 4) (by decide) (htX13_reply (1, .iconst 4, 1) (gx_m 1 rfl)) ?_
  refine gx_aload_n (pc := 2) (n := 1) (i := 1) rfl 1 rfl (htX13_reply (2, .aload_n 1, 1) (gx_m 2 rfl)) ?_
  refine gx_Jgi (pc := 3) (ci := 17) (kk := 1) (by decide) (Or.inl rfl) (by decide) (by decide) q1117 (htX13_reply (3, .getfield 162, 3) (gx_m 3 rfl)) (fun v1 hv1 => ?_)
  refine gx_Jcr (pc := 6) (t2 := 18) (gx_hst (as := [gx_i 4, gx_i v1]) (b := gx_r 14 (some x0))) (gx_runV (as := [gx_i 4, gx_i v1]) (ci := 13) (ct_X13_message Y x0 4 v1) (by decide) (Or.inl rfl) rfl rfl rfl rfl q1101 q1103 qs13 q113 q1104 rfl dd_X13_message (by decide) (by decide) (Nat.le_of_ble_eq_true rfl) (htX13_reply (6, .invokevirtual 214, 3) (gx_m 4 rfl))) (fun v2 => ?_)
  refine gx_astore (pc := 9) (i := 5) (lv' := [(5, gx_r 18 (some v2)), (0, gx_r 14 (some x0)), (1, gx_r 18 (some x1)), (2, gx_i x2), (3, gx_i x3), (4, gx_i x4)]) (by decide) rfl (htX13_reply (9, .astore 5, 2) (gx_m 5 rfl)) ?_
  refine gx_aload (pc := 11) (i := 5) 0 rfl (htX13_reply (11, .aload 5, 2) (gx_m 6 rfl)) ?_
  refine gx_iload_n (pc := 13) (n := 2) (i := 2) rfl 3 rfl (htX13_reply (13, .iload_n 2, 1) (gx_m 7 rfl)) ?_
  refine gx_Jjoin (pcJ := 22) (lvJ := fun (j3 : Int32) => [(0, gx_r 14 (some x0)), (3, gx_i x3), (4, gx_i x4), (5, gx_r 18 (some v2))]) (stJ := fun (j3 : Int32) => [gx_i j3, gx_r 18 (some v2)]) (fun (j3 : Int32) => j3 &&& 1 = j3) (fun j3 hj3 => ?_) (fun kk1 hj1 => ?_)
  · refine gx_Jpi (pc := 22) (ci := 17) (kk := 5) (by decide) (Or.inl rfl) (by decide) rfl rfl q1125 (Or.inl rfl) (htX13_reply (22, .putfield 172, 3) (gx_m 12 rfl)) ?_
    refine gx_aload (pc := 25) (i := 5) 3 rfl (htX13_reply (25, .aload 5, 2) (gx_m 13 rfl)) ?_
    refine gx_iload_n (pc := 27) (n := 3) (i := 3) rfl 1 rfl (htX13_reply (27, .iload_n 3, 1) (gx_m 14 rfl)) ?_
    refine gx_Jpi (pc := 28) (ci := 17) (kk := 4) (by decide) (Or.inl rfl) (by decide) rfl rfl q1123 (Or.inl rfl) (htX13_reply (28, .putfield 169, 3) (gx_m 15 rfl)) ?_
    refine gx_aload (pc := 31) (i := 5) 3 rfl (htX13_reply (31, .aload 5, 2) (gx_m 16 rfl)) ?_
    refine gx_iload (pc := 33) (i := 4) 2 rfl (htX13_reply (33, .iload 4, 2) (gx_m 17 rfl)) ?_
    refine gx_Jpi (pc := 35) (ci := 17) (kk := 7) (by decide) (Or.inl rfl) (by decide) rfl rfl q1129 (Or.inl rfl) (htX13_reply (35, .putfield 176, 3) (gx_m 18 rfl)) ?_
    refine gx_aload_n (pc := 38) (n := 0) (i := 0) rfl 0 rfl (htX13_reply (38, .aload_n 0, 1) (gx_m 19 rfl)) ?_
    refine gx_aload (pc := 39) (i := 5) 3 rfl (htX13_reply (39, .aload 5, 2) (gx_m 20 rfl)) ?_
    refine gx_Jcv (pc := 41) (gx_hst (as := [gx_r 18 (some v2)]) (b := gx_r 14 (some x0))) (gx_runV (as := [gx_r 18 (some v2)]) (ci := 13) (ct_X13_send Y x0 v2) (by decide) (Or.inl rfl) rfl rfl rfl rfl q1159 q1161 qs14 q113 q1162 rfl dd_X13_send (by decide) (by decide) (Nat.le_of_ble_eq_true rfl) (htX13_reply (41, .invokevirtual 221, 3) (gx_m 21 rfl))) ?_
    exact gx_Jvret (pc := 44) rfl (fun _ => trivial) (fun _ _ => rfl) (htX13_reply (44, .return_, 1) (gx_m 22 rfl))
  · refine gx_if_eq (pc := 14) (y := 0) (tgt := 21) (by decide) (htX13_reply (14, .ifCond .eq 7, 3) (gx_m 8 rfl)) (fun c2 => ?_) (fun c2 => ?_)
    · refine gx_iconst (pc := 21) (v := 0) (by decide) (htX13_reply (21, .iconst 0, 1) (gx_m 11 rfl)) ?_
      refine gx_Jw (lv := [(0, gx_r 14 (some x0)), (3, gx_i x3), (4, gx_i x4), (5, gx_r 18 (some v2))]) [1, 4, 5, 0] rfl ?_
      exact hj1 (0 : Int32) gx_b0
    · refine gx_iconst (pc := 17) (v := 1) (by decide) (htX13_reply (17, .iconst 1, 1) (gx_m 9 rfl)) ?_
      refine gx_goto (pc := 18) (tgt := 22) (by decide) (htX13_reply (18, .goto 4, 3) (gx_m 10 rfl)) ?_
      refine gx_Jw (lv := [(0, gx_r 14 (some x0)), (3, gx_i x3), (4, gx_i x4), (5, gx_r 18 (some v2))]) [1, 4, 5, 0] rfl ?_
      exact hj1 (1 : Int32) gx_b1
theorem ct_X13_leads (Y : gx_Y) (x0 : gx_Nm) (x1 : gx_Nm) : gx_Ct Y yX13_leads (ws_ yX13_leads cX13_leads 2 (some .boolean)) 6 211 [gx_r 14 (some x0), gx_r 18 (some x1)] gx_Oz (f_X13_leads x0 x1) := by
  refine gx_start (lv := [(0, gx_r 14 (some x0)), (1, gx_r 18 (some x1))]) gx_Oz_r pn_X13 (Nat.le_of_ble_eq_true rfl) rfl ?_
  unfold f_X13_leads
  refine gx_aload_n (pc := 0) (n := 1) (i := 1) rfl 1 rfl (htX13_leads (0, .aload_n 1, 1) (gx_m 0 rfl)) ?_
  refine gx_Jgi (pc := 1) (ci := 17) (kk := 3) (by decide) (Or.inl rfl) (by decide) (by decide) q1121 (htX13_leads (1, .getfield 168, 3) (gx_m 1 rfl)) (fun v1 hv1 => ?_)
  refine gx_aload_n (pc := 4) (n := 0) (i := 0) rfl 0 rfl (htX13_leads (4, .aload_n 0, 1) (gx_m 2 rfl)) ?_
  refine gx_Jgi (pc := 5) (ci := 13) (kk := 3) (by decide) (Or.inl rfl) (by decide) (by decide) q550 (htX13_leads (5, .getfield 103, 3) (gx_m 3 rfl)) (fun v2 hv2 => ?_)
  refine gx_icmp_ge (pc := 8) (tgt := 21) (by decide) (htX13_leads (8, .if_icmp .ge 13, 3) (gx_m 4 rfl)) (fun c1 => ?_) (fun c1 => ?_)
  · refine gx_aload_n (pc := 21) (n := 0) (i := 0) rfl 0 rfl (htX13_leads (21, .aload_n 0, 1) (gx_m 13 rfl)) ?_
    refine gx_aload_n (pc := 22) (n := 1) (i := 1) rfl 1 rfl (htX13_leads (22, .aload_n 1, 1) (gx_m 14 rfl)) ?_
    refine gx_Jgi (pc := 23) (ci := 17) (kk := 1) (by decide) (Or.inl rfl) (by decide) (by decide) q1117 (htX13_leads (23, .getfield 162, 3) (gx_m 15 rfl)) (fun v3 hv3 => ?_)
    refine gx_Jcv (pc := 26) (gx_hst (as := [gx_i v3]) (b := gx_r 14 (some x0))) (gx_runV (as := [gx_i v3]) (ci := 13) (ct_X13_follow Y x0 v3) (by decide) (Or.inl rfl) rfl rfl rfl rfl q1410 q1412 qs31 q113 q1413 rfl dd_X13_follow (by decide) (by decide) (Nat.le_of_ble_eq_true rfl) (htX13_leads (26, .invokevirtual 302, 3) (gx_m 16 rfl))) ?_
    refine gx_iconst (pc := 29) (v := 1) (by decide) (htX13_leads (29, .iconst 1, 1) (gx_m 17 rfl)) ?_
    exact gx_Jzret (pc := 30) rfl gx_b1 (fun _ => gx_b1) (fun _ _ => rfl) (htX13_leads (30, .ireturn, 1) (gx_m 18 rfl))
  · refine gx_aload_n (pc := 11) (n := 0) (i := 0) rfl 0 rfl (htX13_leads (11, .aload_n 0, 1) (gx_m 5 rfl)) ?_
    refine gx_aload_n (pc := 12) (n := 1) (i := 1) rfl 1 rfl (htX13_leads (12, .aload_n 1, 1) (gx_m 6 rfl)) ?_
    refine gx_iconst (pc := 13) (v := 0) (by decide) (htX13_leads (13, .iconst 0, 1) (gx_m 7 rfl)) ?_
    refine gx_iconst (pc := 14) (v := 0) (by decide) (htX13_leads (14, .iconst 0, 1) (gx_m 8 rfl)) ?_
    refine gx_iconst (pc := 15) (v := 0) (by decide) (htX13_leads (15, .iconst 0, 1) (gx_m 9 rfl)) ?_
    refine gx_Jcv (pc := 16) (gx_hst (as := [gx_r 18 (some x1), gx_i 0, gx_i 0, gx_i 0]) (b := gx_r 14 (some x0))) (gx_runV (as := [gx_r 18 (some x1), gx_i 0, gx_i 0, gx_i 0]) (ci := 13) (ct_X13_reply Y x0 x1 0 0 0) (by decide) (Or.inl rfl) rfl rfl rfl rfl q1422 q1424 qs34 q113 q1425 rfl dd_X13_reply (by decide) (by decide) (Nat.le_of_ble_eq_true rfl) (htX13_leads (16, .invokevirtual 320, 3) (gx_m 10 rfl))) ?_
    refine gx_iconst (pc := 19) (v := 0) (by decide) (htX13_leads (19, .iconst 0, 1) (gx_m 11 rfl)) ?_
    exact gx_Jzret (pc := 20) rfl gx_b0 (fun _ => gx_b0) (fun _ _ => rfl) (htX13_leads (20, .ireturn, 1) (gx_m 12 rfl))
theorem ct_X13_reply_2 (Y : gx_Y) (x0 : gx_Nm) (x1 : gx_Nm) (x2 : Int32) (x3 : Int32) : gx_Ct Y yX13_reply_2 (ws_ yX13_reply_2 cX13_reply_2 4 none) 6 211 [gx_r 14 (some x0), gx_r 18 (some x1), gx_i x2, gx_i x3] gx_Ov (f_X13_reply_2 x0 x1 x2 x3) := by
  refine gx_start (lv := [(0, gx_r 14 (some x0)), (1, gx_r 18 (some x1)), (2, gx_i x2), (3, gx_i x3)]) gx_Ov_r pn_X13 (Nat.le_of_ble_eq_true rfl) rfl ?_
  unfold f_X13_reply_2
  refine gx_aload_n (pc := 0) (n := 0) (i := 0) rfl 0 rfl (htX13_reply_2 (0, .aload_n 0, 1) (gx_m 0 rfl)) ?_
  refine gx_aload_n (pc := 1) (n := 1) (i := 1) rfl 1 rfl (htX13_reply_2 (1, .aload_n 1, 1) (gx_m 1 rfl)) ?_
  refine gx_iload_n (pc := 2) (n := 2) (i := 2) rfl 2 rfl (htX13_reply_2 (2, .iload_n 2, 1) (gx_m 2 rfl)) ?_
  refine gx_iload_n (pc := 3) (n := 3) (i := 3) rfl 3 rfl (htX13_reply_2 (3, .iload_n 3, 1) (gx_m 3 rfl)) ?_
  refine gx_aload_n (pc := 4) (n := 1) (i := 1) rfl 1 rfl (htX13_reply_2 (4, .aload_n 1, 1) (gx_m 4 rfl)) ?_
  refine gx_Jgi (pc := 5) (ci := 17) (kk := 7) (by decide) (Or.inl rfl) (by decide) (by decide) q1129 (htX13_reply_2 (5, .getfield 176, 3) (gx_m 5 rfl)) (fun v1 hv1 => ?_)
  refine gx_Jcv (pc := 8) (gx_hst (as := [gx_r 18 (some x1), gx_i x2, gx_i x3, gx_i v1]) (b := gx_r 14 (some x0))) (gx_runV (as := [gx_r 18 (some x1), gx_i x2, gx_i x3, gx_i v1]) (ci := 13) (ct_X13_reply Y x0 x1 x2 x3 v1) (by decide) (Or.inl rfl) rfl rfl rfl rfl q1422 q1424 qs34 q113 q1425 rfl dd_X13_reply (by decide) (by decide) (Nat.le_of_ble_eq_true rfl) (htX13_reply_2 (8, .invokevirtual 320, 3) (gx_m 6 rfl))) ?_
  exact gx_Jvret (pc := 11) rfl (fun _ => trivial) (fun _ _ => rfl) (htX13_reply_2 (11, .return_, 1) (gx_m 7 rfl))
theorem ct_X13_append (Y : gx_Y) (x0 : gx_Nm) (x1 : gx_Nm) : gx_Ct Y yX13_append (ws_ yX13_append cX13_append 7 none) 9 306 [gx_r 14 (some x0), gx_r 18 (some x1)] gx_Ov (f_X13_append x0 x1) := by
  refine gx_start (lv := [(0, gx_r 14 (some x0)), (1, gx_r 18 (some x1))]) gx_Ov_r pn_X13 (Nat.le_of_ble_eq_true rfl) rfl ?_
  unfold f_X13_append
  refine gx_aload_n (pc := 0) (n := 0) (i := 0) rfl 0 rfl (htX13_append_0 (0, .aload_n 0, 1) (gx_m 0 rfl)) ?_
  refine gx_Jgs (pc := 1) (ci := 13) (kk := 5) (t2 := 16) (by decide) (by decide) rfl rfl rfl q554 (htX13_append_0 (1, .getfield 69, 3) (gx_m 1 rfl)) ?_
  refine gx_Jci (pc := 4) (gx_hst (as := []) (b := gx_r 16 (some (5 :: x0)))) (gx_runV (as := []) (ci := 15) (ct_X15_last Y (5 :: x0)) (by decide) (Or.inl rfl) rfl rfl rfl rfl q1071 q1072 q1073 q115 q1074 rfl dd_X15_last (by decide) (by decide) (Nat.le_of_ble_eq_true rfl) (htX13_append_0 (4, .invokevirtual 198, 3) (gx_m 2 rfl))) (fun v1 => ?_)
  refine gx_istore_n (pc := 7) (n := 2) (i := 2) (lv' := [(2, gx_i v1), (0, gx_r 14 (some x0)), (1, gx_r 18 (some x1))]) rfl (by decide) rfl (htX13_append_0 (7, .istore_n 2, 1) (gx_m 3 rfl)) ?_
  refine gx_aload_n (pc := 8) (n := 1) (i := 1) rfl 2 rfl (htX13_append_0 (8, .aload_n 1, 1) (gx_m 4 rfl)) ?_
  refine gx_Jgi (pc := 9) (ci := 17) (kk := 4) (by decide) (Or.inl rfl) (by decide) (by decide) q1123 (htX13_append_0 (9, .getfield 169, 3) (gx_m 5 rfl)) (fun v2 hv2 => ?_)
  refine gx_iload_n (pc := 12) (n := 2) (i := 2) rfl 0 rfl (htX13_append_0 (12, .iload_n 2, 1) (gx_m 6 rfl)) ?_
  refine gx_Jcond (pcT := 48) (pcE := 75) (lv2 := [(2, gx_i v1), (0, gx_r 14 (some x0)), (1, gx_r 18 (some x1))]) (st2 := []) ?_ ?_ (fun kk1 hT1 hE1 => ?_)
  · refine gx_aload_n (pc := 48) (n := 0) (i := 0) rfl 1 rfl (htX13_append_0 (48, .aload_n 0, 1) (gx_m 22 rfl)) ?_
    refine gx_aload_n (pc := 49) (n := 1) (i := 1) rfl 2 rfl (htX13_append_0 (49, .aload_n 1, 1) (gx_m 23 rfl)) ?_
    refine gx_iconst (pc := 50) (v := 0) (by decide) (htX13_append_0 (50, .iconst 0, 1) (gx_m 24 rfl)) ?_
    refine gx_aload_n (pc := 51) (n := 1) (i := 1) rfl 2 rfl (htX13_append_0 (51, .aload_n 1, 1) (gx_m 25 rfl)) ?_
    refine gx_Jgi (pc := 52) (ci := 17) (kk := 4) (by decide) (Or.inl rfl) (by decide) (by decide) q1123 (htX13_append_0 (52, .getfield 169, 3) (gx_m 26 rfl)) (fun v9 hv9 => ?_)
    refine gx_iconst (pc := 55) (v := 1) (by decide) (htX13_append_0 (55, .iconst 1, 1) (gx_m 27 rfl)) ?_
    refine gx_isub (pc := 56) (htX13_append_0 (56, .isub, 1) (gx_m 28 rfl)) ?_
    refine gx_iload_n (pc := 57) (n := 2) (i := 2) rfl 0 rfl (htX13_append_0 (57, .iload_n 2, 1) (gx_m 29 rfl)) ?_
    refine gx_Jjoin (pcJ := 71) (lvJ := fun (j11 : Int32) => []) (stJ := fun (j11 : Int32) => [gx_i j11, gx_i 0, gx_r 18 (some x1), gx_r 14 (some x0)]) (fun _ => True) (fun j11 hj11 => ?_) (fun kk2 hj2 => ?_)
    · refine gx_Jcv (pc := 71) (gx_hst (as := [gx_r 18 (some x1), gx_i 0, gx_i j11]) (b := gx_r 14 (some x0))) (gx_runV (as := [gx_r 18 (some x1), gx_i 0, gx_i j11]) (ci := 13) (ct_X13_reply_2 Y x0 x1 0 j11) (by decide) (Or.inl rfl) rfl rfl rfl rfl q1430 q1432 qs36 q113 q1433 rfl dd_X13_reply_2 (by decide) (by decide) (Nat.le_of_ble_eq_true rfl) (htX13_append_0 (71, .invokevirtual 324, 3) (gx_m 37 rfl))) ?_
      exact gx_Jvret (pc := 74) rfl (fun _ => trivial) (fun _ _ => rfl) (htX13_append_0 (74, .return_, 1) (gx_m 38 rfl))
    · refine gx_icmp_ge (pc := 58) (tgt := 70) (by decide) (htX13_append_0 (58, .if_icmp .ge 12, 3) (gx_m 30 rfl)) (fun c3 => ?_) (fun c3 => ?_)
      · refine gx_iload_n (pc := 70) (n := 2) (i := 2) rfl 0 rfl (htX13_append_0 (70, .iload_n 2, 1) (gx_m 36 rfl)) ?_
        refine gx_Jw (lv := []) [] rfl ?_
        exact hj2 (v1 : Int32) trivial
      · refine gx_aload_n (pc := 61) (n := 1) (i := 1) rfl 2 rfl (htX13_append_0 (61, .aload_n 1, 1) (gx_m 31 rfl)) ?_
        refine gx_Jgi (pc := 62) (ci := 17) (kk := 4) (by decide) (Or.inl rfl) (by decide) (by decide) q1123 (htX13_append_0 (62, .getfield 169, 3) (gx_m 32 rfl)) (fun v10 hv10 => ?_)
        refine gx_iconst (pc := 65) (v := 1) (by decide) (htX13_append_0 (65, .iconst 1, 1) (gx_m 33 rfl)) ?_
        refine gx_isub (pc := 66) (htX13_append_0 (66, .isub, 1) (gx_m 34 rfl)) ?_
        refine gx_goto (pc := 67) (tgt := 71) (by decide) (htX13_append_0 (67, .goto 4, 3) (gx_m 35 rfl)) ?_
        refine gx_Jw (lv := []) [] rfl ?_
        exact hj2 ((v10 - 1) : Int32) trivial
  · refine gx_iconst (pc := 75) (v := 0) (by decide) (htX13_append_0 (75, .iconst 0, 1) (gx_m 39 rfl)) ?_
    refine gx_istore_n (pc := 76) (n := 3) (i := 3) (lv' := [(3, gx_i 0), (2, gx_i v1), (0, gx_r 14 (some x0)), (1, gx_r 18 (some x1))]) rfl (by decide) rfl (htX13_append_0 (76, .istore_n 3, 1) (gx_m 40 rfl)) ?_
    refine gx_Jjoin (pcJ := 180) (lvJ := fun (j_4 : Unit) => [(0, gx_r 14 (some x0)), (1, gx_r 18 (some x1))]) (stJ := fun (j_4 : Unit) => []) (fun _ => True) (fun j_4 _ => ?_) (fun kk4 hj4 => ?_)
    · refine gx_aload_n (pc := 180) (n := 1) (i := 1) rfl 1 rfl (htX13_append_0 (180, .aload_n 1, 1) (gx_m 90 rfl)) ?_
      refine gx_Jgi (pc := 181) (ci := 17) (kk := 4) (by decide) (Or.inl rfl) (by decide) (by decide) q1123 (htX13_append_0 (181, .getfield 169, 3) (gx_m 91 rfl)) (fun v21 hv21 => ?_)
      refine gx_aload_n (pc := 184) (n := 1) (i := 1) rfl 1 rfl (htX13_append_0 (184, .aload_n 1, 1) (gx_m 92 rfl)) ?_
      refine gx_Jgi (pc := 185) (ci := 17) (kk := 9) (by decide) (Or.inl rfl) (by decide) (by decide) q1132 (htX13_append_0 (185, .getfield 180, 3) (gx_m 93 rfl)) (fun v22 hv22 => ?_)
      refine gx_iadd (pc := 188) (htX13_append_0 (188, .iadd, 1) (gx_m 94 rfl)) ?_
      refine gx_istore_n (pc := 189) (n := 3) (i := 3) (lv' := [(3, gx_i (v21 + v22)), (0, gx_r 14 (some x0)), (1, gx_r 18 (some x1))]) rfl (by decide) rfl (htX13_append_0 (189, .istore_n 3, 1) (gx_m 95 rfl)) ?_
      refine gx_aload_n (pc := 190) (n := 0) (i := 0) rfl 1 rfl (htX13_append_0 (190, .aload_n 0, 1) (gx_m 96 rfl)) ?_
      refine gx_aload_n (pc := 191) (n := 1) (i := 1) rfl 2 rfl (htX13_append_0 (191, .aload_n 1, 1) (gx_m 97 rfl)) ?_
      refine gx_Jgi (pc := 192) (ci := 17) (kk := 6) (by decide) (Or.inl rfl) (by decide) (by decide) q1127 (htX13_append_0 (192, .getfield 175, 3) (gx_m 98 rfl)) (fun v23 hv23 => ?_)
      refine gx_iload_n (pc := 195) (n := 3) (i := 3) rfl 0 rfl (htX13_append_0 (195, .iload_n 3, 1) (gx_m 99 rfl)) ?_
      refine gx_Jjoin (pcJ := 207) (lvJ := fun (j25 : Int32) => [(0, gx_r 14 (some x0)), (1, gx_r 18 (some x1)), (3, gx_i (v21 + v22))]) (stJ := fun (j25 : Int32) => [gx_i j25, gx_r 14 (some x0)]) (fun _ => True) (fun j25 hj25 => ?_) (fun kk5 hj5 => ?_)
      · refine gx_Jcv (pc := 207) (gx_hst (as := [gx_i j25]) (b := gx_r 14 (some x0))) (gx_runV (as := [gx_i j25]) (ci := 13) (ct_X13_commitTo Y x0 j25) (by decide) (Or.inl rfl) rfl rfl rfl rfl q1271 q1273 qs19 q113 q1274 rfl dd_X13_commitTo (by decide) (by decide) (Nat.le_of_ble_eq_true rfl) (htX13_append_1 (207, .invokevirtual 274, 3) (gx_m 5 rfl))) ?_
        refine gx_aload_n (pc := 210) (n := 0) (i := 0) rfl 0 rfl (htX13_append_1 (210, .aload_n 0, 1) (gx_m 6 rfl)) ?_
        refine gx_aload_n (pc := 211) (n := 1) (i := 1) rfl 1 rfl (htX13_append_1 (211, .aload_n 1, 1) (gx_m 7 rfl)) ?_
        refine gx_iconst (pc := 212) (v := 1) (by decide) (htX13_append_1 (212, .iconst 1, 1) (gx_m 8 rfl)) ?_
        refine gx_iload_n (pc := 213) (n := 3) (i := 3) rfl 2 rfl (htX13_append_1 (213, .iload_n 3, 1) (gx_m 9 rfl)) ?_
        refine gx_Jcv (pc := 214) (gx_hst (as := [gx_r 18 (some x1), gx_i 1, gx_i (v21 + v22)]) (b := gx_r 14 (some x0))) (gx_runV (as := [gx_r 18 (some x1), gx_i 1, gx_i (v21 + v22)]) (ci := 13) (ct_X13_reply_2 Y x0 x1 1 (v21 + v22)) (by decide) (Or.inl rfl) rfl rfl rfl rfl q1430 q1432 qs36 q113 q1433 rfl dd_X13_reply_2 (by decide) (by decide) (Nat.le_of_ble_eq_true rfl) (htX13_append_1 (214, .invokevirtual 324, 3) (gx_m 10 rfl))) ?_
        exact gx_Jvret (pc := 217) rfl (fun _ => trivial) (fun _ _ => rfl) (htX13_append_1 (217, .return_, 1) (gx_m 11 rfl))
      · refine gx_icmp_ge (pc := 196) (tgt := 206) (by decide) (htX13_append_1 (196, .if_icmp .ge 10, 3) (gx_m 0 rfl)) (fun c6 => ?_) (fun c6 => ?_)
        · refine gx_iload_n (pc := 206) (n := 3) (i := 3) rfl 0 rfl (htX13_append_1 (206, .iload_n 3, 1) (gx_m 4 rfl)) ?_
          refine gx_Jw (lv := [(0, gx_r 14 (some x0)), (1, gx_r 18 (some x1)), (3, gx_i (v21 + v22))]) [1, 2, 0] rfl ?_
          exact hj5 ((v21 + v22) : Int32) trivial
        · refine gx_aload_n (pc := 199) (n := 1) (i := 1) rfl 2 rfl (htX13_append_1 (199, .aload_n 1, 1) (gx_m 1 rfl)) ?_
          refine gx_Jgi (pc := 200) (ci := 17) (kk := 6) (by decide) (Or.inl rfl) (by decide) (by decide) q1127 (htX13_append_1 (200, .getfield 175, 3) (gx_m 2 rfl)) (fun v24 hv24 => ?_)
          refine gx_goto (pc := 203) (tgt := 207) (by decide) (htX13_append_1 (203, .goto 4, 3) (gx_m 3 rfl)) ?_
          refine gx_Jw (lv := [(0, gx_r 14 (some x0)), (1, gx_r 18 (some x1)), (3, gx_i (v21 + v22))]) [1, 2, 0] rfl ?_
          exact hj5 (v24 : Int32) trivial
    · refine gx_Jw (lv := [(0, gx_r 14 (some x0)), (1, gx_r 18 (some x1)), (3, gx_i 0)]) [2, 3, 0] rfl ?_
      refine gx_Jlp (pc := 77) (lvh := fun (s12 : Int32) => [(0, gx_r 14 (some x0)), (1, gx_r 18 (some x1)), (3, gx_i s12)]) (fun s12 kl4 ha4 hb4 => ?_) _
      unfold lb_X13_append_1
      refine gx_iload_n (pc := 77) (n := 3) (i := 3) rfl 2 rfl (htX13_append_0 (77, .iload_n 3, 1) (gx_m 41 rfl)) ?_
      refine gx_aload_n (pc := 78) (n := 1) (i := 1) rfl 1 rfl (htX13_append_0 (78, .aload_n 1, 1) (gx_m 42 rfl)) ?_
      refine gx_Jgi (pc := 79) (ci := 17) (kk := 9) (by decide) (Or.inl rfl) (by decide) (by decide) q1132 (htX13_append_0 (79, .getfield 180, 3) (gx_m 43 rfl)) (fun v13 hv13 => ?_)
      refine gx_icmp_ge (pc := 82) (tgt := 180) (by decide) (htX13_append_0 (82, .if_icmp .ge 98, 3) (gx_m 44 rfl)) (fun c7 => ?_) (fun c7 => ?_)
      · refine gx_Jw (lv := [(0, gx_r 14 (some x0)), (1, gx_r 18 (some x1))]) [0, 1] rfl ?_
        exact gx_Jout hb4 (hj4 () trivial)
      · refine gx_aload_n (pc := 85) (n := 1) (i := 1) rfl 1 rfl (htX13_append_0 (85, .aload_n 1, 1) (gx_m 45 rfl)) ?_
        refine gx_Jgi (pc := 86) (ci := 17) (kk := 4) (by decide) (Or.inl rfl) (by decide) (by decide) q1123 (htX13_append_0 (86, .getfield 169, 3) (gx_m 46 rfl)) (fun v14 hv14 => ?_)
        refine gx_iconst (pc := 89) (v := 1) (by decide) (htX13_append_0 (89, .iconst 1, 1) (gx_m 47 rfl)) ?_
        refine gx_iadd (pc := 90) (htX13_append_0 (90, .iadd, 1) (gx_m 48 rfl)) ?_
        refine gx_iload_n (pc := 91) (n := 3) (i := 3) rfl 2 rfl (htX13_append_0 (91, .iload_n 3, 1) (gx_m 49 rfl)) ?_
        refine gx_iadd (pc := 92) (htX13_append_0 (92, .iadd, 1) (gx_m 50 rfl)) ?_
        refine gx_istore (pc := 93) (i := 4) (lv' := [(4, gx_i ((v14 + 1) + s12)), (0, gx_r 14 (some x0)), (1, gx_r 18 (some x1)), (3, gx_i s12)]) (by decide) rfl (htX13_append_0 (93, .istore 4, 2) (gx_m 51 rfl)) ?_
        refine gx_aload_n (pc := 95) (n := 1) (i := 1) rfl 2 rfl (htX13_append_0 (95, .aload_n 1, 1) (gx_m 52 rfl)) ?_
        refine gx_Jgs (pc := 96) (ci := 17) (kk := 10) (t2 := 100) (by decide) (by decide) rfl rfl rfl q1135 (htX13_append_0 (96, .getfield 269, 3) (gx_m 53 rfl)) ?_
        refine gx_iload_n (pc := 99) (n := 3) (i := 3) rfl 3 rfl (htX13_append_0 (99, .iload_n 3, 1) (gx_m 54 rfl)) ?_
        refine gx_Jia (pc := 100) (htX13_append_0 (100, .iaload, 1) (gx_m 55 rfl)) (fun v15 => ?_)
        refine gx_istore (pc := 101) (i := 5) (lv' := [(5, gx_i v15), (4, gx_i ((v14 + 1) + s12)), (0, gx_r 14 (some x0)), (1, gx_r 18 (some x1)), (3, gx_i s12)]) (by decide) rfl (htX13_append_0 (101, .istore 5, 2) (gx_m 56 rfl)) ?_
        refine gx_iload (pc := 103) (i := 4) 1 rfl (htX13_append_0 (103, .iload 4, 2) (gx_m 57 rfl)) ?_
        refine gx_aload_n (pc := 105) (n := 0) (i := 0) rfl 2 rfl (htX13_append_0 (105, .aload_n 0, 1) (gx_m 58 rfl)) ?_
        refine gx_Jgs (pc := 106) (ci := 13) (kk := 5) (t2 := 16) (by decide) (by decide) rfl rfl rfl q554 (htX13_append_0 (106, .getfield 69, 3) (gx_m 59 rfl)) ?_
        refine gx_Jgi (pc := 109) (ci := 15) (kk := 1) (by decide) (Or.inl rfl) (by decide) (by decide) q507 (htX13_append_0 (109, .getfield 128, 3) (gx_m 60 rfl)) (fun v16 hv16 => ?_)
        refine gx_Jjoin (pcJ := 159) (lvJ := fun (j20 : Int32) => [(0, gx_r 14 (some x0)), (1, gx_r 18 (some x1)), (3, gx_i s12), (4, gx_i ((v14 + 1) + s12)), (5, gx_i v15)]) (stJ := fun (j20 : Int32) => [gx_i j20]) (fun (j20 : Int32) => j20 &&& 1 = j20) (fun j20 hj20 => ?_) (fun kk8 hj8 => ?_)
        · refine gx_istore (pc := 159) (i := 6) (lv' := [(6, gx_i j20), (0, gx_r 14 (some x0)), (1, gx_r 18 (some x1)), (3, gx_i s12), (4, gx_i ((v14 + 1) + s12)), (5, gx_i v15)]) (by decide) rfl (htX13_append_0 (159, .istore 6, 2) (gx_m 81 rfl)) ?_
          refine gx_iload (pc := 161) (i := 6) 0 rfl (htX13_append_0 (161, .iload 6, 2) (gx_m 82 rfl)) ?_
          refine gx_Jjoin (pcJ := 174) (lvJ := fun (j_9 : Unit) => [(0, gx_r 14 (some x0)), (1, gx_r 18 (some x1)), (3, gx_i s12)]) (stJ := fun (j_9 : Unit) => []) (fun _ => True) (fun j_9 hj_9 => ?_) (fun kk9 hj9 => ?_)
          · refine gx_iinc (pc := 174) (i := 3) (j := 2) (v := (s12 + 1)) (lv' := [(3, gx_i (s12 + 1)), (0, gx_r 14 (some x0)), (1, gx_r 18 (some x1))]) rfl (gx_iv (by decide)) (by decide) rfl (htX13_append_0 (174, .iinc 3 1, 3) (gx_m 88 rfl)) ?_
            refine gx_goto (pc := 177) (tgt := 77) (by decide) (htX13_append_0 (177, .goto (-100), 3) (gx_m 89 rfl)) ?_
            refine gx_Jw (lv := [(0, gx_r 14 (some x0)), (1, gx_r 18 (some x1)), (3, gx_i (s12 + 1))]) [1, 2, 0] rfl ?_
            exact ha4 ((s12 + 1) : Int32)
          · refine gx_if_ne (pc := 163) (y := 0) (tgt := 174) (by decide) (htX13_append_0 (163, .ifCond .ne 11, 3) (gx_m 83 rfl)) (fun c10 => ?_) (fun c10 => ?_)
            · refine gx_aload_n (pc := 166) (n := 0) (i := 0) rfl 1 rfl (htX13_append_0 (166, .aload_n 0, 1) (gx_m 84 rfl)) ?_
              refine gx_iload (pc := 167) (i := 4) 4 rfl (htX13_append_0 (167, .iload 4, 2) (gx_m 85 rfl)) ?_
              refine gx_iload (pc := 169) (i := 5) 5 rfl (htX13_append_0 (169, .iload 5, 2) (gx_m 86 rfl)) ?_
              refine gx_Jcv (pc := 171) (gx_hst (as := [gx_i ((v14 + 1) + s12), gx_i v15]) (b := gx_r 14 (some x0))) (gx_runV (as := [gx_i ((v14 + 1) + s12), gx_i v15]) (ci := 13) (ct_X13_put Y x0 ((v14 + 1) + s12) v15) (by decide) (Or.inl rfl) rfl rfl rfl rfl q1075 q1077 qs10 q113 q1078 rfl dd_X13_put (by decide) (by decide) (Nat.le_of_ble_eq_true rfl) (htX13_append_0 (171, .invokevirtual 251, 3) (gx_m 87 rfl))) ?_
              refine gx_Jw (lv := [(0, gx_r 14 (some x0)), (1, gx_r 18 (some x1)), (3, gx_i s12)]) [1, 2, 3] rfl ?_
              exact hj9 () trivial
            · refine gx_Jw (lv := [(0, gx_r 14 (some x0)), (1, gx_r 18 (some x1)), (3, gx_i s12)]) [1, 2, 3] rfl ?_
              exact hj9 () trivial
        · refine gx_icmp_le (pc := 112) (tgt := 154) (by decide) (htX13_append_0 (112, .if_icmp .le 42, 3) (gx_m 61 rfl)) (fun c11 => ?_) (fun c11 => ?_)
          · refine gx_iconst (pc := 154) (v := 1) (by decide) (htX13_append_0 (154, .iconst 1, 1) (gx_m 78 rfl)) ?_
            refine gx_goto (pc := 155) (tgt := 159) (by decide) (htX13_append_0 (155, .goto 4, 3) (gx_m 79 rfl)) ?_
            refine gx_Jw (lv := [(0, gx_r 14 (some x0)), (1, gx_r 18 (some x1)), (3, gx_i s12), (4, gx_i ((v14 + 1) + s12)), (5, gx_i v15)]) [2, 3, 4, 1, 0] rfl ?_
            exact hj8 (1 : Int32) gx_b1
          · refine gx_iload (pc := 115) (i := 4) 1 rfl (htX13_append_0 (115, .iload 4, 2) (gx_m 62 rfl)) ?_
            refine gx_aload_n (pc := 117) (n := 0) (i := 0) rfl 2 rfl (htX13_append_0 (117, .aload_n 0, 1) (gx_m 63 rfl)) ?_
            refine gx_Jgs (pc := 118) (ci := 13) (kk := 5) (t2 := 16) (by decide) (by decide) rfl rfl rfl q554 (htX13_append_0 (118, .getfield 69, 3) (gx_m 64 rfl)) ?_
            refine gx_Jci (pc := 121) (gx_hst (as := []) (b := gx_r 16 (some (5 :: x0)))) (gx_runV (as := []) (ci := 15) (ct_X15_last Y (5 :: x0)) (by decide) (Or.inl rfl) rfl rfl rfl rfl q1071 q1072 q1073 q115 q1074 rfl dd_X15_last (by decide) (by decide) (Nat.le_of_ble_eq_true rfl) (htX13_append_0 (121, .invokevirtual 198, 3) (gx_m 65 rfl))) (fun v17 => ?_)
            refine gx_icmp_gt (pc := 124) (tgt := 158) (by decide) (htX13_append_0 (124, .if_icmp .gt 34, 3) (gx_m 66 rfl)) (fun c12 => ?_) (fun c12 => ?_)
            · refine gx_iconst (pc := 158) (v := 0) (by decide) (htX13_append_0 (158, .iconst 0, 1) (gx_m 80 rfl)) ?_
              refine gx_Jw (lv := [(0, gx_r 14 (some x0)), (1, gx_r 18 (some x1)), (3, gx_i s12), (4, gx_i ((v14 + 1) + s12)), (5, gx_i v15)]) [2, 3, 4, 1, 0] rfl ?_
              exact hj8 (0 : Int32) gx_b0
            · refine gx_aload_n (pc := 127) (n := 0) (i := 0) rfl 2 rfl (htX13_append_0 (127, .aload_n 0, 1) (gx_m 67 rfl)) ?_
              refine gx_Jgs (pc := 128) (ci := 13) (kk := 5) (t2 := 16) (by decide) (by decide) rfl rfl rfl q554 (htX13_append_0 (128, .getfield 69, 3) (gx_m 68 rfl)) ?_
              refine gx_iload (pc := 131) (i := 4) 1 rfl (htX13_append_0 (131, .iload 4, 2) (gx_m 69 rfl)) ?_
              refine gx_Jci (pc := 133) (gx_hst (as := [gx_i ((v14 + 1) + s12)]) (b := gx_r 16 (some (5 :: x0)))) (gx_runV (as := [gx_i ((v14 + 1) + s12)]) (ci := 15) (ct_X15_term Y (5 :: x0) ((v14 + 1) + s12)) (by decide) (Or.inl rfl) rfl rfl rfl rfl q1173 q1174 q1175 q115 q1176 rfl dd_X15_term (by decide) (by decide) (Nat.le_of_ble_eq_true rfl) (htX13_append_0 (133, .invokevirtual 267, 3) (gx_m 70 rfl))) (fun v18 => ?_)
              refine gx_aload_n (pc := 136) (n := 0) (i := 0) rfl 2 rfl (htX13_append_0 (136, .aload_n 0, 1) (gx_m 71 rfl)) ?_
              refine gx_Jgs (pc := 137) (ci := 13) (kk := 0) (t2 := 3) (by decide) (by decide) rfl rfl rfl q546 (htX13_append_0 (137, .getfield 43, 3) (gx_m 72 rfl)) ?_
              refine gx_Jgs (pc := 140) (ci := 2) (kk := 1) (t2 := 7) (by decide) (by decide) rfl rfl rfl q405 (htX13_append_0 (140, .getfield 53, 3) (gx_m 73 rfl)) ?_
              refine gx_Jgs (pc := 143) (ci := 6) (kk := 0) (t2 := 6) (by decide) (by decide) rfl rfl rfl q219 (htX13_append_0 (143, .getfield 327, 3) (gx_m 74 rfl)) ?_
              refine gx_iload (pc := 146) (i := 5) 0 rfl (htX13_append_0 (146, .iload 5, 2) (gx_m 75 rfl)) ?_
              refine gx_Jci (pc := 148) (gx_hst (as := [gx_i v15]) (b := gx_r 6 (some [0, 1, 0, 1]))) (gx_runV (as := [gx_i v15]) (ci := 5) (ct_X5_get Y [0, 1, 0, 1] v15) (by decide) (Or.inl rfl) rfl rfl rfl rfl q1279 q668 q669 q105 q670 rfl dd_X5_get (by decide) (by decide) (Nat.le_of_ble_eq_true rfl) (htX13_append_0 (148, .invokevirtual 286, 3) (gx_m 76 rfl))) (fun v19 => ?_)
              refine gx_icmp_ne (pc := 151) (tgt := 158) (by decide) (htX13_append_0 (151, .if_icmp .ne 7, 3) (gx_m 77 rfl)) (fun c13 => ?_) (fun c13 => ?_)
              · refine gx_iconst (pc := 154) (v := 1) (by decide) (htX13_append_0 (154, .iconst 1, 1) (gx_m 78 rfl)) ?_
                refine gx_goto (pc := 155) (tgt := 159) (by decide) (htX13_append_0 (155, .goto 4, 3) (gx_m 79 rfl)) ?_
                refine gx_Jw (lv := [(0, gx_r 14 (some x0)), (1, gx_r 18 (some x1)), (3, gx_i s12), (4, gx_i ((v14 + 1) + s12)), (5, gx_i v15)]) [2, 3, 4, 1, 0] rfl ?_
                exact hj8 (1 : Int32) gx_b1
              · refine gx_iconst (pc := 158) (v := 0) (by decide) (htX13_append_0 (158, .iconst 0, 1) (gx_m 80 rfl)) ?_
                refine gx_Jw (lv := [(0, gx_r 14 (some x0)), (1, gx_r 18 (some x1)), (3, gx_i s12), (4, gx_i ((v14 + 1) + s12)), (5, gx_i v15)]) [2, 3, 4, 1, 0] rfl ?_
                exact hj8 (0 : Int32) gx_b0
  · refine gx_icmp_gt (pc := 13) (tgt := 48) (by decide) (htX13_append_0 (13, .if_icmp .gt 35, 3) (gx_m 7 rfl)) (fun c14 => ?_) (fun c14 => ?_)
    · exact hT1
    · refine gx_aload_n (pc := 16) (n := 1) (i := 1) rfl 2 rfl (htX13_append_0 (16, .aload_n 1, 1) (gx_m 8 rfl)) ?_
      refine gx_Jgi (pc := 17) (ci := 17) (kk := 4) (by decide) (Or.inl rfl) (by decide) (by decide) q1123 (htX13_append_0 (17, .getfield 169, 3) (gx_m 9 rfl)) (fun v3 hv3 => ?_)
      refine gx_aload_n (pc := 20) (n := 0) (i := 0) rfl 1 rfl (htX13_append_0 (20, .aload_n 0, 1) (gx_m 10 rfl)) ?_
      refine gx_Jgs (pc := 21) (ci := 13) (kk := 5) (t2 := 16) (by decide) (by decide) rfl rfl rfl q554 (htX13_append_0 (21, .getfield 69, 3) (gx_m 11 rfl)) ?_
      refine gx_Jgi (pc := 24) (ci := 15) (kk := 1) (by decide) (Or.inl rfl) (by decide) (by decide) q507 (htX13_append_0 (24, .getfield 128, 3) (gx_m 12 rfl)) (fun v4 hv4 => ?_)
      refine gx_icmp_lt (pc := 27) (tgt := 75) (by decide) (htX13_append_0 (27, .if_icmp .lt 48, 3) (gx_m 13 rfl)) (fun c15 => ?_) (fun c15 => ?_)
      · exact hE1
      · refine gx_aload_n (pc := 30) (n := 0) (i := 0) rfl 1 rfl (htX13_append_0 (30, .aload_n 0, 1) (gx_m 14 rfl)) ?_
        refine gx_Jgs (pc := 31) (ci := 13) (kk := 5) (t2 := 16) (by decide) (by decide) rfl rfl rfl q554 (htX13_append_0 (31, .getfield 69, 3) (gx_m 15 rfl)) ?_
        refine gx_aload_n (pc := 34) (n := 1) (i := 1) rfl 2 rfl (htX13_append_0 (34, .aload_n 1, 1) (gx_m 16 rfl)) ?_
        refine gx_Jgi (pc := 35) (ci := 17) (kk := 4) (by decide) (Or.inl rfl) (by decide) (by decide) q1123 (htX13_append_0 (35, .getfield 169, 3) (gx_m 17 rfl)) (fun v5 hv5 => ?_)
        refine gx_Jci (pc := 38) (gx_hst (as := [gx_i v5]) (b := gx_r 16 (some (5 :: x0)))) (gx_runV (as := [gx_i v5]) (ci := 15) (ct_X15_term Y (5 :: x0) v5) (by decide) (Or.inl rfl) rfl rfl rfl rfl q1173 q1174 q1175 q115 q1176 rfl dd_X15_term (by decide) (by decide) (Nat.le_of_ble_eq_true rfl) (htX13_append_0 (38, .invokevirtual 267, 3) (gx_m 18 rfl))) (fun v6 => ?_)
        refine gx_aload_n (pc := 41) (n := 1) (i := 1) rfl 2 rfl (htX13_append_0 (41, .aload_n 1, 1) (gx_m 19 rfl)) ?_
        refine gx_Jgi (pc := 42) (ci := 17) (kk := 5) (by decide) (Or.inl rfl) (by decide) (by decide) q1125 (htX13_append_0 (42, .getfield 172, 3) (gx_m 20 rfl)) (fun v7 hv7 => ?_)
        refine gx_icmp_eq (pc := 45) (tgt := 75) (by decide) (htX13_append_0 (45, .if_icmp .eq 30, 3) (gx_m 21 rfl)) (fun c16 => ?_) (fun c16 => ?_)
        · exact hE1
        · exact hT1
theorem ct_X14_writeSnapshot (Y : gx_Y) (x0 : gx_Nm) (x1 : Int32) (x2 : Int32) (x3 : Int32) : gx_Ct Y yX14_writeSnapshot (ws_ yX14_writeSnapshot cX14_writeSnapshot 4 none) 3 146 [gx_r 15 (some x0), gx_i x1, gx_i x2, gx_i x3] gx_Ov (f_X14_writeSnapshot x0 x1 x2 x3) := by
  refine gx_start (lv := [(0, gx_r 15 (some x0)), (1, gx_i x1), (2, gx_i x2), (3, gx_i x3)]) gx_Ov_r pn_X14 (Nat.le_of_ble_eq_true rfl) rfl ?_
  unfold f_X14_writeSnapshot
  refine gx_aload_n (pc := 0) (n := 0) (i := 0) rfl 0 rfl (htX14_writeSnapshot (0, .aload_n 0, 1) (gx_m 0 rfl)) ?_
  refine gx_iconst (pc := 1) (v := 2) (by decide) (htX14_writeSnapshot (1, .iconst 2, 1) (gx_m 1 rfl)) ?_
  refine gx_iload_n (pc := 2) (n := 1) (i := 1) rfl 1 rfl (htX14_writeSnapshot (2, .iload_n 1, 1) (gx_m 2 rfl)) ?_
  refine gx_iload_n (pc := 3) (n := 2) (i := 2) rfl 2 rfl (htX14_writeSnapshot (3, .iload_n 2, 1) (gx_m 3 rfl)) ?_
  refine gx_iload_n (pc := 4) (n := 3) (i := 3) rfl 3 rfl (htX14_writeSnapshot (4, .iload_n 3, 1) (gx_m 4 rfl)) ?_
  refine gx_Jcv (pc := 5) (gx_hst (as := [gx_i 2, gx_i x1, gx_i x2, gx_i x3]) (b := gx_r 15 (some x0))) (gx_runV (as := [gx_i 2, gx_i x1, gx_i x2, gx_i x3]) (ci := 14) (ct_X14_write Y x0 2 x1 x2 x3) (by decide) (Or.inl rfl) rfl rfl rfl rfl q1088 q1090 qs11 q114 q1091 rfl dd_X14_write (by decide) (by decide) (Nat.le_of_ble_eq_true rfl) (htX14_writeSnapshot (5, .invokevirtual 44, 3) (gx_m 5 rfl))) ?_
  exact gx_Jvret (pc := 8) rfl (fun _ => trivial) (fun _ _ => rfl) (htX14_writeSnapshot (8, .return_, 1) (gx_m 6 rfl))
theorem ct_X13_takeState (Y : gx_Y) (x0 : gx_Nm) (x1 : gx_Nm) : gx_Ct Y yX13_takeState (ws_ yX13_takeState cX13_takeState 2 none) 7 234 [gx_r 14 (some x0), gx_r 18 (some x1)] gx_Ov (f_X13_takeState x0 x1) := by
  refine gx_start (lv := [(0, gx_r 14 (some x0)), (1, gx_r 18 (some x1))]) gx_Ov_r pn_X13 (Nat.le_of_ble_eq_true rfl) rfl ?_
  unfold f_X13_takeState
  refine gx_aload_n (pc := 0) (n := 1) (i := 1) rfl 1 rfl (htX13_takeState (0, .aload_n 1, 1) (gx_m 0 rfl)) ?_
  refine gx_Jgi (pc := 1) (ci := 17) (kk := 4) (by decide) (Or.inl rfl) (by decide) (by decide) q1123 (htX13_takeState (1, .getfield 169, 3) (gx_m 1 rfl)) (fun v1 hv1 => ?_)
  refine gx_aload_n (pc := 4) (n := 0) (i := 0) rfl 0 rfl (htX13_takeState (4, .aload_n 0, 1) (gx_m 2 rfl)) ?_
  refine gx_Jgi (pc := 5) (ci := 13) (kk := 10) (by decide) (Or.inl rfl) (by decide) (by decide) q563 (htX13_takeState (5, .getfield 131, 3) (gx_m 3 rfl)) (fun v2 hv2 => ?_)
  refine gx_Jjoin (pcJ := 53) (lvJ := fun (j_1 : Unit) => [(0, gx_r 14 (some x0)), (1, gx_r 18 (some x1))]) (stJ := fun (j_1 : Unit) => []) (fun _ => True) (fun j_1 hj_1 => ?_) (fun kk1 hj1 => ?_)
  · refine gx_aload_n (pc := 53) (n := 0) (i := 0) rfl 0 rfl (htX13_takeState (53, .aload_n 0, 1) (gx_m 25 rfl)) ?_
    refine gx_aload_n (pc := 54) (n := 1) (i := 1) rfl 1 rfl (htX13_takeState (54, .aload_n 1, 1) (gx_m 26 rfl)) ?_
    refine gx_iconst (pc := 55) (v := 1) (by decide) (htX13_takeState (55, .iconst 1, 1) (gx_m 27 rfl)) ?_
    refine gx_aload_n (pc := 56) (n := 1) (i := 1) rfl 1 rfl (htX13_takeState (56, .aload_n 1, 1) (gx_m 28 rfl)) ?_
    refine gx_Jgi (pc := 57) (ci := 17) (kk := 4) (by decide) (Or.inl rfl) (by decide) (by decide) q1123 (htX13_takeState (57, .getfield 169, 3) (gx_m 29 rfl)) (fun v9 hv9 => ?_)
    refine gx_Jcv (pc := 60) (gx_hst (as := [gx_r 18 (some x1), gx_i 1, gx_i v9]) (b := gx_r 14 (some x0))) (gx_runV (as := [gx_r 18 (some x1), gx_i 1, gx_i v9]) (ci := 13) (ct_X13_reply_2 Y x0 x1 1 v9) (by decide) (Or.inl rfl) rfl rfl rfl rfl q1430 q1432 qs36 q113 q1433 rfl dd_X13_reply_2 (by decide) (by decide) (Nat.le_of_ble_eq_true rfl) (htX13_takeState (60, .invokevirtual 324, 3) (gx_m 30 rfl))) ?_
    exact gx_Jvret (pc := 63) rfl (fun _ => trivial) (fun _ _ => rfl) (htX13_takeState (63, .return_, 1) (gx_m 31 rfl))
  · refine gx_icmp_le (pc := 8) (tgt := 53) (by decide) (htX13_takeState (8, .if_icmp .le 45, 3) (gx_m 4 rfl)) (fun c2 => ?_) (fun c2 => ?_)
    · exact hj1 () trivial
    · refine gx_aload_n (pc := 11) (n := 0) (i := 0) rfl 0 rfl (htX13_takeState (11, .aload_n 0, 1) (gx_m 5 rfl)) ?_
      refine gx_Jgs (pc := 12) (ci := 13) (kk := 5) (t2 := 16) (by decide) (by decide) rfl rfl rfl q554 (htX13_takeState (12, .getfield 69, 3) (gx_m 6 rfl)) ?_
      refine gx_aload_n (pc := 15) (n := 1) (i := 1) rfl 1 rfl (htX13_takeState (15, .aload_n 1, 1) (gx_m 7 rfl)) ?_
      refine gx_Jgi (pc := 16) (ci := 17) (kk := 4) (by decide) (Or.inl rfl) (by decide) (by decide) q1123 (htX13_takeState (16, .getfield 169, 3) (gx_m 8 rfl)) (fun v3 hv3 => ?_)
      refine gx_aload_n (pc := 19) (n := 1) (i := 1) rfl 1 rfl (htX13_takeState (19, .aload_n 1, 1) (gx_m 9 rfl)) ?_
      refine gx_Jgi (pc := 20) (ci := 17) (kk := 5) (by decide) (Or.inl rfl) (by decide) (by decide) q1125 (htX13_takeState (20, .getfield 172, 3) (gx_m 10 rfl)) (fun v4 hv4 => ?_)
      refine gx_aload_n (pc := 23) (n := 1) (i := 1) rfl 1 rfl (htX13_takeState (23, .aload_n 1, 1) (gx_m 11 rfl)) ?_
      refine gx_Jgi (pc := 24) (ci := 17) (kk := 8) (by decide) (Or.inl rfl) (by decide) (by decide) q1131 (htX13_takeState (24, .getfield 179, 3) (gx_m 12 rfl)) (fun v5 hv5 => ?_)
      refine gx_Jcv (pc := 27) (gx_hst (as := [gx_i v3, gx_i v4, gx_i v5]) (b := gx_r 16 (some (5 :: x0)))) (gx_runV (as := [gx_i v3, gx_i v4, gx_i v5]) (ci := 15) (ct_X15_snapshot Y (5 :: x0) v3 v4 v5) (by decide) (Or.inl rfl) rfl rfl rfl rfl q1438 q1256 q1257 q115 q1258 rfl dd_X15_snapshot (by decide) (by decide) (Nat.le_of_ble_eq_true rfl) (htX13_takeState (27, .invokevirtual 295, 3) (gx_m 13 rfl))) ?_
      refine gx_aload_n (pc := 30) (n := 0) (i := 0) rfl 0 rfl (htX13_takeState (30, .aload_n 0, 1) (gx_m 14 rfl)) ?_
      refine gx_Jgs (pc := 31) (ci := 13) (kk := 2) (t2 := 15) (by decide) (by decide) rfl rfl rfl q548 (htX13_takeState (31, .getfield 62, 3) (gx_m 15 rfl)) ?_
      refine gx_aload_n (pc := 34) (n := 1) (i := 1) rfl 1 rfl (htX13_takeState (34, .aload_n 1, 1) (gx_m 16 rfl)) ?_
      refine gx_Jgi (pc := 35) (ci := 17) (kk := 4) (by decide) (Or.inl rfl) (by decide) (by decide) q1123 (htX13_takeState (35, .getfield 169, 3) (gx_m 17 rfl)) (fun v6 hv6 => ?_)
      refine gx_aload_n (pc := 38) (n := 1) (i := 1) rfl 1 rfl (htX13_takeState (38, .aload_n 1, 1) (gx_m 18 rfl)) ?_
      refine gx_Jgi (pc := 39) (ci := 17) (kk := 5) (by decide) (Or.inl rfl) (by decide) (by decide) q1125 (htX13_takeState (39, .getfield 172, 3) (gx_m 19 rfl)) (fun v7 hv7 => ?_)
      refine gx_aload_n (pc := 42) (n := 1) (i := 1) rfl 1 rfl (htX13_takeState (42, .aload_n 1, 1) (gx_m 20 rfl)) ?_
      refine gx_Jgi (pc := 43) (ci := 17) (kk := 8) (by decide) (Or.inl rfl) (by decide) (by decide) q1131 (htX13_takeState (43, .getfield 179, 3) (gx_m 21 rfl)) (fun v8 hv8 => ?_)
      refine gx_Jcv (pc := 46) (gx_hst (as := [gx_i v6, gx_i v7, gx_i v8]) (b := gx_r 15 (some (2 :: x0)))) (gx_runV (as := [gx_i v6, gx_i v7, gx_i v8]) (ci := 14) (ct_X14_writeSnapshot Y (2 :: x0) v6 v7 v8) (by decide) (Or.inl rfl) rfl rfl rfl rfl q1439 q1440 q1441 q114 q1442 rfl dd_X14_writeSnapshot (by decide) (by decide) (Nat.le_of_ble_eq_true rfl) (htX13_takeState (46, .invokevirtual 299, 3) (gx_m 22 rfl))) ?_
      refine gx_aload_n (pc := 49) (n := 0) (i := 0) rfl 0 rfl (htX13_takeState (49, .aload_n 0, 1) (gx_m 23 rfl)) ?_
      refine gx_Jcv (pc := 50) (gx_hst (as := []) (b := gx_r 14 (some x0))) (gx_runV (as := []) (ci := 13) (ct_X13_whole Y x0) (by decide) (Or.inl rfl) rfl rfl rfl rfl q861 q863 qs2 q113 q864 rfl dd_X13_whole (by decide) (by decide) (Nat.le_of_ble_eq_true rfl) (htX13_takeState (50, .invokevirtual 119, 3) (gx_m 24 rfl))) ?_
      exact hj1 () trivial
theorem ct_X7_revision (Y : gx_Y) (x0 : gx_Nm) (x1 : Int32) : gx_Ct Y yX7_revision (ws_ yX7_revision cX7_revision 2 (some .int)) 2 121 [gx_r 8 (some x0), gx_i x1] gx_Oi (f_X7_revision x0 x1) := by
  refine gx_start (lv := [(0, gx_r 8 (some x0)), (1, gx_i x1)]) gx_Oi_r pn_X7 (Nat.le_of_ble_eq_true rfl) rfl ?_
  unfold f_X7_revision
  refine gx_aload_n (pc := 0) (n := 0) (i := 0) rfl 0 rfl (htX7_revision (0, .aload_n 0, 1) (gx_m 0 rfl)) ?_
  refine gx_Jgs (pc := 1) (ci := 7) (kk := 3) (t2 := 6) (by decide) (by decide) rfl rfl rfl q309 (htX7_revision (1, .getfield 21, 3) (gx_m 1 rfl)) ?_
  refine gx_iload_n (pc := 4) (n := 1) (i := 1) rfl 1 rfl (htX7_revision (4, .iload_n 1, 1) (gx_m 2 rfl)) ?_
  refine gx_Jci (pc := 5) (gx_hst (as := [gx_i x1]) (b := gx_r 6 (some (3 :: x0)))) (gx_runV (as := [gx_i x1]) (ci := 5) (ct_X5_get Y (3 :: x0) x1) (by decide) (Or.inl rfl) rfl rfl rfl rfl q667 q668 q669 q105 q670 rfl dd_X5_get (by decide) (by decide) (Nat.le_of_ble_eq_true rfl) (htX7_revision (5, .invokevirtual 89, 3) (gx_m 3 rfl))) (fun v1 => ?_)
  exact gx_Jiret (pc := 8) rfl (fun _ => trivial) (fun _ _ => rfl) (htX7_revision (8, .ireturn, 1) (gx_m 4 rfl))
theorem ct_X13_answer (Y : gx_Y) (x0 : gx_Nm) (x1 : gx_Nm) : gx_Ct Y yX13_answer (ws_ yX13_answer cX13_answer 3 none) 4 177 [gx_r 14 (some x0), gx_r 19 (some x1)] gx_Ov (f_X13_answer x0 x1) := by
  refine gx_start (lv := [(0, gx_r 14 (some x0)), (1, gx_r 19 (some x1))]) gx_Ov_r pn_X13 (Nat.le_of_ble_eq_true rfl) rfl ?_
  unfold f_X13_answer
  refine gx_aload_n (pc := 0) (n := 0) (i := 0) rfl 0 rfl (htX13_answer (0, .aload_n 0, 1) (gx_m 0 rfl)) ?_
  refine gx_Jgi (pc := 1) (ci := 13) (kk := 10) (by decide) (Or.inl rfl) (by decide) (by decide) q563 (htX13_answer (1, .getfield 131, 3) (gx_m 1 rfl)) (fun v1 hv1 => ?_)
  refine gx_aload_n (pc := 4) (n := 1) (i := 1) rfl 1 rfl (htX13_answer (4, .aload_n 1, 1) (gx_m 2 rfl)) ?_
  refine gx_Jgi (pc := 5) (ci := 18) (kk := 2) (by decide) (Or.inl rfl) (by decide) (by decide) q1509 (htX13_answer (5, .getfield 346, 3) (gx_m 3 rfl)) (fun v2 hv2 => ?_)
  refine gx_Jjoin (pcJ := 24) (lvJ := fun (j_1 : Unit) => [(0, gx_r 14 (some x0)), (1, gx_r 19 (some x1))]) (stJ := fun (j_1 : Unit) => []) (fun _ => True) (fun j_1 hj_1 => ?_) (fun kk1 hj1 => ?_)
  · refine gx_aload_n (pc := 24) (n := 0) (i := 0) rfl 0 rfl (htX13_answer (24, .aload_n 0, 1) (gx_m 12 rfl)) ?_
    refine gx_Jgs (pc := 25) (ci := 13) (kk := 0) (t2 := 3) (by decide) (by decide) rfl rfl rfl q546 (htX13_answer (25, .getfield 43, 3) (gx_m 13 rfl)) ?_
    refine gx_Jgs (pc := 28) (ci := 2) (kk := 2) (t2 := 8) (by decide) (by decide) rfl rfl rfl q407 (htX13_answer (28, .getfield 280, 3) (gx_m 14 rfl)) ?_
    refine gx_aload_n (pc := 31) (n := 0) (i := 0) rfl 0 rfl (htX13_answer (31, .aload_n 0, 1) (gx_m 15 rfl)) ?_
    refine gx_Jgi (pc := 32) (ci := 13) (kk := 11) (by decide) (Or.inl rfl) (by decide) (by decide) q565 (htX13_answer (32, .getfield 137, 3) (gx_m 16 rfl)) (fun v4 hv4 => ?_)
    refine gx_aload_n (pc := 35) (n := 1) (i := 1) rfl 1 rfl (htX13_answer (35, .aload_n 1, 1) (gx_m 17 rfl)) ?_
    refine gx_Jgi (pc := 36) (ci := 18) (kk := 0) (by decide) (Or.inl rfl) (by decide) (by decide) q1507 (htX13_answer (36, .getfield 337, 3) (gx_m 18 rfl)) (fun v5 hv5 => ?_)
    refine gx_aload_n (pc := 39) (n := 1) (i := 1) rfl 1 rfl (htX13_answer (39, .aload_n 1, 1) (gx_m 19 rfl)) ?_
    refine gx_Jgi (pc := 40) (ci := 18) (kk := 1) (by decide) (Or.inl rfl) (by decide) (by decide) q1508 (htX13_answer (40, .getfield 340, 3) (gx_m 20 rfl)) (fun v6 hv6 => ?_)
    refine gx_Jco (pc := 43) (t2 := 10) (gx_hst (as := [gx_i v4, gx_i v5, gx_i v6]) (b := gx_r 8 (some [2, 0, 1]))) (gx_runV (as := [gx_i v4, gx_i v5, gx_i v6]) (ci := 7) (ct_X7_find Y [2, 0, 1] v4 v5 v6) (by decide) (Or.inl rfl) rfl rfl rfl rfl q1455 q1301 q1302 q107 q1303 rfl dd_X7_find (by decide) (by decide) (Nat.le_of_ble_eq_true rfl) (htX13_answer (43, .invokevirtual 360, 3) (gx_m 21 rfl))) (fun v7 => ?_)
    refine gx_astore_n (pc := 46) (n := 2) (i := 2) (lv' := [(2, gx_r 10 v7), (0, gx_r 14 (some x0)), (1, gx_r 19 (some x1))]) rfl (by decide) rfl (htX13_answer (46, .astore_n 2, 1) (gx_m 22 rfl)) ?_
    refine gx_aload_n (pc := 47) (n := 1) (i := 1) rfl 2 rfl (htX13_answer (47, .aload_n 1, 1) (gx_m 23 rfl)) ?_
    refine gx_iconst (pc := 48) (v := 1) (by decide) (htX13_answer (48, .iconst 1, 1) (gx_m 24 rfl)) ?_
    refine gx_Jpz (pc := 49) (ci := 18) (kk := 4) (by decide) (Or.inl rfl) (by decide) rfl rfl gx_b1 q1511 (Or.inl rfl) (htX13_answer (49, .putfield 350, 3) (gx_m 25 rfl)) ?_
    refine gx_aload_n (pc := 52) (n := 1) (i := 1) rfl 2 rfl (htX13_answer (52, .aload_n 1, 1) (gx_m 26 rfl)) ?_
    refine gx_Jgs (pc := 53) (ci := 18) (kk := 5) (t2 := 100) (by decide) (by decide) rfl rfl rfl q1513 (htX13_answer (53, .getfield 364, 3) (gx_m 27 rfl)) ?_
    refine gx_iconst (pc := 56) (v := 0) (by decide) (htX13_answer (56, .iconst 0, 1) (gx_m 28 rfl)) ?_
    refine gx_aload_n (pc := 57) (n := 2) (i := 2) rfl 0 rfl (htX13_answer (57, .aload_n 2, 1) (gx_m 29 rfl)) ?_
    refine gx_Jjoin (pcJ := 66) (lvJ := fun (j8 : Int32) => [(0, gx_r 14 (some x0)), (1, gx_r 19 (some x1)), (2, gx_r 10 v7)]) (stJ := fun (j8 : Int32) => [gx_i j8, gx_i 0, gx_r 100 (some (5 :: x1))]) (fun (j8 : Int32) => j8 &&& 1 = j8) (fun j8 hj8 => ?_) (fun kk2 hj2 => ?_)
    · refine gx_Jis (pc := 66) (htX13_answer (66, .iastore, 1) (gx_m 34 rfl)) ?_
      refine gx_aload_n (pc := 67) (n := 1) (i := 1) rfl 1 rfl (htX13_answer (67, .aload_n 1, 1) (gx_m 35 rfl)) ?_
      refine gx_Jgs (pc := 68) (ci := 18) (kk := 5) (t2 := 100) (by decide) (by decide) rfl rfl rfl q1513 (htX13_answer (68, .getfield 364, 3) (gx_m 36 rfl)) ?_
      refine gx_iconst (pc := 71) (v := 1) (by decide) (htX13_answer (71, .iconst 1, 1) (gx_m 37 rfl)) ?_
      refine gx_aload_n (pc := 72) (n := 2) (i := 2) rfl 2 rfl (htX13_answer (72, .aload_n 2, 1) (gx_m 38 rfl)) ?_
      refine gx_Jjoin (pcJ := 84) (lvJ := fun (j11 : Int32) => [(0, gx_r 14 (some x0)), (1, gx_r 19 (some x1)), (2, gx_r 10 v7)]) (stJ := fun (j11 : Int32) => [gx_i j11, gx_i 1, gx_r 100 (some (5 :: x1))]) (fun _ => True) (fun j11 hj11 => ?_) (fun kk3 hj3 => ?_)
      · refine gx_Jis (pc := 84) (htX13_answer (84, .iastore, 1) (gx_m 44 rfl)) ?_
        refine gx_aload_n (pc := 85) (n := 1) (i := 1) rfl 1 rfl (htX13_answer (85, .aload_n 1, 1) (gx_m 45 rfl)) ?_
        refine gx_Jgs (pc := 86) (ci := 18) (kk := 5) (t2 := 100) (by decide) (by decide) rfl rfl rfl q1513 (htX13_answer (86, .getfield 364, 3) (gx_m 46 rfl)) ?_
        refine gx_iconst (pc := 89) (v := 2) (by decide) (htX13_answer (89, .iconst 2, 1) (gx_m 47 rfl)) ?_
        refine gx_aload_n (pc := 90) (n := 2) (i := 2) rfl 2 rfl (htX13_answer (90, .aload_n 2, 1) (gx_m 48 rfl)) ?_
        refine gx_Jjoin (pcJ := 102) (lvJ := fun (j14 : Int32) => [(0, gx_r 14 (some x0)), (1, gx_r 19 (some x1))]) (stJ := fun (j14 : Int32) => [gx_i j14, gx_i 2, gx_r 100 (some (5 :: x1))]) (fun _ => True) (fun j14 hj14 => ?_) (fun kk4 hj4 => ?_)
        · refine gx_Jis (pc := 102) (htX13_answer (102, .iastore, 1) (gx_m 54 rfl)) ?_
          refine gx_aload_n (pc := 103) (n := 1) (i := 1) rfl 1 rfl (htX13_answer (103, .aload_n 1, 1) (gx_m 55 rfl)) ?_
          refine gx_Jgs (pc := 104) (ci := 18) (kk := 5) (t2 := 100) (by decide) (by decide) rfl rfl rfl q1513 (htX13_answer (104, .getfield 364, 3) (gx_m 56 rfl)) ?_
          refine gx_iconst (pc := 107) (v := 3) (by decide) (htX13_answer (107, .iconst 3, 1) (gx_m 57 rfl)) ?_
          refine gx_aload_n (pc := 108) (n := 0) (i := 0) rfl 0 rfl (htX13_answer (108, .aload_n 0, 1) (gx_m 58 rfl)) ?_
          refine gx_Jgs (pc := 109) (ci := 13) (kk := 0) (t2 := 3) (by decide) (by decide) rfl rfl rfl q546 (htX13_answer (109, .getfield 43, 3) (gx_m 59 rfl)) ?_
          refine gx_Jgs (pc := 112) (ci := 2) (kk := 2) (t2 := 8) (by decide) (by decide) rfl rfl rfl q407 (htX13_answer (112, .getfield 280, 3) (gx_m 60 rfl)) ?_
          refine gx_aload_n (pc := 115) (n := 0) (i := 0) rfl 0 rfl (htX13_answer (115, .aload_n 0, 1) (gx_m 61 rfl)) ?_
          refine gx_Jgi (pc := 116) (ci := 13) (kk := 11) (by decide) (Or.inl rfl) (by decide) (by decide) q565 (htX13_answer (116, .getfield 137, 3) (gx_m 62 rfl)) (fun v15 hv15 => ?_)
          refine gx_Jci (pc := 119) (gx_hst (as := [gx_i v15]) (b := gx_r 8 (some [2, 0, 1]))) (gx_runV (as := [gx_i v15]) (ci := 7) (ct_X7_revision Y [2, 0, 1] v15) (by decide) (Or.inl rfl) rfl rfl rfl rfl q1456 q1457 q1458 q107 q1459 rfl dd_X7_revision (by decide) (by decide) (Nat.le_of_ble_eq_true rfl) (htX13_answer (119, .invokevirtual 374, 3) (gx_m 63 rfl))) (fun v16 => ?_)
          refine gx_Jis (pc := 122) (htX13_answer (122, .iastore, 1) (gx_m 64 rfl)) ?_
          exact gx_Jvret (pc := 123) rfl (fun _ => trivial) (fun _ _ => rfl) (htX13_answer (123, .return_, 1) (gx_m 65 rfl))
        · refine gx_ifnonnull (pc := 91) (tgt := 98) (by decide) (htX13_answer (91, .ifnonnull 7, 3) (gx_m 49 rfl)) (fun c5 => ?_) (fun c5 => ?_)
          · refine gx_iconst (pc := 94) (v := 0) (by decide) (htX13_answer (94, .iconst 0, 1) (gx_m 50 rfl)) ?_
            refine gx_goto (pc := 95) (tgt := 102) (by decide) (htX13_answer (95, .goto 7, 3) (gx_m 51 rfl)) ?_
            refine gx_Jw (lv := [(0, gx_r 14 (some x0)), (1, gx_r 19 (some x1))]) [0, 1] rfl ?_
            exact hj4 (0 : Int32) trivial
          · refine gx_aload_n (pc := 98) (n := 2) (i := 2) rfl 2 rfl (htX13_answer (98, .aload_n 2, 1) (gx_m 52 rfl)) ?_
            refine gx_Jnn (st0 := fun v12 => [gx_r 10 (some v12), gx_i 2, gx_r 100 (some (5 :: x1))]) (fun _ h => by rw [h]) (fun v12 => ?_)
            refine gx_Jgi (pc := 99) (ci := 9) (kk := 7) (by decide) (Or.inl rfl) (by decide) (by decide) q283 (htX13_answer (99, .getfield 371, 3) (gx_m 53 rfl)) (fun v13 hv13 => ?_)
            refine gx_Jw (lv := [(0, gx_r 14 (some x0)), (1, gx_r 19 (some x1))]) [0, 1] rfl ?_
            exact hj4 (v13 : Int32) trivial
      · refine gx_ifnonnull (pc := 73) (tgt := 80) (by decide) (htX13_answer (73, .ifnonnull 7, 3) (gx_m 39 rfl)) (fun c6 => ?_) (fun c6 => ?_)
        · refine gx_iconst (pc := 76) (v := 0) (by decide) (htX13_answer (76, .iconst 0, 1) (gx_m 40 rfl)) ?_
          refine gx_goto (pc := 77) (tgt := 84) (by decide) (htX13_answer (77, .goto 7, 3) (gx_m 41 rfl)) ?_
          exact hj3 (0 : Int32) trivial
        · refine gx_aload_n (pc := 80) (n := 2) (i := 2) rfl 2 rfl (htX13_answer (80, .aload_n 2, 1) (gx_m 42 rfl)) ?_
          refine gx_Jnn (st0 := fun v9 => [gx_r 10 (some v9), gx_i 1, gx_r 100 (some (5 :: x1))]) (fun _ h => by rw [h]) (fun v9 => ?_)
          refine gx_Jgi (pc := 81) (ci := 9) (kk := 6) (by decide) (Or.inl rfl) (by decide) (by decide) q279 (htX13_answer (81, .getfield 366, 3) (gx_m 43 rfl)) (fun v10 hv10 => ?_)
          exact hj3 (v10 : Int32) trivial
    · refine gx_ifnonnull (pc := 58) (tgt := 65) (by decide) (htX13_answer (58, .ifnonnull 7, 3) (gx_m 30 rfl)) (fun c7 => ?_) (fun c7 => ?_)
      · refine gx_iconst (pc := 61) (v := 0) (by decide) (htX13_answer (61, .iconst 0, 1) (gx_m 31 rfl)) ?_
        refine gx_goto (pc := 62) (tgt := 66) (by decide) (htX13_answer (62, .goto 4, 3) (gx_m 32 rfl)) ?_
        refine gx_Jw (lv := [(0, gx_r 14 (some x0)), (1, gx_r 19 (some x1)), (2, gx_r 10 v7)]) [1, 2, 0] rfl ?_
        exact hj2 (0 : Int32) gx_b0
      · refine gx_iconst (pc := 65) (v := 1) (by decide) (htX13_answer (65, .iconst 1, 1) (gx_m 33 rfl)) ?_
        refine gx_Jw (lv := [(0, gx_r 14 (some x0)), (1, gx_r 19 (some x1)), (2, gx_r 10 v7)]) [1, 2, 0] rfl ?_
        exact hj2 (1 : Int32) gx_b1
  · refine gx_icmp_ge (pc := 8) (tgt := 24) (by decide) (htX13_answer (8, .if_icmp .ge 16, 3) (gx_m 4 rfl)) (fun c8 => ?_) (fun c8 => ?_)
    · exact hj1 () trivial
    · refine gx_aload_n (pc := 11) (n := 0) (i := 0) rfl 0 rfl (htX13_answer (11, .aload_n 0, 1) (gx_m 5 rfl)) ?_
      refine gx_Jgs (pc := 12) (ci := 13) (kk := 0) (t2 := 3) (by decide) (by decide) rfl rfl rfl q546 (htX13_answer (12, .getfield 43, 3) (gx_m 6 rfl)) ?_
      refine gx_dup (pc := 15) rfl (htX13_answer (15, .dup, 1) (gx_m 7 rfl)) ?_
      refine gx_Jgi (pc := 16) (ci := 2) (kk := 5) (by decide) (Or.inl rfl) (by decide) (by decide) q416 (htX13_answer (16, .getfield 357, 3) (gx_m 8 rfl)) (fun v3 hv3 => ?_)
      refine gx_iconst (pc := 19) (v := 1) (by decide) (htX13_answer (19, .iconst 1, 1) (gx_m 9 rfl)) ?_
      refine gx_iadd (pc := 20) (htX13_answer (20, .iadd, 1) (gx_m 10 rfl)) ?_
      refine gx_Jpi (pc := 21) (ci := 2) (kk := 5) (by decide) (Or.inl rfl) (by decide) rfl rfl q416 (Or.inl rfl) (htX13_answer (21, .putfield 357, 3) (gx_m 11 rfl)) ?_
      exact hj1 () trivial
theorem ct_X13_lookAtReads (Y : gx_Y) (x0 : gx_Nm) : gx_Ct Y yX13_lookAtReads (ws_ yX13_lookAtReads cX13_lookAtReads 5 none) 5 199 [gx_r 14 (some x0)] gx_Ov (f_X13_lookAtReads x0) := by
  refine gx_start (lv := [(0, gx_r 14 (some x0))]) gx_Ov_r pn_X13 (Nat.le_of_ble_eq_true rfl) rfl ?_
  unfold f_X13_lookAtReads
  refine gx_aload_n (pc := 0) (n := 0) (i := 0) rfl 0 rfl (htX13_lookAtReads (0, .aload_n 0, 1) (gx_m 0 rfl)) ?_
  refine gx_Jgi (pc := 1) (ci := 13) (kk := 22) (by decide) (Or.inl rfl) (by decide) (by decide) q577 (htX13_lookAtReads (1, .getfield 148, 3) (gx_m 1 rfl)) (fun v1 hv1 => ?_)
  refine gx_istore_n (pc := 4) (n := 1) (i := 1) (lv' := [(1, gx_i v1), (0, gx_r 14 (some x0))]) rfl (by decide) rfl (htX13_lookAtReads (4, .istore_n 1, 1) (gx_m 2 rfl)) ?_
  refine gx_JjoinE (pcJ := 95) (lvJ := fun (j_1 : Unit) => []) (stJ := fun (j_1 : Unit) => []) (gr := fun r => gx_rt r) (fun _ => rfl) (fun _ => rfl) (fun j_1 => ?_) (fun kk1 hj1 he1 => ?_)
  · exact gx_Jvret (pc := 95) rfl (fun _ => trivial) (fun _ _ => rfl) (htX13_lookAtReads (95, .return_, 1) (gx_m 53 rfl))
  · refine gx_Jw (lv := [(0, gx_r 14 (some x0)), (1, gx_i v1)]) [1, 0] rfl ?_
    refine gx_Jlp (pc := 5) (lvh := fun (s2 : Int32) => [(0, gx_r 14 (some x0)), (1, gx_i s2)]) (fun s2 kl1 ha1 hb1 => ?_) _
    unfold lb_X13_lookAtReads_2
    refine gx_iload_n (pc := 5) (n := 1) (i := 1) rfl 1 rfl (htX13_lookAtReads (5, .iload_n 1, 1) (gx_m 3 rfl)) ?_
    refine gx_aload_n (pc := 6) (n := 0) (i := 0) rfl 0 rfl (htX13_lookAtReads (6, .aload_n 0, 1) (gx_m 4 rfl)) ?_
    refine gx_Jgi (pc := 7) (ci := 13) (kk := 21) (by decide) (Or.inl rfl) (by decide) (by decide) q576 (htX13_lookAtReads (7, .getfield 145, 3) (gx_m 5 rfl)) (fun v3 hv3 => ?_)
    refine gx_icmp_ge (pc := 10) (tgt := 95) (by decide) (htX13_lookAtReads (10, .if_icmp .ge 85, 3) (gx_m 6 rfl)) (fun c2 => ?_) (fun c2 => ?_)
    · refine gx_Jw (lv := []) [] rfl ?_
      exact gx_Jout hb1 (hj1 ())
    · refine gx_aload_n (pc := 13) (n := 0) (i := 0) rfl 0 rfl (htX13_lookAtReads (13, .aload_n 0, 1) (gx_m 7 rfl)) ?_
      refine gx_Jgr (pc := 14) (ci := 13) (kk := 20) (t2 := 109) (by decide) (Or.inl rfl) (by decide) rfl rfl q575 (htX13_lookAtReads (14, .getfield 39, 3) (gx_m 8 rfl)) (fun v4 => ?_)
      refine gx_iload_n (pc := 17) (n := 1) (i := 1) rfl 1 rfl (htX13_lookAtReads (17, .iload_n 1, 1) (gx_m 9 rfl)) ?_
      refine gx_Jra (pc := 18) (t := 9) (t2 := 19) (by decide) (by decide) rfl (htX13_lookAtReads (18, .aaload, 1) (gx_m 10 rfl)) (fun v5 => ?_)
      refine gx_astore_n (pc := 19) (n := 2) (i := 2) (lv' := [(2, gx_r 19 (some v5)), (0, gx_r 14 (some x0)), (1, gx_i s2)]) rfl (by decide) rfl (htX13_lookAtReads (19, .astore_n 2, 1) (gx_m 11 rfl)) ?_
      refine gx_iconst (pc := 20) (v := 0) (by decide) (htX13_lookAtReads (20, .iconst 0, 1) (gx_m 12 rfl)) ?_
      refine gx_istore_n (pc := 21) (n := 3) (i := 3) (lv' := [(3, gx_i 0), (2, gx_r 19 (some v5)), (0, gx_r 14 (some x0)), (1, gx_i s2)]) rfl (by decide) rfl (htX13_lookAtReads (21, .istore_n 3, 1) (gx_m 13 rfl)) ?_
      refine gx_iconst (pc := 22) (v := 0) (by decide) (htX13_lookAtReads (22, .iconst 0, 1) (gx_m 14 rfl)) ?_
      refine gx_istore (pc := 23) (i := 4) (lv' := [(4, gx_i 0), (3, gx_i 0), (2, gx_r 19 (some v5)), (0, gx_r 14 (some x0)), (1, gx_i s2)]) (by decide) rfl (htX13_lookAtReads (23, .istore 4, 2) (gx_m 15 rfl)) ?_
      refine gx_Jjoin (pcJ := 68) (lvJ := fun (j11 : Int32) => [(0, gx_r 14 (some x0)), (1, gx_i s2), (2, gx_r 19 (some v5)), (3, gx_i j11)]) (stJ := fun (j11 : Int32) => []) (fun _ => True) (fun j11 _ => ?_) (fun kk3 hj3 => ?_)
      · refine gx_aload_n (pc := 68) (n := 0) (i := 0) rfl 0 rfl (htX13_lookAtReads (68, .aload_n 0, 1) (gx_m 38 rfl)) ?_
        refine gx_iload_n (pc := 69) (n := 3) (i := 3) rfl 3 rfl (htX13_lookAtReads (69, .iload_n 3, 1) (gx_m 39 rfl)) ?_
        refine gx_Jcz (pc := 70) (gx_hst (as := [gx_i j11]) (b := gx_r 14 (some x0))) (gx_runV (as := [gx_i j11]) (ci := 13) (ct_X13_isMajority Y x0 j11) (by decide) (Or.inl rfl) rfl rfl rfl rfl q1207 q1209 qs16 q113 q1210 rfl dd_X13_isMajority (by decide) (by decide) (Nat.le_of_ble_eq_true rfl) (htX13_lookAtReads (70, .invokevirtual 223, 3) (gx_m 40 rfl))) (fun v12 hv12 => ?_)
        refine gx_if_ne (pc := 73) (y := 0) (tgt := 77) (by decide) (htX13_lookAtReads (73, .ifCond .ne 4, 3) (gx_m 41 rfl)) (fun c4 => ?_) (fun c4 => ?_)
        · refine gx_Jret ((hb1 _).trans (he1 _)) ?_
          exact gx_Jvret (pc := 76) rfl (fun _ => trivial) (fun _ _ => rfl) (htX13_lookAtReads (76, .return_, 1) (gx_m 42 rfl))
        · refine gx_aload_n (pc := 77) (n := 0) (i := 0) rfl 0 rfl (htX13_lookAtReads (77, .aload_n 0, 1) (gx_m 43 rfl)) ?_
          refine gx_aload_n (pc := 78) (n := 2) (i := 2) rfl 2 rfl (htX13_lookAtReads (78, .aload_n 2, 1) (gx_m 44 rfl)) ?_
          refine gx_Jcv (pc := 79) (gx_hst (as := [gx_r 19 (some v5)]) (b := gx_r 14 (some x0))) (gx_runV (as := [gx_r 19 (some v5)]) (ci := 13) (ct_X13_answer Y x0 v5) (by decide) (Or.inl rfl) rfl rfl rfl rfl q1451 q1453 qs40 q113 q1454 rfl dd_X13_answer (by decide) (by decide) (Nat.le_of_ble_eq_true rfl) (htX13_lookAtReads (79, .invokevirtual 353, 3) (gx_m 45 rfl))) ?_
          refine gx_aload_n (pc := 82) (n := 0) (i := 0) rfl 0 rfl (htX13_lookAtReads (82, .aload_n 0, 1) (gx_m 46 rfl)) ?_
          refine gx_iload_n (pc := 83) (n := 1) (i := 1) rfl 1 rfl (htX13_lookAtReads (83, .iload_n 1, 1) (gx_m 47 rfl)) ?_
          refine gx_iconst (pc := 84) (v := 1) (by decide) (htX13_lookAtReads (84, .iconst 1, 1) (gx_m 48 rfl)) ?_
          refine gx_iadd (pc := 85) (htX13_lookAtReads (85, .iadd, 1) (gx_m 49 rfl)) ?_
          refine gx_Jpi (pc := 86) (ci := 13) (kk := 22) (by decide) (Or.inl rfl) (by decide) rfl rfl q577 (Or.inl rfl) (htX13_lookAtReads (86, .putfield 148, 3) (gx_m 50 rfl)) ?_
          refine gx_iinc (pc := 89) (i := 1) (j := 1) (v := (s2 + 1)) (lv' := [(1, gx_i (s2 + 1)), (0, gx_r 14 (some x0)), (2, gx_r 19 (some v5)), (3, gx_i j11)]) rfl (gx_iv (by decide)) (by decide) rfl (htX13_lookAtReads (89, .iinc 1 1, 3) (gx_m 51 rfl)) ?_
          refine gx_goto (pc := 92) (tgt := 5) (by decide) (htX13_lookAtReads (92, .goto (-87), 3) (gx_m 52 rfl)) ?_
          refine gx_Jw (lv := [(0, gx_r 14 (some x0)), (1, gx_i (s2 + 1))]) [1, 0] rfl ?_
          exact ha1 ((s2 + 1) : Int32)
      · refine gx_Jw (lv := [(0, gx_r 14 (some x0)), (1, gx_i s2), (2, gx_r 19 (some v5)), (3, gx_i 0), (4, gx_i 0)]) [3, 4, 2, 1, 0] rfl ?_
        refine gx_Jlp (pc := 25) (lvh := fun (s6 : Int32 × Int32) => [(0, gx_r 14 (some x0)), (1, gx_i s2), (2, gx_r 19 (some v5)), (3, gx_i s6.1), (4, gx_i s6.2)]) (fun s6 kl3 ha3 hb3 => ?_) _
        unfold lb_X13_lookAtReads_1
        refine gx_iload (pc := 25) (i := 4) 4 rfl (htX13_lookAtReads (25, .iload 4, 2) (gx_m 16 rfl)) ?_
        refine gx_aload_n (pc := 27) (n := 0) (i := 0) rfl 0 rfl (htX13_lookAtReads (27, .aload_n 0, 1) (gx_m 17 rfl)) ?_
        refine gx_Jgs (pc := 28) (ci := 13) (kk := 0) (t2 := 3) (by decide) (by decide) rfl rfl rfl q546 (htX13_lookAtReads (28, .getfield 43, 3) (gx_m 18 rfl)) ?_
        refine gx_Jgi (pc := 31) (ci := 2) (kk := 4) (by decide) (Or.inl rfl) (by decide) (by decide) q414 (htX13_lookAtReads (31, .getfield 211, 3) (gx_m 19 rfl)) (fun v7 hv7 => ?_)
        refine gx_icmp_ge (pc := 34) (tgt := 68) (by decide) (htX13_lookAtReads (34, .if_icmp .ge 34, 3) (gx_m 20 rfl)) (fun c5 => ?_) (fun c5 => ?_)
        · refine gx_Jw (lv := [(0, gx_r 14 (some x0)), (1, gx_i s2), (2, gx_r 19 (some v5)), (3, gx_i s6.1)]) [0, 1, 2, 3] rfl ?_
          exact gx_Jout hb3 (hj3 (s6.1 : Int32) trivial)
        · refine gx_iload_n (pc := 37) (n := 3) (i := 3) rfl 3 rfl (htX13_lookAtReads (37, .iload_n 3, 1) (gx_m 21 rfl)) ?_
          refine gx_aload_n (pc := 38) (n := 0) (i := 0) rfl 0 rfl (htX13_lookAtReads (38, .aload_n 0, 1) (gx_m 22 rfl)) ?_
          refine gx_Jgs (pc := 39) (ci := 13) (kk := 19) (t2 := 100) (by decide) (by decide) rfl rfl rfl q574 (htX13_lookAtReads (39, .getfield 34, 3) (gx_m 23 rfl)) ?_
          refine gx_iload (pc := 42) (i := 4) 4 rfl (htX13_lookAtReads (42, .iload 4, 2) (gx_m 24 rfl)) ?_
          refine gx_Jia (pc := 44) (htX13_lookAtReads (44, .iaload, 1) (gx_m 25 rfl)) (fun v8 => ?_)
          refine gx_aload_n (pc := 45) (n := 2) (i := 2) rfl 2 rfl (htX13_lookAtReads (45, .aload_n 2, 1) (gx_m 26 rfl)) ?_
          refine gx_Jgi (pc := 46) (ci := 18) (kk := 3) (by decide) (Or.inl rfl) (by decide) (by decide) q1510 (htX13_lookAtReads (46, .getfield 349, 3) (gx_m 27 rfl)) (fun v9 hv9 => ?_)
          refine gx_Jjoin (pcJ := 60) (lvJ := fun (j10 : Int32) => [(0, gx_r 14 (some x0)), (1, gx_i s2), (2, gx_r 19 (some v5)), (4, gx_i s6.2)]) (stJ := fun (j10 : Int32) => [gx_i j10, gx_i s6.1]) (fun _ => True) (fun j10 hj10 => ?_) (fun kk6 hj6 => ?_)
          · refine gx_ior (pc := 60) (htX13_lookAtReads (60, .ior, 1) (gx_m 34 rfl)) ?_
            refine gx_istore_n (pc := 61) (n := 3) (i := 3) (lv' := [(3, gx_i (s6.1 ||| j10)), (0, gx_r 14 (some x0)), (1, gx_i s2), (2, gx_r 19 (some v5)), (4, gx_i s6.2)]) rfl (by decide) rfl (htX13_lookAtReads (61, .istore_n 3, 1) (gx_m 35 rfl)) ?_
            refine gx_iinc (pc := 62) (i := 4) (j := 4) (v := (s6.2 + 1)) (lv' := [(4, gx_i (s6.2 + 1)), (3, gx_i (s6.1 ||| j10)), (0, gx_r 14 (some x0)), (1, gx_i s2), (2, gx_r 19 (some v5))]) rfl (gx_iv (by decide)) (by decide) rfl (htX13_lookAtReads (62, .iinc 4 1, 3) (gx_m 36 rfl)) ?_
            refine gx_goto (pc := 65) (tgt := 25) (by decide) (htX13_lookAtReads (65, .goto (-40), 3) (gx_m 37 rfl)) ?_
            refine gx_Jw (lv := [(0, gx_r 14 (some x0)), (1, gx_i s2), (2, gx_r 19 (some v5)), (3, gx_i (s6.1 ||| j10)), (4, gx_i (s6.2 + 1))]) [2, 3, 4, 1, 0] rfl ?_
            exact ha3 (((s6.1 ||| j10) : Int32), ((s6.2 + 1) : Int32))
          · refine gx_icmp_lt (pc := 49) (tgt := 59) (by decide) (htX13_lookAtReads (49, .if_icmp .lt 10, 3) (gx_m 28 rfl)) (fun c7 => ?_) (fun c7 => ?_)
            · refine gx_iconst (pc := 59) (v := 0) (by decide) (htX13_lookAtReads (59, .iconst 0, 1) (gx_m 33 rfl)) ?_
              refine gx_Jw (lv := [(0, gx_r 14 (some x0)), (1, gx_i s2), (2, gx_r 19 (some v5)), (4, gx_i s6.2)]) [0, 1, 2, 4] rfl ?_
              exact hj6 (0 : Int32) trivial
            · refine gx_iconst (pc := 52) (v := 1) (by decide) (htX13_lookAtReads (52, .iconst 1, 1) (gx_m 29 rfl)) ?_
              refine gx_iload (pc := 53) (i := 4) 4 rfl (htX13_lookAtReads (53, .iload 4, 2) (gx_m 30 rfl)) ?_
              refine gx_ishl (pc := 55) (htX13_lookAtReads (55, .ishl, 1) (gx_m 31 rfl)) ?_
              refine gx_goto (pc := 56) (tgt := 60) (by decide) (htX13_lookAtReads (56, .goto 4, 3) (gx_m 32 rfl)) ?_
              refine gx_Jw (lv := [(0, gx_r 14 (some x0)), (1, gx_i s2), (2, gx_r 19 (some v5)), (4, gx_i s6.2)]) [0, 1, 2, 4] rfl ?_
              exact hj6 ((1 <<< (s6.2 &&& 31)) : Int32) trivial
theorem ct_X13_taken (Y : gx_Y) (x0 : gx_Nm) (x1 : gx_Nm) : gx_Ct Y yX13_taken (ws_ yX13_taken cX13_taken 3 none) 10 329 [gx_r 14 (some x0), gx_r 18 (some x1)] gx_Ov (f_X13_taken x0 x1) := by
  refine gx_start (lv := [(0, gx_r 14 (some x0)), (1, gx_r 18 (some x1))]) gx_Ov_r pn_X13 (Nat.le_of_ble_eq_true rfl) rfl ?_
  unfold f_X13_taken
  refine gx_aload_n (pc := 0) (n := 1) (i := 1) rfl 1 rfl (htX13_taken_0 (0, .aload_n 1, 1) (gx_m 0 rfl)) ?_
  refine gx_Jgi (pc := 1) (ci := 17) (kk := 1) (by decide) (Or.inl rfl) (by decide) (by decide) q1117 (htX13_taken_0 (1, .getfield 162, 3) (gx_m 1 rfl)) (fun v1 hv1 => ?_)
  refine gx_istore_n (pc := 4) (n := 2) (i := 2) (lv' := [(2, gx_i v1), (0, gx_r 14 (some x0)), (1, gx_r 18 (some x1))]) rfl (by decide) rfl (htX13_taken_0 (4, .istore_n 2, 1) (gx_m 2 rfl)) ?_
  refine gx_aload_n (pc := 5) (n := 1) (i := 1) rfl 2 rfl (htX13_taken_0 (5, .aload_n 1, 1) (gx_m 3 rfl)) ?_
  refine gx_Jgi (pc := 6) (ci := 17) (kk := 7) (by decide) (Or.inl rfl) (by decide) (by decide) q1129 (htX13_taken_0 (6, .getfield 176, 3) (gx_m 4 rfl)) (fun v2 hv2 => ?_)
  refine gx_aload_n (pc := 9) (n := 0) (i := 0) rfl 1 rfl (htX13_taken_0 (9, .aload_n 0, 1) (gx_m 5 rfl)) ?_
  refine gx_Jgs (pc := 10) (ci := 13) (kk := 19) (t2 := 100) (by decide) (by decide) rfl rfl rfl q574 (htX13_taken_0 (10, .getfield 34, 3) (gx_m 6 rfl)) ?_
  refine gx_iload_n (pc := 13) (n := 2) (i := 2) rfl 0 rfl (htX13_taken_0 (13, .iload_n 2, 1) (gx_m 7 rfl)) ?_
  refine gx_Jia (pc := 14) (htX13_taken_0 (14, .iaload, 1) (gx_m 8 rfl)) (fun v3 => ?_)
  refine gx_Jjoin (pcJ := 28) (lvJ := fun (j_1 : Unit) => [(0, gx_r 14 (some x0)), (1, gx_r 18 (some x1)), (2, gx_i v1)]) (stJ := fun (j_1 : Unit) => []) (fun _ => True) (fun j_1 hj_1 => ?_) (fun kk1 hj1 => ?_)
  · refine gx_aload_n (pc := 28) (n := 1) (i := 1) rfl 1 rfl (htX13_taken_0 (28, .aload_n 1, 1) (gx_m 16 rfl)) ?_
    refine gx_Jgi (pc := 29) (ci := 17) (kk := 5) (by decide) (Or.inl rfl) (by decide) (by decide) q1125 (htX13_taken_0 (29, .getfield 172, 3) (gx_m 17 rfl)) (fun v5 hv5 => ?_)
    refine gx_iconst (pc := 32) (v := 1) (by decide) (htX13_taken_0 (32, .iconst 1, 1) (gx_m 18 rfl)) ?_
    refine gx_Jjoin (pcJ := 174) (lvJ := fun (j_2 : Unit) => [(0, gx_r 14 (some x0))]) (stJ := fun (j_2 : Unit) => []) (fun _ => True) (fun j_2 hj_2 => ?_) (fun kk2 hj2 => ?_)
    · refine gx_aload_n (pc := 174) (n := 0) (i := 0) rfl 0 rfl (htX13_taken_1 (174, .aload_n 0, 1) (gx_m 2 rfl)) ?_
      refine gx_Jcv (pc := 175) (gx_hst (as := []) (b := gx_r 14 (some x0))) (gx_runV (as := []) (ci := 13) (ct_X13_lookAtReads Y x0) (by decide) (Or.inl rfl) rfl rfl rfl rfl q1447 q1449 qs39 q113 q1450 rfl dd_X13_lookAtReads (by decide) (by decide) (Nat.le_of_ble_eq_true rfl) (htX13_taken_1 (175, .invokevirtual 330, 3) (gx_m 3 rfl))) ?_
      exact gx_Jvret (pc := 178) rfl (fun _ => trivial) (fun _ _ => rfl) (htX13_taken_1 (178, .return_, 1) (gx_m 4 rfl))
    · refine gx_icmp_ne (pc := 33) (tgt := 133) (by decide) (htX13_taken_0 (33, .if_icmp .ne 100, 3) (gx_m 19 rfl)) (fun c3 => ?_) (fun c3 => ?_)
      · refine gx_aload_n (pc := 36) (n := 1) (i := 1) rfl 1 rfl (htX13_taken_0 (36, .aload_n 1, 1) (gx_m 20 rfl)) ?_
        refine gx_Jgi (pc := 37) (ci := 17) (kk := 4) (by decide) (Or.inl rfl) (by decide) (by decide) q1123 (htX13_taken_0 (37, .getfield 169, 3) (gx_m 21 rfl)) (fun v6 hv6 => ?_)
        refine gx_aload_n (pc := 40) (n := 0) (i := 0) rfl 0 rfl (htX13_taken_0 (40, .aload_n 0, 1) (gx_m 22 rfl)) ?_
        refine gx_Jgs (pc := 41) (ci := 13) (kk := 18) (t2 := 100) (by decide) (by decide) rfl rfl rfl q573 (htX13_taken_0 (41, .getfield 31, 3) (gx_m 23 rfl)) ?_
        refine gx_iload_n (pc := 44) (n := 2) (i := 2) rfl 2 rfl (htX13_taken_0 (44, .iload_n 2, 1) (gx_m 24 rfl)) ?_
        refine gx_Jia (pc := 45) (htX13_taken_0 (45, .iaload, 1) (gx_m 25 rfl)) (fun v7 => ?_)
        refine gx_Jjoin (pcJ := 59) (lvJ := fun (j_4 : Unit) => [(0, gx_r 14 (some x0)), (1, gx_r 18 (some x1)), (2, gx_i v1)]) (stJ := fun (j_4 : Unit) => []) (fun _ => True) (fun j_4 hj_4 => ?_) (fun kk4 hj4 => ?_)
        · refine gx_aload_n (pc := 59) (n := 0) (i := 0) rfl 0 rfl (htX13_taken_0 (59, .aload_n 0, 1) (gx_m 33 rfl)) ?_
          refine gx_Jgs (pc := 60) (ci := 13) (kk := 18) (t2 := 100) (by decide) (by decide) rfl rfl rfl q573 (htX13_taken_0 (60, .getfield 31, 3) (gx_m 34 rfl)) ?_
          refine gx_iload_n (pc := 63) (n := 2) (i := 2) rfl 2 rfl (htX13_taken_0 (63, .iload_n 2, 1) (gx_m 35 rfl)) ?_
          refine gx_Jia (pc := 64) (htX13_taken_0 (64, .iaload, 1) (gx_m 36 rfl)) (fun v9 => ?_)
          refine gx_iconst (pc := 65) (v := 1) (by decide) (htX13_taken_0 (65, .iconst 1, 1) (gx_m 37 rfl)) ?_
          refine gx_iadd (pc := 66) (htX13_taken_0 (66, .iadd, 1) (gx_m 38 rfl)) ?_
          refine gx_aload_n (pc := 67) (n := 0) (i := 0) rfl 0 rfl (htX13_taken_0 (67, .aload_n 0, 1) (gx_m 39 rfl)) ?_
          refine gx_Jgs (pc := 68) (ci := 13) (kk := 17) (t2 := 100) (by decide) (by decide) rfl rfl rfl q572 (htX13_taken_0 (68, .getfield 27, 3) (gx_m 40 rfl)) ?_
          refine gx_iload_n (pc := 71) (n := 2) (i := 2) rfl 2 rfl (htX13_taken_0 (71, .iload_n 2, 1) (gx_m 41 rfl)) ?_
          refine gx_Jia (pc := 72) (htX13_taken_0 (72, .iaload, 1) (gx_m 42 rfl)) (fun v10 => ?_)
          refine gx_Jjoin (pcJ := 90) (lvJ := fun (j_5 : Unit) => [(0, gx_r 14 (some x0)), (1, gx_r 18 (some x1)), (2, gx_i v1)]) (stJ := fun (j_5 : Unit) => []) (fun _ => True) (fun j_5 hj_5 => ?_) (fun kk5 hj5 => ?_)
          · refine gx_aload_n (pc := 90) (n := 0) (i := 0) rfl 0 rfl (htX13_taken_0 (90, .aload_n 0, 1) (gx_m 54 rfl)) ?_
            refine gx_Jcv (pc := 91) (gx_hst (as := []) (b := gx_r 14 (some x0))) (gx_runV (as := []) (ci := 13) (ct_X13_lookForCommit Y x0) (by decide) (Or.inl rfl) rfl rfl rfl rfl q1267 q1269 qs18 q113 q1270 rfl dd_X13_lookForCommit (by decide) (by decide) (Nat.le_of_ble_eq_true rfl) (htX13_taken_0 (91, .invokevirtual 201, 3) (gx_m 55 rfl))) ?_
            refine gx_aload_n (pc := 94) (n := 1) (i := 1) rfl 1 rfl (htX13_taken_0 (94, .aload_n 1, 1) (gx_m 56 rfl)) ?_
            refine gx_Jgi (pc := 95) (ci := 17) (kk := 4) (by decide) (Or.inl rfl) (by decide) (by decide) q1123 (htX13_taken_0 (95, .getfield 169, 3) (gx_m 57 rfl)) (fun v12 hv12 => ?_)
            refine gx_aload_n (pc := 98) (n := 0) (i := 0) rfl 0 rfl (htX13_taken_0 (98, .aload_n 0, 1) (gx_m 58 rfl)) ?_
            refine gx_Jgs (pc := 99) (ci := 13) (kk := 17) (t2 := 100) (by decide) (by decide) rfl rfl rfl q572 (htX13_taken_0 (99, .getfield 27, 3) (gx_m 59 rfl)) ?_
            refine gx_iload_n (pc := 102) (n := 2) (i := 2) rfl 2 rfl (htX13_taken_0 (102, .iload_n 2, 1) (gx_m 60 rfl)) ?_
            refine gx_Jia (pc := 103) (htX13_taken_0 (103, .iaload, 1) (gx_m 61 rfl)) (fun v13 => ?_)
            refine gx_iconst (pc := 104) (v := 1) (by decide) (htX13_taken_0 (104, .iconst 1, 1) (gx_m 62 rfl)) ?_
            refine gx_isub (pc := 105) (htX13_taken_0 (105, .isub, 1) (gx_m 63 rfl)) ?_
            refine gx_icmp_lt (pc := 106) (tgt := 174) (by decide) (htX13_taken_0 (106, .if_icmp .lt 68, 3) (gx_m 64 rfl)) (fun c6 => ?_) (fun c6 => ?_)
            · refine gx_Jw (lv := [(0, gx_r 14 (some x0))]) [0] rfl ?_
              exact hj2 () trivial
            · refine gx_aload_n (pc := 109) (n := 0) (i := 0) rfl 0 rfl (htX13_taken_0 (109, .aload_n 0, 1) (gx_m 65 rfl)) ?_
              refine gx_Jgs (pc := 110) (ci := 13) (kk := 17) (t2 := 100) (by decide) (by decide) rfl rfl rfl q572 (htX13_taken_0 (110, .getfield 27, 3) (gx_m 66 rfl)) ?_
              refine gx_iload_n (pc := 113) (n := 2) (i := 2) rfl 2 rfl (htX13_taken_0 (113, .iload_n 2, 1) (gx_m 67 rfl)) ?_
              refine gx_Jia (pc := 114) (htX13_taken_0 (114, .iaload, 1) (gx_m 68 rfl)) (fun v14 => ?_)
              refine gx_aload_n (pc := 115) (n := 0) (i := 0) rfl 0 rfl (htX13_taken_0 (115, .aload_n 0, 1) (gx_m 69 rfl)) ?_
              refine gx_Jgs (pc := 116) (ci := 13) (kk := 5) (t2 := 16) (by decide) (by decide) rfl rfl rfl q554 (htX13_taken_0 (116, .getfield 69, 3) (gx_m 70 rfl)) ?_
              refine gx_Jci (pc := 119) (gx_hst (as := []) (b := gx_r 16 (some (5 :: x0)))) (gx_runV (as := []) (ci := 15) (ct_X15_last Y (5 :: x0)) (by decide) (Or.inl rfl) rfl rfl rfl rfl q1071 q1072 q1073 q115 q1074 rfl dd_X15_last (by decide) (by decide) (Nat.le_of_ble_eq_true rfl) (htX13_taken_0 (119, .invokevirtual 198, 3) (gx_m 71 rfl))) (fun v15 => ?_)
              refine gx_icmp_gt (pc := 122) (tgt := 174) (by decide) (htX13_taken_0 (122, .if_icmp .gt 52, 3) (gx_m 72 rfl)) (fun c7 => ?_) (fun c7 => ?_)
              · refine gx_Jw (lv := [(0, gx_r 14 (some x0))]) [0] rfl ?_
                exact hj2 () trivial
              · refine gx_aload_n (pc := 125) (n := 0) (i := 0) rfl 0 rfl (htX13_taken_0 (125, .aload_n 0, 1) (gx_m 73 rfl)) ?_
                refine gx_iload_n (pc := 126) (n := 2) (i := 2) rfl 2 rfl (htX13_taken_0 (126, .iload_n 2, 1) (gx_m 74 rfl)) ?_
                refine gx_Jcv (pc := 127) (gx_hst (as := [gx_i v1]) (b := gx_r 14 (some x0))) (gx_runV (as := [gx_i v1]) (ci := 13) (ct_X13_tell Y x0 v1) (by decide) (Or.inl rfl) rfl rfl rfl rfl q1097 q1099 qs12 q113 q1100 rfl dd_X13_tell (by decide) (by decide) (Nat.le_of_ble_eq_true rfl) (htX13_taken_0 (127, .invokevirtual 261, 3) (gx_m 75 rfl))) ?_
                refine gx_goto (pc := 130) (tgt := 174) (by decide) (htX13_taken_0 (130, .goto 44, 3) (gx_m 76 rfl)) ?_
                refine gx_Jw (lv := [(0, gx_r 14 (some x0))]) [0] rfl ?_
                exact hj2 () trivial
          · refine gx_icmp_le (pc := 73) (tgt := 90) (by decide) (htX13_taken_0 (73, .if_icmp .le 17, 3) (gx_m 43 rfl)) (fun c8 => ?_) (fun c8 => ?_)
            · exact hj5 () trivial
            · refine gx_aload_n (pc := 76) (n := 0) (i := 0) rfl 0 rfl (htX13_taken_0 (76, .aload_n 0, 1) (gx_m 44 rfl)) ?_
              refine gx_Jgs (pc := 77) (ci := 13) (kk := 17) (t2 := 100) (by decide) (by decide) rfl rfl rfl q572 (htX13_taken_0 (77, .getfield 27, 3) (gx_m 45 rfl)) ?_
              refine gx_iload_n (pc := 80) (n := 2) (i := 2) rfl 2 rfl (htX13_taken_0 (80, .iload_n 2, 1) (gx_m 46 rfl)) ?_
              refine gx_aload_n (pc := 81) (n := 0) (i := 0) rfl 0 rfl (htX13_taken_0 (81, .aload_n 0, 1) (gx_m 47 rfl)) ?_
              refine gx_Jgs (pc := 82) (ci := 13) (kk := 18) (t2 := 100) (by decide) (by decide) rfl rfl rfl q573 (htX13_taken_0 (82, .getfield 31, 3) (gx_m 48 rfl)) ?_
              refine gx_iload_n (pc := 85) (n := 2) (i := 2) rfl 2 rfl (htX13_taken_0 (85, .iload_n 2, 1) (gx_m 49 rfl)) ?_
              refine gx_Jia (pc := 86) (htX13_taken_0 (86, .iaload, 1) (gx_m 50 rfl)) (fun v11 => ?_)
              refine gx_iconst (pc := 87) (v := 1) (by decide) (htX13_taken_0 (87, .iconst 1, 1) (gx_m 51 rfl)) ?_
              refine gx_iadd (pc := 88) (htX13_taken_0 (88, .iadd, 1) (gx_m 52 rfl)) ?_
              refine gx_Jis (pc := 89) (htX13_taken_0 (89, .iastore, 1) (gx_m 53 rfl)) ?_
              exact hj5 () trivial
        · refine gx_icmp_le (pc := 46) (tgt := 59) (by decide) (htX13_taken_0 (46, .if_icmp .le 13, 3) (gx_m 26 rfl)) (fun c9 => ?_) (fun c9 => ?_)
          · exact hj4 () trivial
          · refine gx_aload_n (pc := 49) (n := 0) (i := 0) rfl 0 rfl (htX13_taken_0 (49, .aload_n 0, 1) (gx_m 27 rfl)) ?_
            refine gx_Jgs (pc := 50) (ci := 13) (kk := 18) (t2 := 100) (by decide) (by decide) rfl rfl rfl q573 (htX13_taken_0 (50, .getfield 31, 3) (gx_m 28 rfl)) ?_
            refine gx_iload_n (pc := 53) (n := 2) (i := 2) rfl 2 rfl (htX13_taken_0 (53, .iload_n 2, 1) (gx_m 29 rfl)) ?_
            refine gx_aload_n (pc := 54) (n := 1) (i := 1) rfl 1 rfl (htX13_taken_0 (54, .aload_n 1, 1) (gx_m 30 rfl)) ?_
            refine gx_Jgi (pc := 55) (ci := 17) (kk := 4) (by decide) (Or.inl rfl) (by decide) (by decide) q1123 (htX13_taken_0 (55, .getfield 169, 3) (gx_m 31 rfl)) (fun v8 hv8 => ?_)
            refine gx_Jis (pc := 58) (htX13_taken_0 (58, .iastore, 1) (gx_m 32 rfl)) ?_
            exact hj4 () trivial
      · refine gx_aload_n (pc := 133) (n := 0) (i := 0) rfl 0 rfl (htX13_taken_0 (133, .aload_n 0, 1) (gx_m 77 rfl)) ?_
        refine gx_Jgs (pc := 134) (ci := 13) (kk := 17) (t2 := 100) (by decide) (by decide) rfl rfl rfl q572 (htX13_taken_0 (134, .getfield 27, 3) (gx_m 78 rfl)) ?_
        refine gx_iload_n (pc := 137) (n := 2) (i := 2) rfl 2 rfl (htX13_taken_0 (137, .iload_n 2, 1) (gx_m 79 rfl)) ?_
        refine gx_aload_n (pc := 138) (n := 0) (i := 0) rfl 0 rfl (htX13_taken_0 (138, .aload_n 0, 1) (gx_m 80 rfl)) ?_
        refine gx_Jgs (pc := 139) (ci := 13) (kk := 18) (t2 := 100) (by decide) (by decide) rfl rfl rfl q573 (htX13_taken_0 (139, .getfield 31, 3) (gx_m 81 rfl)) ?_
        refine gx_iload_n (pc := 142) (n := 2) (i := 2) rfl 2 rfl (htX13_taken_0 (142, .iload_n 2, 1) (gx_m 82 rfl)) ?_
        refine gx_Jia (pc := 143) (htX13_taken_0 (143, .iaload, 1) (gx_m 83 rfl)) (fun v16 => ?_)
        refine gx_aload_n (pc := 144) (n := 1) (i := 1) rfl 1 rfl (htX13_taken_0 (144, .aload_n 1, 1) (gx_m 84 rfl)) ?_
        refine gx_Jgi (pc := 145) (ci := 17) (kk := 4) (by decide) (Or.inl rfl) (by decide) (by decide) q1123 (htX13_taken_0 (145, .getfield 169, 3) (gx_m 85 rfl)) (fun v17 hv17 => ?_)
        refine gx_Jjoin (pcJ := 168) (lvJ := fun (j20 : Int32) => [(0, gx_r 14 (some x0)), (2, gx_i v1)]) (stJ := fun (j20 : Int32) => [gx_i j20, gx_i v1, gx_r 100 (some (17 :: x0))]) (fun _ => True) (fun j20 hj20 => ?_) (fun kk10 hj10 => ?_)
        · refine gx_Jis (pc := 168) (htX13_taken_0 (168, .iastore, 1) (gx_m 98 rfl)) ?_
          refine gx_aload_n (pc := 169) (n := 0) (i := 0) rfl 0 rfl (htX13_taken_0 (169, .aload_n 0, 1) (gx_m 99 rfl)) ?_
          refine gx_iload_n (pc := 170) (n := 2) (i := 2) rfl 1 rfl (htX13_taken_1 (170, .iload_n 2, 1) (gx_m 0 rfl)) ?_
          refine gx_Jcv (pc := 171) (gx_hst (as := [gx_i v1]) (b := gx_r 14 (some x0))) (gx_runV (as := [gx_i v1]) (ci := 13) (ct_X13_tell Y x0 v1) (by decide) (Or.inl rfl) rfl rfl rfl rfl q1097 q1099 qs12 q113 q1100 rfl dd_X13_tell (by decide) (by decide) (Nat.le_of_ble_eq_true rfl) (htX13_taken_1 (171, .invokevirtual 261, 3) (gx_m 1 rfl))) ?_
          refine gx_Jw (lv := [(0, gx_r 14 (some x0))]) [0] rfl ?_
          exact hj2 () trivial
        · refine gx_icmp_le (pc := 148) (tgt := 162) (by decide) (htX13_taken_0 (148, .if_icmp .le 14, 3) (gx_m 86 rfl)) (fun c11 => ?_) (fun c11 => ?_)
          · refine gx_aload_n (pc := 162) (n := 1) (i := 1) rfl 1 rfl (htX13_taken_0 (162, .aload_n 1, 1) (gx_m 94 rfl)) ?_
            refine gx_Jgi (pc := 163) (ci := 17) (kk := 4) (by decide) (Or.inl rfl) (by decide) (by decide) q1123 (htX13_taken_0 (163, .getfield 169, 3) (gx_m 95 rfl)) (fun v18 hv18 => ?_)
            refine gx_iconst (pc := 166) (v := 1) (by decide) (htX13_taken_0 (166, .iconst 1, 1) (gx_m 96 rfl)) ?_
            refine gx_iadd (pc := 167) (htX13_taken_0 (167, .iadd, 1) (gx_m 97 rfl)) ?_
            refine gx_Jw (lv := [(0, gx_r 14 (some x0)), (2, gx_i v1)]) [0, 2] rfl ?_
            exact hj10 ((v18 + 1) : Int32) trivial
          · refine gx_aload_n (pc := 151) (n := 0) (i := 0) rfl 0 rfl (htX13_taken_0 (151, .aload_n 0, 1) (gx_m 87 rfl)) ?_
            refine gx_Jgs (pc := 152) (ci := 13) (kk := 18) (t2 := 100) (by decide) (by decide) rfl rfl rfl q573 (htX13_taken_0 (152, .getfield 31, 3) (gx_m 88 rfl)) ?_
            refine gx_iload_n (pc := 155) (n := 2) (i := 2) rfl 2 rfl (htX13_taken_0 (155, .iload_n 2, 1) (gx_m 89 rfl)) ?_
            refine gx_Jia (pc := 156) (htX13_taken_0 (156, .iaload, 1) (gx_m 90 rfl)) (fun v19 => ?_)
            refine gx_iconst (pc := 157) (v := 1) (by decide) (htX13_taken_0 (157, .iconst 1, 1) (gx_m 91 rfl)) ?_
            refine gx_iadd (pc := 158) (htX13_taken_0 (158, .iadd, 1) (gx_m 92 rfl)) ?_
            refine gx_goto (pc := 159) (tgt := 168) (by decide) (htX13_taken_0 (159, .goto 9, 3) (gx_m 93 rfl)) ?_
            refine gx_Jw (lv := [(0, gx_r 14 (some x0)), (2, gx_i v1)]) [0, 2] rfl ?_
            exact hj10 ((v19 + 1) : Int32) trivial
  · refine gx_icmp_le (pc := 15) (tgt := 28) (by decide) (htX13_taken_0 (15, .if_icmp .le 13, 3) (gx_m 9 rfl)) (fun c12 => ?_) (fun c12 => ?_)
    · refine gx_Jw (lv := [(0, gx_r 14 (some x0)), (1, gx_r 18 (some x1)), (2, gx_i v1)]) [1, 2, 0] rfl ?_
      exact hj1 () trivial
    · refine gx_aload_n (pc := 18) (n := 0) (i := 0) rfl 1 rfl (htX13_taken_0 (18, .aload_n 0, 1) (gx_m 10 rfl)) ?_
      refine gx_Jgs (pc := 19) (ci := 13) (kk := 19) (t2 := 100) (by decide) (by decide) rfl rfl rfl q574 (htX13_taken_0 (19, .getfield 34, 3) (gx_m 11 rfl)) ?_
      refine gx_iload_n (pc := 22) (n := 2) (i := 2) rfl 0 rfl (htX13_taken_0 (22, .iload_n 2, 1) (gx_m 12 rfl)) ?_
      refine gx_aload_n (pc := 23) (n := 1) (i := 1) rfl 2 rfl (htX13_taken_0 (23, .aload_n 1, 1) (gx_m 13 rfl)) ?_
      refine gx_Jgi (pc := 24) (ci := 17) (kk := 7) (by decide) (Or.inl rfl) (by decide) (by decide) q1129 (htX13_taken_0 (24, .getfield 176, 3) (gx_m 14 rfl)) (fun v4 hv4 => ?_)
      refine gx_Jis (pc := 27) (htX13_taken_0 (27, .iastore, 1) (gx_m 15 rfl)) ?_
      refine gx_Jw (lv := [(0, gx_r 14 (some x0)), (1, gx_r 18 (some x1)), (2, gx_i v1)]) [1, 2, 0] rfl ?_
      exact hj1 () trivial
theorem ct_X13_receive (Y : gx_Y) (x0 : gx_Nm) (x1 : gx_Nm) : gx_Ct Y yX13_receive (ws_ yX13_receive cX13_receive 2 none) 11 351 [gx_r 14 (some x0), gx_r 18 (some x1)] gx_Ov (f_X13_receive x0 x1) := by
  refine gx_start (lv := [(0, gx_r 14 (some x0)), (1, gx_r 18 (some x1))]) gx_Ov_r pn_X13 (Nat.le_of_ble_eq_true rfl) rfl ?_
  unfold f_X13_receive
  refine gx_aload_n (pc := 0) (n := 1) (i := 1) rfl 1 rfl (htX13_receive (0, .aload_n 1, 1) (gx_m 0 rfl)) ?_
  refine gx_Jgi (pc := 1) (ci := 17) (kk := 3) (by decide) (Or.inl rfl) (by decide) (by decide) q1121 (htX13_receive (1, .getfield 168, 3) (gx_m 1 rfl)) (fun v1 hv1 => ?_)
  refine gx_aload_n (pc := 4) (n := 0) (i := 0) rfl 0 rfl (htX13_receive (4, .aload_n 0, 1) (gx_m 2 rfl)) ?_
  refine gx_Jgi (pc := 5) (ci := 13) (kk := 3) (by decide) (Or.inl rfl) (by decide) (by decide) q550 (htX13_receive (5, .getfield 103, 3) (gx_m 3 rfl)) (fun v2 hv2 => ?_)
  refine gx_Jjoin (pcJ := 25) (lvJ := fun (j_1 : Unit) => [(0, gx_r 14 (some x0)), (1, gx_r 18 (some x1))]) (stJ := fun (j_1 : Unit) => []) (fun _ => True) (fun j_1 hj_1 => ?_) (fun kk1 hj1 => ?_)
  · refine gx_aload_n (pc := 25) (n := 1) (i := 1) rfl 1 rfl (htX13_receive (25, .aload_n 1, 1) (gx_m 13 rfl)) ?_
    refine gx_Jgi (pc := 26) (ci := 17) (kk := 0) (by decide) (Or.inl rfl) (by decide) (by decide) q1115 (htX13_receive (26, .getfield 157, 3) (gx_m 14 rfl)) (fun v4 hv4 => ?_)
    refine gx_Jite (fun c2 => ?_) (fun c2 => ?_)
    · refine gx_Jtab (pc := 29) (tgt := 64) (htX13_receive (29, .tableswitch 135 1 5 #[35, 43, 103, 135, 119], 35) (gx_m 15 rfl)) (by decide) (gx_tD c2 (by decide)) (gx_tI c2 (by decide)) ?_
      refine gx_aload_n (pc := 64) (n := 0) (i := 0) rfl 0 rfl (htX13_receive (64, .aload_n 0, 1) (gx_m 16 rfl)) ?_
      refine gx_aload_n (pc := 65) (n := 1) (i := 1) rfl 1 rfl (htX13_receive (65, .aload_n 1, 1) (gx_m 17 rfl)) ?_
      refine gx_Jcv (pc := 66) (gx_hst (as := [gx_r 18 (some x1)]) (b := gx_r 14 (some x0))) (gx_runV (as := [gx_r 18 (some x1)]) (ci := 13) (ct_X13_asked Y x0 x1) (by decide) (Or.inl rfl) rfl rfl rfl rfl q1414 q1416 qs32 q113 q1417 rfl dd_X13_asked (by decide) (by decide) (Nat.le_of_ble_eq_true rfl) (htX13_receive (66, .invokevirtual 305, 3) (gx_m 18 rfl))) ?_
      refine gx_goto (pc := 69) (tgt := 188) (by decide) (htX13_receive (69, .goto 119, 3) (gx_m 19 rfl)) ?_
      exact gx_Jvret (pc := 188) rfl (fun _ => trivial) (fun _ _ => rfl) (htX13_receive (188, .return_, 1) (gx_m 78 rfl))
    · refine gx_Jite (fun c3 => ?_) (fun c3 => ?_)
      · refine gx_Jtab (pc := 29) (tgt := 72) (htX13_receive (29, .tableswitch 135 1 5 #[35, 43, 103, 135, 119], 35) (gx_m 15 rfl)) (by decide) (gx_tD c3 (by decide)) (gx_tI c3 (by decide)) ?_
        refine gx_aload_n (pc := 72) (n := 0) (i := 0) rfl 0 rfl (htX13_receive (72, .aload_n 0, 1) (gx_m 20 rfl)) ?_
        refine gx_Jgi (pc := 73) (ci := 13) (kk := 8) (by decide) (Or.inl rfl) (by decide) (by decide) q559 (htX13_receive (73, .getfield 113, 3) (gx_m 21 rfl)) (fun v5 hv5 => ?_)
        refine gx_iconst (pc := 76) (v := 1) (by decide) (htX13_receive (76, .iconst 1, 1) (gx_m 22 rfl)) ?_
        refine gx_icmp_ne (pc := 77) (tgt := 98) (by decide) (htX13_receive (77, .if_icmp .ne 21, 3) (gx_m 23 rfl)) (fun c4 => ?_) (fun c4 => ?_)
        · refine gx_aload_n (pc := 80) (n := 1) (i := 1) rfl 1 rfl (htX13_receive (80, .aload_n 1, 1) (gx_m 24 rfl)) ?_
          refine gx_Jgi (pc := 81) (ci := 17) (kk := 3) (by decide) (Or.inl rfl) (by decide) (by decide) q1121 (htX13_receive (81, .getfield 168, 3) (gx_m 25 rfl)) (fun v6 hv6 => ?_)
          refine gx_aload_n (pc := 84) (n := 0) (i := 0) rfl 0 rfl (htX13_receive (84, .aload_n 0, 1) (gx_m 26 rfl)) ?_
          refine gx_Jgi (pc := 85) (ci := 13) (kk := 3) (by decide) (Or.inl rfl) (by decide) (by decide) q550 (htX13_receive (85, .getfield 103, 3) (gx_m 27 rfl)) (fun v7 hv7 => ?_)
          refine gx_icmp_ne (pc := 88) (tgt := 98) (by decide) (htX13_receive (88, .if_icmp .ne 10, 3) (gx_m 28 rfl)) (fun c5 => ?_) (fun c5 => ?_)
          · refine gx_aload_n (pc := 91) (n := 1) (i := 1) rfl 1 rfl (htX13_receive (91, .aload_n 1, 1) (gx_m 29 rfl)) ?_
            refine gx_Jgi (pc := 92) (ci := 17) (kk := 5) (by decide) (Or.inl rfl) (by decide) (by decide) q1125 (htX13_receive (92, .getfield 172, 3) (gx_m 30 rfl)) (fun v8 hv8 => ?_)
            refine gx_if_ne (pc := 95) (y := 0) (tgt := 99) (by decide) (htX13_receive (95, .ifCond .ne 4, 3) (gx_m 31 rfl)) (fun c6 => ?_) (fun c6 => ?_)
            · exact gx_Jvret (pc := 98) rfl (fun _ => trivial) (fun _ _ => rfl) (htX13_receive (98, .return_, 1) (gx_m 32 rfl))
            · refine gx_aload_n (pc := 99) (n := 0) (i := 0) rfl 0 rfl (htX13_receive (99, .aload_n 0, 1) (gx_m 33 rfl)) ?_
              refine gx_dup (pc := 100) rfl (htX13_receive (100, .dup, 1) (gx_m 34 rfl)) ?_
              refine gx_Jgi (pc := 101) (ci := 13) (kk := 15) (by decide) (Or.inl rfl) (by decide) (by decide) q570 (htX13_receive (101, .getfield 122, 3) (gx_m 35 rfl)) (fun v9 hv9 => ?_)
              refine gx_iconst (pc := 104) (v := 1) (by decide) (htX13_receive (104, .iconst 1, 1) (gx_m 36 rfl)) ?_
              refine gx_aload_n (pc := 105) (n := 1) (i := 1) rfl 1 rfl (htX13_receive (105, .aload_n 1, 1) (gx_m 37 rfl)) ?_
              refine gx_Jgi (pc := 106) (ci := 17) (kk := 1) (by decide) (Or.inl rfl) (by decide) (by decide) q1117 (htX13_receive (106, .getfield 162, 3) (gx_m 38 rfl)) (fun v10 hv10 => ?_)
              refine gx_ishl (pc := 109) (htX13_receive (109, .ishl, 1) (gx_m 39 rfl)) ?_
              refine gx_ior (pc := 110) (htX13_receive (110, .ior, 1) (gx_m 40 rfl)) ?_
              refine gx_Jpi (pc := 111) (ci := 13) (kk := 15) (by decide) (Or.inl rfl) (by decide) rfl rfl q570 (Or.inl rfl) (htX13_receive (111, .putfield 122, 3) (gx_m 41 rfl)) ?_
              refine gx_aload_n (pc := 114) (n := 0) (i := 0) rfl 0 rfl (htX13_receive (114, .aload_n 0, 1) (gx_m 42 rfl)) ?_
              refine gx_aload_n (pc := 115) (n := 0) (i := 0) rfl 0 rfl (htX13_receive (115, .aload_n 0, 1) (gx_m 43 rfl)) ?_
              refine gx_Jgi (pc := 116) (ci := 13) (kk := 15) (by decide) (Or.inl rfl) (by decide) (by decide) q570 (htX13_receive (116, .getfield 122, 3) (gx_m 44 rfl)) (fun v11 hv11 => ?_)
              refine gx_Jcz (pc := 119) (gx_hst (as := [gx_i v11]) (b := gx_r 14 (some x0))) (gx_runV (as := [gx_i v11]) (ci := 13) (ct_X13_isMajority Y x0 v11) (by decide) (Or.inl rfl) rfl rfl rfl rfl q1207 q1209 qs16 q113 q1210 rfl dd_X13_isMajority (by decide) (by decide) (Nat.le_of_ble_eq_true rfl) (htX13_receive (119, .invokevirtual 223, 3) (gx_m 45 rfl))) (fun v12 hv12 => ?_)
              refine gx_Jjoin (pcJ := 188) (lvJ := fun (j_7 : Unit) => []) (stJ := fun (j_7 : Unit) => []) (fun _ => True) (fun j_7 hj_7 => ?_) (fun kk7 hj7 => ?_)
              · exact gx_Jvret (pc := 188) rfl (fun _ => trivial) (fun _ _ => rfl) (htX13_receive (188, .return_, 1) (gx_m 78 rfl))
              · refine gx_if_eq (pc := 122) (y := 0) (tgt := 188) (by decide) (htX13_receive (122, .ifCond .eq 66, 3) (gx_m 46 rfl)) (fun c8 => ?_) (fun c8 => ?_)
                · refine gx_Jw (lv := []) [] rfl ?_
                  exact hj7 () trivial
                · refine gx_aload_n (pc := 125) (n := 0) (i := 0) rfl 0 rfl (htX13_receive (125, .aload_n 0, 1) (gx_m 47 rfl)) ?_
                  refine gx_Jcv (pc := 126) (gx_hst (as := []) (b := gx_r 14 (some x0))) (gx_runV (as := []) (ci := 13) (ct_X13_lead Y x0) (by decide) (Or.inl rfl) rfl rfl rfl rfl q1211 q1213 qs17 q113 q1214 rfl dd_X13_lead (by decide) (by decide) (Nat.le_of_ble_eq_true rfl) (htX13_receive (126, .invokevirtual 227, 3) (gx_m 48 rfl))) ?_
                  refine gx_goto (pc := 129) (tgt := 188) (by decide) (htX13_receive (129, .goto 59, 3) (gx_m 49 rfl)) ?_
                  refine gx_Jw (lv := []) [] rfl ?_
                  exact hj7 () trivial
          · exact gx_Jvret (pc := 98) rfl (fun _ => trivial) (fun _ _ => rfl) (htX13_receive (98, .return_, 1) (gx_m 32 rfl))
        · exact gx_Jvret (pc := 98) rfl (fun _ => trivial) (fun _ _ => rfl) (htX13_receive (98, .return_, 1) (gx_m 32 rfl))
      · refine gx_Jite (fun c9 => ?_) (fun c9 => ?_)
        · refine gx_Jtab (pc := 29) (tgt := 132) (htX13_receive (29, .tableswitch 135 1 5 #[35, 43, 103, 135, 119], 35) (gx_m 15 rfl)) (by decide) (gx_tD c9 (by decide)) (gx_tI c9 (by decide)) ?_
          refine gx_aload_n (pc := 132) (n := 0) (i := 0) rfl 0 rfl (htX13_receive (132, .aload_n 0, 1) (gx_m 50 rfl)) ?_
          refine gx_aload_n (pc := 133) (n := 1) (i := 1) rfl 1 rfl (htX13_receive (133, .aload_n 1, 1) (gx_m 51 rfl)) ?_
          refine gx_Jcz (pc := 134) (gx_hst (as := [gx_r 18 (some x1)]) (b := gx_r 14 (some x0))) (gx_runV (as := [gx_r 18 (some x1)]) (ci := 13) (ct_X13_leads Y x0 x1) (by decide) (Or.inl rfl) rfl rfl rfl rfl q1418 q1420 qs33 q113 q1421 rfl dd_X13_leads (by decide) (by decide) (Nat.le_of_ble_eq_true rfl) (htX13_receive (134, .invokevirtual 308, 3) (gx_m 52 rfl))) (fun v13 hv13 => ?_)
          refine gx_Jjoin (pcJ := 188) (lvJ := fun (j_10 : Unit) => []) (stJ := fun (j_10 : Unit) => []) (fun _ => True) (fun j_10 hj_10 => ?_) (fun kk10 hj10 => ?_)
          · exact gx_Jvret (pc := 188) rfl (fun _ => trivial) (fun _ _ => rfl) (htX13_receive (188, .return_, 1) (gx_m 78 rfl))
          · refine gx_if_eq (pc := 137) (y := 0) (tgt := 188) (by decide) (htX13_receive (137, .ifCond .eq 51, 3) (gx_m 53 rfl)) (fun c11 => ?_) (fun c11 => ?_)
            · refine gx_Jw (lv := []) [] rfl ?_
              exact hj10 () trivial
            · refine gx_aload_n (pc := 140) (n := 0) (i := 0) rfl 0 rfl (htX13_receive (140, .aload_n 0, 1) (gx_m 54 rfl)) ?_
              refine gx_aload_n (pc := 141) (n := 1) (i := 1) rfl 1 rfl (htX13_receive (141, .aload_n 1, 1) (gx_m 55 rfl)) ?_
              refine gx_Jcv (pc := 142) (gx_hst (as := [gx_r 18 (some x1)]) (b := gx_r 14 (some x0))) (gx_runV (as := [gx_r 18 (some x1)]) (ci := 13) (ct_X13_append Y x0 x1) (by decide) (Or.inl rfl) rfl rfl rfl rfl q1426 q1428 qs35 q113 q1429 rfl dd_X13_append (by decide) (by decide) (Nat.le_of_ble_eq_true rfl) (htX13_receive (142, .invokevirtual 311, 3) (gx_m 56 rfl))) ?_
              refine gx_goto (pc := 145) (tgt := 188) (by decide) (htX13_receive (145, .goto 43, 3) (gx_m 57 rfl)) ?_
              refine gx_Jw (lv := []) [] rfl ?_
              exact hj10 () trivial
        · refine gx_Jite (fun c12 => ?_) (fun c12 => ?_)
          · refine gx_Jtab (pc := 29) (tgt := 148) (htX13_receive (29, .tableswitch 135 1 5 #[35, 43, 103, 135, 119], 35) (gx_m 15 rfl)) (by decide) (gx_tD c12 (by decide)) (gx_tI c12 (by decide)) ?_
            refine gx_aload_n (pc := 148) (n := 0) (i := 0) rfl 0 rfl (htX13_receive (148, .aload_n 0, 1) (gx_m 58 rfl)) ?_
            refine gx_aload_n (pc := 149) (n := 1) (i := 1) rfl 1 rfl (htX13_receive (149, .aload_n 1, 1) (gx_m 59 rfl)) ?_
            refine gx_Jcz (pc := 150) (gx_hst (as := [gx_r 18 (some x1)]) (b := gx_r 14 (some x0))) (gx_runV (as := [gx_r 18 (some x1)]) (ci := 13) (ct_X13_leads Y x0 x1) (by decide) (Or.inl rfl) rfl rfl rfl rfl q1418 q1420 qs33 q113 q1421 rfl dd_X13_leads (by decide) (by decide) (Nat.le_of_ble_eq_true rfl) (htX13_receive (150, .invokevirtual 308, 3) (gx_m 60 rfl))) (fun v14 hv14 => ?_)
            refine gx_Jjoin (pcJ := 188) (lvJ := fun (j_13 : Unit) => []) (stJ := fun (j_13 : Unit) => []) (fun _ => True) (fun j_13 hj_13 => ?_) (fun kk13 hj13 => ?_)
            · exact gx_Jvret (pc := 188) rfl (fun _ => trivial) (fun _ _ => rfl) (htX13_receive (188, .return_, 1) (gx_m 78 rfl))
            · refine gx_if_eq (pc := 153) (y := 0) (tgt := 188) (by decide) (htX13_receive (153, .ifCond .eq 35, 3) (gx_m 61 rfl)) (fun c14 => ?_) (fun c14 => ?_)
              · refine gx_Jw (lv := []) [] rfl ?_
                exact hj13 () trivial
              · refine gx_aload_n (pc := 156) (n := 0) (i := 0) rfl 0 rfl (htX13_receive (156, .aload_n 0, 1) (gx_m 62 rfl)) ?_
                refine gx_aload_n (pc := 157) (n := 1) (i := 1) rfl 1 rfl (htX13_receive (157, .aload_n 1, 1) (gx_m 63 rfl)) ?_
                refine gx_Jcv (pc := 158) (gx_hst (as := [gx_r 18 (some x1)]) (b := gx_r 14 (some x0))) (gx_runV (as := [gx_r 18 (some x1)]) (ci := 13) (ct_X13_takeState Y x0 x1) (by decide) (Or.inl rfl) rfl rfl rfl rfl q1434 q1436 qs37 q113 q1437 rfl dd_X13_takeState (by decide) (by decide) (Nat.le_of_ble_eq_true rfl) (htX13_receive (158, .invokevirtual 314, 3) (gx_m 64 rfl))) ?_
                refine gx_goto (pc := 161) (tgt := 188) (by decide) (htX13_receive (161, .goto 27, 3) (gx_m 65 rfl)) ?_
                refine gx_Jw (lv := []) [] rfl ?_
                exact hj13 () trivial
          · refine gx_Jtab (pc := 29) (tgt := 164) (htX13_receive (29, .tableswitch 135 1 5 #[35, 43, 103, 135, 119], 35) (gx_m 15 rfl)) (by decide) (fun _ => by decide) (gx_tN (ks := [1, 2, 3, 5]) (by simp only [List.mem_cons, List.not_mem_nil, or_false, not_or]; exact ⟨c2, c3, c9, c12⟩) (by decide)) ?_
            refine gx_aload_n (pc := 164) (n := 0) (i := 0) rfl 0 rfl (htX13_receive (164, .aload_n 0, 1) (gx_m 66 rfl)) ?_
            refine gx_Jgi (pc := 165) (ci := 13) (kk := 8) (by decide) (Or.inl rfl) (by decide) (by decide) q559 (htX13_receive (165, .getfield 113, 3) (gx_m 67 rfl)) (fun v15 hv15 => ?_)
            refine gx_iconst (pc := 168) (v := 2) (by decide) (htX13_receive (168, .iconst 2, 1) (gx_m 68 rfl)) ?_
            refine gx_Jjoin (pcJ := 188) (lvJ := fun (j_15 : Unit) => []) (stJ := fun (j_15 : Unit) => []) (fun _ => True) (fun j_15 hj_15 => ?_) (fun kk15 hj15 => ?_)
            · exact gx_Jvret (pc := 188) rfl (fun _ => trivial) (fun _ _ => rfl) (htX13_receive (188, .return_, 1) (gx_m 78 rfl))
            · refine gx_icmp_ne (pc := 169) (tgt := 188) (by decide) (htX13_receive (169, .if_icmp .ne 19, 3) (gx_m 69 rfl)) (fun c16 => ?_) (fun c16 => ?_)
              · refine gx_aload_n (pc := 172) (n := 1) (i := 1) rfl 1 rfl (htX13_receive (172, .aload_n 1, 1) (gx_m 70 rfl)) ?_
                refine gx_Jgi (pc := 173) (ci := 17) (kk := 3) (by decide) (Or.inl rfl) (by decide) (by decide) q1121 (htX13_receive (173, .getfield 168, 3) (gx_m 71 rfl)) (fun v16 hv16 => ?_)
                refine gx_aload_n (pc := 176) (n := 0) (i := 0) rfl 0 rfl (htX13_receive (176, .aload_n 0, 1) (gx_m 72 rfl)) ?_
                refine gx_Jgi (pc := 177) (ci := 13) (kk := 3) (by decide) (Or.inl rfl) (by decide) (by decide) q550 (htX13_receive (177, .getfield 103, 3) (gx_m 73 rfl)) (fun v17 hv17 => ?_)
                refine gx_icmp_ne (pc := 180) (tgt := 188) (by decide) (htX13_receive (180, .if_icmp .ne 8, 3) (gx_m 74 rfl)) (fun c17 => ?_) (fun c17 => ?_)
                · refine gx_aload_n (pc := 183) (n := 0) (i := 0) rfl 0 rfl (htX13_receive (183, .aload_n 0, 1) (gx_m 75 rfl)) ?_
                  refine gx_aload_n (pc := 184) (n := 1) (i := 1) rfl 1 rfl (htX13_receive (184, .aload_n 1, 1) (gx_m 76 rfl)) ?_
                  refine gx_Jcv (pc := 185) (gx_hst (as := [gx_r 18 (some x1)]) (b := gx_r 14 (some x0))) (gx_runV (as := [gx_r 18 (some x1)]) (ci := 13) (ct_X13_taken Y x0 x1) (by decide) (Or.inl rfl) rfl rfl rfl rfl q1443 q1445 qs38 q113 q1446 rfl dd_X13_taken (by decide) (by decide) (Nat.le_of_ble_eq_true rfl) (htX13_receive (185, .invokevirtual 317, 3) (gx_m 77 rfl))) ?_
                  refine gx_Jw (lv := []) [] rfl ?_
                  exact hj15 () trivial
                · refine gx_Jw (lv := []) [] rfl ?_
                  exact hj15 () trivial
              · refine gx_Jw (lv := []) [] rfl ?_
                exact hj15 () trivial
  · refine gx_icmp_le (pc := 8) (tgt := 25) (by decide) (htX13_receive (8, .if_icmp .le 17, 3) (gx_m 4 rfl)) (fun c18 => ?_) (fun c18 => ?_)
    · exact hj1 () trivial
    · refine gx_aload_n (pc := 11) (n := 0) (i := 0) rfl 0 rfl (htX13_receive (11, .aload_n 0, 1) (gx_m 5 rfl)) ?_
      refine gx_aload_n (pc := 12) (n := 1) (i := 1) rfl 1 rfl (htX13_receive (12, .aload_n 1, 1) (gx_m 6 rfl)) ?_
      refine gx_Jgi (pc := 13) (ci := 17) (kk := 3) (by decide) (Or.inl rfl) (by decide) (by decide) q1121 (htX13_receive (13, .getfield 168, 3) (gx_m 7 rfl)) (fun v3 hv3 => ?_)
      refine gx_iconst (pc := 16) (v := (-1)) (by decide) (htX13_receive (16, .iconst (-1), 1) (gx_m 8 rfl)) ?_
      refine gx_Jcv (pc := 17) (gx_hst (as := [gx_i v3, gx_i (-1)]) (b := gx_r 14 (some x0))) (gx_runV (as := [gx_i v3, gx_i (-1)]) (ci := 13) (ct_X13_setTerm Y x0 v3 (-1)) (by decide) (Or.inl rfl) rfl rfl rfl rfl q1193 q1195 qs15 q113 q1196 rfl dd_X13_setTerm (by decide) (by decide) (Nat.le_of_ble_eq_true rfl) (htX13_receive (17, .invokevirtual 208, 3) (gx_m 9 rfl))) ?_
      refine gx_aload_n (pc := 20) (n := 0) (i := 0) rfl 0 rfl (htX13_receive (20, .aload_n 0, 1) (gx_m 10 rfl)) ?_
      refine gx_iconst (pc := 21) (v := (-1)) (by decide) (htX13_receive (21, .iconst (-1), 1) (gx_m 11 rfl)) ?_
      refine gx_Jcv (pc := 22) (gx_hst (as := [gx_i (-1)]) (b := gx_r 14 (some x0))) (gx_runV (as := [gx_i (-1)]) (ci := 13) (ct_X13_follow Y x0 (-1)) (by decide) (Or.inl rfl) rfl rfl rfl rfl q1410 q1412 qs31 q113 q1413 rfl dd_X13_follow (by decide) (by decide) (Nat.le_of_ble_eq_true rfl) (htX13_receive (22, .invokevirtual 302, 3) (gx_m 12 rfl))) ?_
      exact hj1 () trivial
theorem ct_X13_snapshot (Y : gx_Y) (x0 : gx_Nm) : gx_Ct Y yX13_snapshot (ws_ yX13_snapshot cX13_snapshot 2 none) 4 169 [gx_r 14 (some x0)] gx_Ov (f_X13_snapshot x0) := by
  refine gx_start (lv := [(0, gx_r 14 (some x0))]) gx_Ov_r pn_X13 (Nat.le_of_ble_eq_true rfl) rfl ?_
  unfold f_X13_snapshot
  refine gx_aload_n (pc := 0) (n := 0) (i := 0) rfl 0 rfl (htX13_snapshot (0, .aload_n 0, 1) (gx_m 0 rfl)) ?_
  refine gx_Jgs (pc := 1) (ci := 13) (kk := 5) (t2 := 16) (by decide) (by decide) rfl rfl rfl q554 (htX13_snapshot (1, .getfield 69, 3) (gx_m 1 rfl)) ?_
  refine gx_aload_n (pc := 4) (n := 0) (i := 0) rfl 0 rfl (htX13_snapshot (4, .aload_n 0, 1) (gx_m 2 rfl)) ?_
  refine gx_Jgi (pc := 5) (ci := 13) (kk := 10) (by decide) (Or.inl rfl) (by decide) (by decide) q563 (htX13_snapshot (5, .getfield 131, 3) (gx_m 3 rfl)) (fun v1 hv1 => ?_)
  refine gx_Jci (pc := 8) (gx_hst (as := [gx_i v1]) (b := gx_r 16 (some (5 :: x0)))) (gx_runV (as := [gx_i v1]) (ci := 15) (ct_X15_term Y (5 :: x0) v1) (by decide) (Or.inl rfl) rfl rfl rfl rfl q1173 q1174 q1175 q115 q1176 rfl dd_X15_term (by decide) (by decide) (Nat.le_of_ble_eq_true rfl) (htX13_snapshot (8, .invokevirtual 267, 3) (gx_m 4 rfl))) (fun v2 => ?_)
  refine gx_istore_n (pc := 11) (n := 1) (i := 1) (lv' := [(1, gx_i v2), (0, gx_r 14 (some x0))]) rfl (by decide) rfl (htX13_snapshot (11, .istore_n 1, 1) (gx_m 5 rfl)) ?_
  refine gx_aload_n (pc := 12) (n := 0) (i := 0) rfl 1 rfl (htX13_snapshot (12, .aload_n 0, 1) (gx_m 6 rfl)) ?_
  refine gx_Jgs (pc := 13) (ci := 13) (kk := 5) (t2 := 16) (by decide) (by decide) rfl rfl rfl q554 (htX13_snapshot (13, .getfield 69, 3) (gx_m 7 rfl)) ?_
  refine gx_aload_n (pc := 16) (n := 0) (i := 0) rfl 1 rfl (htX13_snapshot (16, .aload_n 0, 1) (gx_m 8 rfl)) ?_
  refine gx_Jgi (pc := 17) (ci := 13) (kk := 10) (by decide) (Or.inl rfl) (by decide) (by decide) q563 (htX13_snapshot (17, .getfield 131, 3) (gx_m 9 rfl)) (fun v3 hv3 => ?_)
  refine gx_iload_n (pc := 20) (n := 1) (i := 1) rfl 0 rfl (htX13_snapshot (20, .iload_n 1, 1) (gx_m 10 rfl)) ?_
  refine gx_aload_n (pc := 21) (n := 0) (i := 0) rfl 1 rfl (htX13_snapshot (21, .aload_n 0, 1) (gx_m 11 rfl)) ?_
  refine gx_Jgi (pc := 22) (ci := 13) (kk := 11) (by decide) (Or.inl rfl) (by decide) (by decide) q565 (htX13_snapshot (22, .getfield 137, 3) (gx_m 12 rfl)) (fun v4 hv4 => ?_)
  refine gx_Jcv (pc := 25) (gx_hst (as := [gx_i v3, gx_i v2, gx_i v4]) (b := gx_r 16 (some (5 :: x0)))) (gx_runV (as := [gx_i v3, gx_i v2, gx_i v4]) (ci := 15) (ct_X15_snapshot Y (5 :: x0) v3 v2 v4) (by decide) (Or.inl rfl) rfl rfl rfl rfl q1438 q1256 q1257 q115 q1258 rfl dd_X15_snapshot (by decide) (by decide) (Nat.le_of_ble_eq_true rfl) (htX13_snapshot (25, .invokevirtual 295, 3) (gx_m 13 rfl))) ?_
  refine gx_aload_n (pc := 28) (n := 0) (i := 0) rfl 1 rfl (htX13_snapshot (28, .aload_n 0, 1) (gx_m 14 rfl)) ?_
  refine gx_Jgs (pc := 29) (ci := 13) (kk := 2) (t2 := 15) (by decide) (by decide) rfl rfl rfl q548 (htX13_snapshot (29, .getfield 62, 3) (gx_m 15 rfl)) ?_
  refine gx_aload_n (pc := 32) (n := 0) (i := 0) rfl 1 rfl (htX13_snapshot (32, .aload_n 0, 1) (gx_m 16 rfl)) ?_
  refine gx_Jgi (pc := 33) (ci := 13) (kk := 10) (by decide) (Or.inl rfl) (by decide) (by decide) q563 (htX13_snapshot (33, .getfield 131, 3) (gx_m 17 rfl)) (fun v5 hv5 => ?_)
  refine gx_iload_n (pc := 36) (n := 1) (i := 1) rfl 0 rfl (htX13_snapshot (36, .iload_n 1, 1) (gx_m 18 rfl)) ?_
  refine gx_aload_n (pc := 37) (n := 0) (i := 0) rfl 1 rfl (htX13_snapshot (37, .aload_n 0, 1) (gx_m 19 rfl)) ?_
  refine gx_Jgi (pc := 38) (ci := 13) (kk := 11) (by decide) (Or.inl rfl) (by decide) (by decide) q565 (htX13_snapshot (38, .getfield 137, 3) (gx_m 20 rfl)) (fun v6 hv6 => ?_)
  refine gx_Jcv (pc := 41) (gx_hst (as := [gx_i v5, gx_i v2, gx_i v6]) (b := gx_r 15 (some (2 :: x0)))) (gx_runV (as := [gx_i v5, gx_i v2, gx_i v6]) (ci := 14) (ct_X14_writeSnapshot Y (2 :: x0) v5 v2 v6) (by decide) (Or.inl rfl) rfl rfl rfl rfl q1439 q1440 q1441 q114 q1442 rfl dd_X14_writeSnapshot (by decide) (by decide) (Nat.le_of_ble_eq_true rfl) (htX13_snapshot (41, .invokevirtual 299, 3) (gx_m 21 rfl))) ?_
  exact gx_Jvret (pc := 44) rfl (fun _ => trivial) (fun _ _ => rfl) (htX13_snapshot (44, .return_, 1) (gx_m 22 rfl))
theorem ct_X13_mayRead (Y : gx_Y) (x0 : gx_Nm) : gx_Ct Y yX13_mayRead (ws_ yX13_mayRead cX13_mayRead 1 (some .boolean)) 3 142 [gx_r 14 (some x0)] gx_Oz (f_X13_mayRead x0) := by
  refine gx_start (lv := [(0, gx_r 14 (some x0))]) gx_Oz_r pn_X13 (Nat.le_of_ble_eq_true rfl) rfl ?_
  unfold f_X13_mayRead
  refine gx_aload_n (pc := 0) (n := 0) (i := 0) rfl 0 rfl (htX13_mayRead (0, .aload_n 0, 1) (gx_m 0 rfl)) ?_
  refine gx_Jgi (pc := 1) (ci := 13) (kk := 8) (by decide) (Or.inl rfl) (by decide) (by decide) q559 (htX13_mayRead (1, .getfield 113, 3) (gx_m 1 rfl)) (fun v1 hv1 => ?_)
  refine gx_iconst (pc := 4) (v := 2) (by decide) (htX13_mayRead (4, .iconst 2, 1) (gx_m 2 rfl)) ?_
  refine gx_Jjoin (pcJ := 31) (lvJ := fun (j5 : Int32) => []) (stJ := fun (j5 : Int32) => [gx_i j5]) (fun (j5 : Int32) => j5 &&& 1 = j5) (fun j5 hj5 => ?_) (fun kk1 hj1 => ?_)
  · exact gx_Jzret (pc := 31) rfl hj5 (fun _ => hj5) (fun _ _ => rfl) (htX13_mayRead (31, .ireturn, 1) (gx_m 15 rfl))
  · refine gx_icmp_ne (pc := 5) (tgt := 30) (by decide) (htX13_mayRead (5, .if_icmp .ne 25, 3) (gx_m 3 rfl)) (fun c2 => ?_) (fun c2 => ?_)
    · refine gx_aload_n (pc := 8) (n := 0) (i := 0) rfl 0 rfl (htX13_mayRead (8, .aload_n 0, 1) (gx_m 4 rfl)) ?_
      refine gx_Jgs (pc := 9) (ci := 13) (kk := 5) (t2 := 16) (by decide) (by decide) rfl rfl rfl q554 (htX13_mayRead (9, .getfield 69, 3) (gx_m 5 rfl)) ?_
      refine gx_aload_n (pc := 12) (n := 0) (i := 0) rfl 0 rfl (htX13_mayRead (12, .aload_n 0, 1) (gx_m 6 rfl)) ?_
      refine gx_Jgi (pc := 13) (ci := 13) (kk := 10) (by decide) (Or.inl rfl) (by decide) (by decide) q563 (htX13_mayRead (13, .getfield 131, 3) (gx_m 7 rfl)) (fun v2 hv2 => ?_)
      refine gx_Jci (pc := 16) (gx_hst (as := [gx_i v2]) (b := gx_r 16 (some (5 :: x0)))) (gx_runV (as := [gx_i v2]) (ci := 15) (ct_X15_term Y (5 :: x0) v2) (by decide) (Or.inl rfl) rfl rfl rfl rfl q1173 q1174 q1175 q115 q1176 rfl dd_X15_term (by decide) (by decide) (Nat.le_of_ble_eq_true rfl) (htX13_mayRead (16, .invokevirtual 267, 3) (gx_m 8 rfl))) (fun v3 => ?_)
      refine gx_aload_n (pc := 19) (n := 0) (i := 0) rfl 0 rfl (htX13_mayRead (19, .aload_n 0, 1) (gx_m 9 rfl)) ?_
      refine gx_Jgi (pc := 20) (ci := 13) (kk := 3) (by decide) (Or.inl rfl) (by decide) (by decide) q550 (htX13_mayRead (20, .getfield 103, 3) (gx_m 10 rfl)) (fun v4 hv4 => ?_)
      refine gx_icmp_ne (pc := 23) (tgt := 30) (by decide) (htX13_mayRead (23, .if_icmp .ne 7, 3) (gx_m 11 rfl)) (fun c3 => ?_) (fun c3 => ?_)
      · refine gx_iconst (pc := 26) (v := 1) (by decide) (htX13_mayRead (26, .iconst 1, 1) (gx_m 12 rfl)) ?_
        refine gx_goto (pc := 27) (tgt := 31) (by decide) (htX13_mayRead (27, .goto 4, 3) (gx_m 13 rfl)) ?_
        refine gx_Jw (lv := []) [] rfl ?_
        exact hj1 (1 : Int32) gx_b1
      · refine gx_iconst (pc := 30) (v := 0) (by decide) (htX13_mayRead (30, .iconst 0, 1) (gx_m 14 rfl)) ?_
        refine gx_Jw (lv := []) [] rfl ?_
        exact hj1 (0 : Int32) gx_b0
    · refine gx_iconst (pc := 30) (v := 0) (by decide) (htX13_mayRead (30, .iconst 0, 1) (gx_m 14 rfl)) ?_
      refine gx_Jw (lv := []) [] rfl ?_
      exact hj1 (0 : Int32) gx_b0
theorem ct_X13_readsWaiting (Y : gx_Y) (x0 : gx_Nm) : gx_Ct Y yX13_readsWaiting (ws_ yX13_readsWaiting cX13_readsWaiting 1 (some .int)) 1 100 [gx_r 14 (some x0)] gx_Oi (f_X13_readsWaiting x0) := by
  refine gx_start (lv := [(0, gx_r 14 (some x0))]) gx_Oi_r pn_X13 (Nat.le_of_ble_eq_true rfl) rfl ?_
  unfold f_X13_readsWaiting
  refine gx_aload_n (pc := 0) (n := 0) (i := 0) rfl 0 rfl (htX13_readsWaiting (0, .aload_n 0, 1) (gx_m 0 rfl)) ?_
  refine gx_Jgi (pc := 1) (ci := 13) (kk := 21) (by decide) (Or.inl rfl) (by decide) (by decide) q576 (htX13_readsWaiting (1, .getfield 145, 3) (gx_m 1 rfl)) (fun v1 hv1 => ?_)
  refine gx_aload_n (pc := 4) (n := 0) (i := 0) rfl 0 rfl (htX13_readsWaiting (4, .aload_n 0, 1) (gx_m 2 rfl)) ?_
  refine gx_Jgi (pc := 5) (ci := 13) (kk := 22) (by decide) (Or.inl rfl) (by decide) (by decide) q577 (htX13_readsWaiting (5, .getfield 148, 3) (gx_m 3 rfl)) (fun v2 hv2 => ?_)
  refine gx_isub (pc := 8) (htX13_readsWaiting (8, .isub, 1) (gx_m 4 rfl)) ?_
  exact gx_Jiret (pc := 9) rfl (fun _ => trivial) (fun _ _ => rfl) (htX13_readsWaiting (9, .ireturn, 1) (gx_m 5 rfl))
theorem ct_X13_readsFit (Y : gx_Y) (x0 : gx_Nm) : gx_Ct Y yX13_readsFit (ws_ yX13_readsFit cX13_readsFit 1 (some .boolean)) 2 120 [gx_r 14 (some x0)] gx_Oz (f_X13_readsFit x0) := by
  refine gx_start (lv := [(0, gx_r 14 (some x0))]) gx_Oz_r pn_X13 (Nat.le_of_ble_eq_true rfl) rfl ?_
  unfold f_X13_readsFit
  refine gx_aload_n (pc := 0) (n := 0) (i := 0) rfl 0 rfl (htX13_readsFit (0, .aload_n 0, 1) (gx_m 0 rfl)) ?_
  refine gx_Jci (pc := 1) (gx_hst (as := []) (b := gx_r 14 (some x0))) (gx_runV (as := []) (ci := 13) (ct_X13_readsWaiting Y x0) (by decide) (Or.inl rfl) rfl rfl rfl rfl q1494 q1495 q1496 q113 q1497 rfl dd_X13_readsWaiting (by decide) (by decide) (Nat.le_of_ble_eq_true rfl) (htX13_readsFit (1, .invokevirtual 333, 3) (gx_m 1 rfl))) (fun v1 => ?_)
  refine gx_bipush (pc := 4) (v := 16) (by decide) (htX13_readsFit (4, .bipush 16, 2) (gx_m 2 rfl)) ?_
  refine gx_Jjoin (pcJ := 14) (lvJ := fun (j2 : Int32) => []) (stJ := fun (j2 : Int32) => [gx_i j2]) (fun (j2 : Int32) => j2 &&& 1 = j2) (fun j2 hj2 => ?_) (fun kk1 hj1 => ?_)
  · exact gx_Jzret (pc := 14) rfl hj2 (fun _ => hj2) (fun _ _ => rfl) (htX13_readsFit (14, .ireturn, 1) (gx_m 7 rfl))
  · refine gx_icmp_ge (pc := 6) (tgt := 13) (by decide) (htX13_readsFit (6, .if_icmp .ge 7, 3) (gx_m 3 rfl)) (fun c2 => ?_) (fun c2 => ?_)
    · refine gx_iconst (pc := 13) (v := 0) (by decide) (htX13_readsFit (13, .iconst 0, 1) (gx_m 6 rfl)) ?_
      refine gx_Jw (lv := []) [] rfl ?_
      exact hj1 (0 : Int32) gx_b0
    · refine gx_iconst (pc := 9) (v := 1) (by decide) (htX13_readsFit (9, .iconst 1, 1) (gx_m 4 rfl)) ?_
      refine gx_goto (pc := 10) (tgt := 14) (by decide) (htX13_readsFit (10, .goto 4, 3) (gx_m 5 rfl)) ?_
      refine gx_Jw (lv := []) [] rfl ?_
      exact hj1 (1 : Int32) gx_b1
theorem ct_X18_init (Y : gx_Y) (x0 : gx_Nm) : gx_Ct Y yX18_init (ws_ yX18_init cX18_init 1 none) 1 100 [gx_r 48 (some x0)] gx_Ov (f_X18_init x0) := by
  refine gx_start (lv := [(0, gx_r 48 (some x0))]) gx_Ov_r pn_X18 (Nat.le_of_ble_eq_true rfl) rfl ?_
  unfold f_X18_init
  refine gx_aload_n (pc := 0) (n := 0) (i := 0) rfl 0 rfl (htX18_init (0, .aload_n 0, 1) (gx_m 0 rfl)) ?_
  refine gx_Jobj (pc := 1) rfl q1506 q136 q137 (by decide) (Nat.le_of_ble_eq_true rfl) (htX18_init (1, .invokespecial 1, 3) (gx_m 1 rfl)) ?_
  refine gx_aload_n (pc := 4) (n := 0) (i := 0) rfl 0 rfl (htX18_init (4, .aload_n 0, 1) (gx_m 2 rfl)) ?_
  refine gx_iconst (pc := 5) (v := 4) (by decide) (htX18_init (5, .iconst 4, 1) (gx_m 3 rfl)) ?_
  refine gx_Jna (pc := 6) (t := 0) (by decide) rfl rfl q189 (htX18_init (6, .newarray .int, 2) (gx_m 4 rfl)) ?_
  refine gx_Jpr (pc := 8) (ci := 18) (kk := 5) (by decide) (Or.inr rfl) (by decide) rfl rfl (by decide) (fun _ h => (Option.some.inj h).symm) (Or.inr ⟨_, rfl⟩) q1512 (Or.inr ⟨rfl, rfl, rfl⟩) (htX18_init (8, .putfield 7, 3) (gx_m 5 rfl)) ?_
  exact gx_Jvret (pc := 11) rfl (fun _ => trivial) (fun _ _ => rfl) (htX18_init (11, .return_, 1) (gx_m 6 rfl))
theorem ct_X13_read (Y : gx_Y) (x0 : gx_Nm) (x1 : Int32) (x2 : Int32) : gx_Ct Y yX13_read (ws_ yX13_read cX13_read 5 (some .int)) 7 231 [gx_r 14 (some x0), gx_i x1, gx_i x2] gx_Oi (f_X13_read x0 x1 x2) := by
  refine gx_start (lv := [(0, gx_r 14 (some x0)), (1, gx_i x1), (2, gx_i x2)]) gx_Oi_r pn_X13 (Nat.le_of_ble_eq_true rfl) rfl ?_
  unfold f_X13_read
  refine gx_aload_n (pc := 0) (n := 0) (i := 0) rfl 0 rfl (htX13_read (0, .aload_n 0, 1) (gx_m 0 rfl)) ?_
  refine gx_Jgi (pc := 1) (ci := 13) (kk := 21) (by decide) (Or.inl rfl) (by decide) (by decide) q576 (htX13_read (1, .getfield 145, 3) (gx_m 1 rfl)) (fun v1 hv1 => ?_)
  refine gx_aload_n (pc := 4) (n := 0) (i := 0) rfl 0 rfl (htX13_read (4, .aload_n 0, 1) (gx_m 2 rfl)) ?_
  refine gx_Jgr (pc := 5) (ci := 13) (kk := 20) (t2 := 109) (by decide) (Or.inl rfl) (by decide) rfl rfl q575 (htX13_read (5, .getfield 39, 3) (gx_m 3 rfl)) (fun v2 => ?_)
  refine gx_Jal (pc := 8) (t := 9) (by decide) (htX13_read (8, .arraylength, 1) (gx_m 4 rfl)) (fun v3 => ?_)
  refine gx_Jjoin (pcJ := 56) (lvJ := fun (j_1 : Unit) => [(0, gx_r 14 (some x0)), (1, gx_i x1), (2, gx_i x2)]) (stJ := fun (j_1 : Unit) => []) (fun _ => True) (fun j_1 hj_1 => ?_) (fun kk1 hj1 => ?_)
  · refine gx_aload_n (pc := 56) (n := 0) (i := 0) rfl 0 rfl (htX13_read (56, .aload_n 0, 1) (gx_m 30 rfl)) ?_
    refine gx_Jgr (pc := 57) (ci := 13) (kk := 20) (t2 := 109) (by decide) (Or.inl rfl) (by decide) rfl rfl q575 (htX13_read (57, .getfield 39, 3) (gx_m 31 rfl)) (fun v9 => ?_)
    refine gx_aload_n (pc := 60) (n := 0) (i := 0) rfl 0 rfl (htX13_read (60, .aload_n 0, 1) (gx_m 32 rfl)) ?_
    refine gx_Jgi (pc := 61) (ci := 13) (kk := 21) (by decide) (Or.inl rfl) (by decide) (by decide) q576 (htX13_read (61, .getfield 145, 3) (gx_m 33 rfl)) (fun v10 hv10 => ?_)
    refine gx_Jro (pc := 64) (t := 9) (t2 := 19) (by decide) (by decide) rfl (htX13_read (64, .aaload, 1) (gx_m 34 rfl)) (fun v11 => ?_)
    refine gx_Jjoin (pcJ := 84) (lvJ := fun (j_2 : Unit) => [(0, gx_r 14 (some x0)), (1, gx_i x1), (2, gx_i x2)]) (stJ := fun (j_2 : Unit) => []) (fun _ => True) (fun j_2 hj_2 => ?_) (fun kk2 hj2 => ?_)
    · refine gx_aload_n (pc := 84) (n := 0) (i := 0) rfl 0 rfl (htX13_read (84, .aload_n 0, 1) (gx_m 44 rfl)) ?_
      refine gx_dup (pc := 85) rfl (htX13_read (85, .dup, 1) (gx_m 45 rfl)) ?_
      refine gx_Jgi (pc := 86) (ci := 13) (kk := 16) (by decide) (Or.inl rfl) (by decide) (by decide) q571 (htX13_read (86, .getfield 233, 3) (gx_m 46 rfl)) (fun v15 hv15 => ?_)
      refine gx_iconst (pc := 89) (v := 1) (by decide) (htX13_read (89, .iconst 1, 1) (gx_m 47 rfl)) ?_
      refine gx_iadd (pc := 90) (htX13_read (90, .iadd, 1) (gx_m 48 rfl)) ?_
      refine gx_Jpi (pc := 91) (ci := 13) (kk := 16) (by decide) (Or.inl rfl) (by decide) rfl rfl q571 (Or.inl rfl) (htX13_read (91, .putfield 233, 3) (gx_m 49 rfl)) ?_
      refine gx_aload_n (pc := 94) (n := 0) (i := 0) rfl 0 rfl (htX13_read (94, .aload_n 0, 1) (gx_m 50 rfl)) ?_
      refine gx_Jgs (pc := 95) (ci := 13) (kk := 19) (t2 := 100) (by decide) (by decide) rfl rfl rfl q574 (htX13_read (95, .getfield 34, 3) (gx_m 51 rfl)) ?_
      refine gx_aload_n (pc := 98) (n := 0) (i := 0) rfl 0 rfl (htX13_read (98, .aload_n 0, 1) (gx_m 52 rfl)) ?_
      refine gx_Jgi (pc := 99) (ci := 13) (kk := 1) (by decide) (Or.inl rfl) (by decide) (by decide) q547 (htX13_read (99, .getfield 47, 3) (gx_m 53 rfl)) (fun v16 hv16 => ?_)
      refine gx_aload_n (pc := 102) (n := 0) (i := 0) rfl 0 rfl (htX13_read (102, .aload_n 0, 1) (gx_m 54 rfl)) ?_
      refine gx_Jgi (pc := 103) (ci := 13) (kk := 16) (by decide) (Or.inl rfl) (by decide) (by decide) q571 (htX13_read (103, .getfield 233, 3) (gx_m 55 rfl)) (fun v17 hv17 => ?_)
      refine gx_Jis (pc := 106) (htX13_read (106, .iastore, 1) (gx_m 56 rfl)) ?_
      refine gx_aload_n (pc := 107) (n := 0) (i := 0) rfl 0 rfl (htX13_read (107, .aload_n 0, 1) (gx_m 57 rfl)) ?_
      refine gx_Jgr (pc := 108) (ci := 13) (kk := 20) (t2 := 109) (by decide) (Or.inl rfl) (by decide) rfl rfl q575 (htX13_read (108, .getfield 39, 3) (gx_m 58 rfl)) (fun v18 => ?_)
      refine gx_aload_n (pc := 111) (n := 0) (i := 0) rfl 0 rfl (htX13_read (111, .aload_n 0, 1) (gx_m 59 rfl)) ?_
      refine gx_Jgi (pc := 112) (ci := 13) (kk := 21) (by decide) (Or.inl rfl) (by decide) (by decide) q576 (htX13_read (112, .getfield 145, 3) (gx_m 60 rfl)) (fun v19 hv19 => ?_)
      refine gx_Jra (pc := 115) (t := 9) (t2 := 19) (by decide) (by decide) rfl (htX13_read (115, .aaload, 1) (gx_m 61 rfl)) (fun v20 => ?_)
      refine gx_astore_n (pc := 116) (n := 3) (i := 3) (lv' := [(3, gx_r 19 (some v20)), (0, gx_r 14 (some x0)), (1, gx_i x1), (2, gx_i x2)]) rfl (by decide) rfl (htX13_read (116, .astore_n 3, 1) (gx_m 62 rfl)) ?_
      refine gx_aload_n (pc := 117) (n := 0) (i := 0) rfl 1 rfl (htX13_read (117, .aload_n 0, 1) (gx_m 63 rfl)) ?_
      refine gx_dup (pc := 118) rfl (htX13_read (118, .dup, 1) (gx_m 64 rfl)) ?_
      refine gx_Jgi (pc := 119) (ci := 13) (kk := 21) (by decide) (Or.inl rfl) (by decide) (by decide) q576 (htX13_read (119, .getfield 145, 3) (gx_m 65 rfl)) (fun v21 hv21 => ?_)
      refine gx_iconst (pc := 122) (v := 1) (by decide) (htX13_read (122, .iconst 1, 1) (gx_m 66 rfl)) ?_
      refine gx_iadd (pc := 123) (htX13_read (123, .iadd, 1) (gx_m 67 rfl)) ?_
      refine gx_Jpi (pc := 124) (ci := 13) (kk := 21) (by decide) (Or.inl rfl) (by decide) rfl rfl q576 (Or.inl rfl) (htX13_read (124, .putfield 145, 3) (gx_m 68 rfl)) ?_
      refine gx_aload_n (pc := 127) (n := 3) (i := 3) rfl 0 rfl (htX13_read (127, .aload_n 3, 1) (gx_m 69 rfl)) ?_
      refine gx_iload_n (pc := 128) (n := 1) (i := 1) rfl 2 rfl (htX13_read (128, .iload_n 1, 1) (gx_m 70 rfl)) ?_
      refine gx_Jpi (pc := 129) (ci := 18) (kk := 0) (by decide) (Or.inl rfl) (by decide) rfl rfl q1507 (Or.inl rfl) (htX13_read (129, .putfield 337, 3) (gx_m 71 rfl)) ?_
      refine gx_aload_n (pc := 132) (n := 3) (i := 3) rfl 0 rfl (htX13_read (132, .aload_n 3, 1) (gx_m 72 rfl)) ?_
      refine gx_iload_n (pc := 133) (n := 2) (i := 2) rfl 3 rfl (htX13_read (133, .iload_n 2, 1) (gx_m 73 rfl)) ?_
      refine gx_Jpi (pc := 134) (ci := 18) (kk := 1) (by decide) (Or.inl rfl) (by decide) rfl rfl q1508 (Or.inl rfl) (htX13_read (134, .putfield 340, 3) (gx_m 74 rfl)) ?_
      refine gx_aload_n (pc := 137) (n := 3) (i := 3) rfl 0 rfl (htX13_read (137, .aload_n 3, 1) (gx_m 75 rfl)) ?_
      refine gx_aload_n (pc := 138) (n := 0) (i := 0) rfl 1 rfl (htX13_read (138, .aload_n 0, 1) (gx_m 76 rfl)) ?_
      refine gx_Jgs (pc := 139) (ci := 13) (kk := 0) (t2 := 3) (by decide) (by decide) rfl rfl rfl q546 (htX13_read (139, .getfield 43, 3) (gx_m 77 rfl)) ?_
      refine gx_Jgi (pc := 142) (ci := 2) (kk := 6) (by decide) (Or.inl rfl) (by decide) (by decide) q419 (htX13_read (142, .getfield 343, 3) (gx_m 78 rfl)) (fun v22 hv22 => ?_)
      refine gx_Jpi (pc := 145) (ci := 18) (kk := 2) (by decide) (Or.inl rfl) (by decide) rfl rfl q1509 (Or.inl rfl) (htX13_read (145, .putfield 346, 3) (gx_m 79 rfl)) ?_
      refine gx_aload_n (pc := 148) (n := 3) (i := 3) rfl 0 rfl (htX13_read (148, .aload_n 3, 1) (gx_m 80 rfl)) ?_
      refine gx_aload_n (pc := 149) (n := 0) (i := 0) rfl 1 rfl (htX13_read (149, .aload_n 0, 1) (gx_m 81 rfl)) ?_
      refine gx_Jgi (pc := 150) (ci := 13) (kk := 16) (by decide) (Or.inl rfl) (by decide) (by decide) q571 (htX13_read (150, .getfield 233, 3) (gx_m 82 rfl)) (fun v23 hv23 => ?_)
      refine gx_Jpi (pc := 153) (ci := 18) (kk := 3) (by decide) (Or.inl rfl) (by decide) rfl rfl q1510 (Or.inl rfl) (htX13_read (153, .putfield 349, 3) (gx_m 83 rfl)) ?_
      refine gx_aload_n (pc := 156) (n := 3) (i := 3) rfl 0 rfl (htX13_read (156, .aload_n 3, 1) (gx_m 84 rfl)) ?_
      refine gx_iconst (pc := 157) (v := 0) (by decide) (htX13_read (157, .iconst 0, 1) (gx_m 85 rfl)) ?_
      refine gx_Jpz (pc := 158) (ci := 18) (kk := 4) (by decide) (Or.inl rfl) (by decide) rfl rfl gx_b0 q1511 (Or.inl rfl) (htX13_read (158, .putfield 350, 3) (gx_m 86 rfl)) ?_
      refine gx_aload_n (pc := 161) (n := 0) (i := 0) rfl 1 rfl (htX13_read (161, .aload_n 0, 1) (gx_m 87 rfl)) ?_
      refine gx_Jcv (pc := 162) (gx_hst (as := []) (b := gx_r 14 (some x0))) (gx_runV (as := []) (ci := 13) (ct_X13_tellAll Y x0) (by decide) (Or.inl rfl) rfl rfl rfl rfl q1093 q1094 q1095 q113 q1096 rfl dd_X13_tellAll (by decide) (by decide) (Nat.le_of_ble_eq_true rfl) (htX13_read (162, .invokevirtual 254, 3) (gx_m 88 rfl))) ?_
      refine gx_aload_n (pc := 165) (n := 0) (i := 0) rfl 1 rfl (htX13_read (165, .aload_n 0, 1) (gx_m 89 rfl)) ?_
      refine gx_Jcv (pc := 166) (gx_hst (as := []) (b := gx_r 14 (some x0))) (gx_runV (as := []) (ci := 13) (ct_X13_lookAtReads Y x0) (by decide) (Or.inl rfl) rfl rfl rfl rfl q1447 q1449 qs39 q113 q1450 rfl dd_X13_lookAtReads (by decide) (by decide) (Nat.le_of_ble_eq_true rfl) (htX13_read (166, .invokevirtual 330, 3) (gx_m 90 rfl))) ?_
      refine gx_aload_n (pc := 169) (n := 0) (i := 0) rfl 1 rfl (htX13_read (169, .aload_n 0, 1) (gx_m 91 rfl)) ?_
      refine gx_Jgi (pc := 170) (ci := 13) (kk := 21) (by decide) (Or.inl rfl) (by decide) (by decide) q576 (htX13_read (170, .getfield 145, 3) (gx_m 92 rfl)) (fun v24 hv24 => ?_)
      refine gx_iconst (pc := 173) (v := 1) (by decide) (htX13_read (173, .iconst 1, 1) (gx_m 93 rfl)) ?_
      refine gx_isub (pc := 174) (htX13_read (174, .isub, 1) (gx_m 94 rfl)) ?_
      exact gx_Jiret (pc := 175) rfl (fun _ => trivial) (fun _ _ => rfl) (htX13_read (175, .ireturn, 1) (gx_m 95 rfl))
    · refine gx_ifnonnull (pc := 65) (tgt := 84) (by decide) (htX13_read (65, .ifnonnull 19, 3) (gx_m 35 rfl)) (fun c3 => ?_) (fun c3 => ?_)
      · refine gx_aload_n (pc := 68) (n := 0) (i := 0) rfl 0 rfl (htX13_read (68, .aload_n 0, 1) (gx_m 36 rfl)) ?_
        refine gx_Jgr (pc := 69) (ci := 13) (kk := 20) (t2 := 109) (by decide) (Or.inl rfl) (by decide) rfl rfl q575 (htX13_read (69, .getfield 39, 3) (gx_m 37 rfl)) (fun v12 => ?_)
        refine gx_aload_n (pc := 72) (n := 0) (i := 0) rfl 0 rfl (htX13_read (72, .aload_n 0, 1) (gx_m 38 rfl)) ?_
        refine gx_Jgi (pc := 73) (ci := 13) (kk := 21) (by decide) (Or.inl rfl) (by decide) (by decide) q576 (htX13_read (73, .getfield 145, 3) (gx_m 39 rfl)) (fun v13 hv13 => ?_)
        refine gx_Jpeek (fun S q h => by cases h; rfl) (fun v14 => ?_)
        refine gx_Jnw (pc := 76) (ci := 18) (by decide) rfl rfl rfl q487 q1502 q129 (htX13_read (76, .new 37, 3) (gx_m 40 rfl)) ?_
        refine gx_dup (pc := 79) rfl (htX13_read (79, .dup, 1) (gx_m 41 rfl)) ?_
        refine gx_Jcv (pc := 80) (gx_hst (as := []) (b := gx_r 48 (some (v14.toNatClampNeg :: 90 :: x0)))) (gx_runIN (as := []) (ct_X18_init Y (v14.toNatClampNeg :: 90 :: x0)) rfl rfl rfl rfl q1503 q1504 q129 q1505 rfl dd_X18_init (by decide) (by decide) (Nat.le_of_ble_eq_true rfl) (htX13_read (80, .invokespecial 336, 3) (gx_m 42 rfl))) ?_
        refine gx_Jfu (ci := 18) (by decide) rfl rfl sn_18 ?_
        refine gx_Jrs (pc := 83) (t := 9) (ci := 18) (by decide) (by decide) rfl (by decide) rfl rfl (htX13_read (83, .aastore, 1) (gx_m 43 rfl)) ?_
        exact hj2 () trivial
      · exact hj2 () trivial
  · refine gx_icmp_ne (pc := 9) (tgt := 56) (by decide) (htX13_read (9, .if_icmp .ne 47, 3) (gx_m 5 rfl)) (fun c4 => ?_) (fun c4 => ?_)
    · refine gx_iconst (pc := 12) (v := 2) (by decide) (htX13_read (12, .iconst 2, 1) (gx_m 6 rfl)) ?_
      refine gx_aload_n (pc := 13) (n := 0) (i := 0) rfl 0 rfl (htX13_read (13, .aload_n 0, 1) (gx_m 7 rfl)) ?_
      refine gx_Jgi (pc := 14) (ci := 13) (kk := 21) (by decide) (Or.inl rfl) (by decide) (by decide) q576 (htX13_read (14, .getfield 145, 3) (gx_m 8 rfl)) (fun v4 hv4 => ?_)
      refine gx_imul (pc := 17) (htX13_read (17, .imul, 1) (gx_m 9 rfl)) ?_
      refine gx_Jnr (pc := 18) (t := 9) (ci := 18) (by decide) rfl rfl rfl q487 q488 (htX13_read (18, .anewarray 37, 3) (gx_m 10 rfl)) ?_
      refine gx_astore_n (pc := 21) (n := 3) (i := 3) (lv' := [(3, gx_r 109 (some ((2 * v4).toNatClampNeg :: 20 :: x0))), (0, gx_r 14 (some x0)), (1, gx_i x1), (2, gx_i x2)]) rfl (by decide) rfl (htX13_read (21, .astore_n 3, 1) (gx_m 11 rfl)) ?_
      refine gx_iconst (pc := 22) (v := 0) (by decide) (htX13_read (22, .iconst 0, 1) (gx_m 12 rfl)) ?_
      refine gx_istore (pc := 23) (i := 4) (lv' := [(4, gx_i 0), (3, gx_r 109 (some ((2 * v4).toNatClampNeg :: 20 :: x0))), (0, gx_r 14 (some x0)), (1, gx_i x1), (2, gx_i x2)]) (by decide) rfl (htX13_read (23, .istore 4, 2) (gx_m 13 rfl)) ?_
      refine gx_Jjoin (pcJ := 51) (lvJ := fun (j_5 : Unit) => [(0, gx_r 14 (some x0)), (1, gx_i x1), (2, gx_i x2), (3, gx_r 109 (some ((2 * v4).toNatClampNeg :: 20 :: x0)))]) (stJ := fun (j_5 : Unit) => []) (fun _ => True) (fun j_5 _ => ?_) (fun kk5 hj5 => ?_)
      · refine gx_aload_n (pc := 51) (n := 0) (i := 0) rfl 0 rfl (htX13_read (51, .aload_n 0, 1) (gx_m 27 rfl)) ?_
        refine gx_aload_n (pc := 52) (n := 3) (i := 3) rfl 3 rfl (htX13_read (52, .aload_n 3, 1) (gx_m 28 rfl)) ?_
        refine gx_Jpr (pc := 53) (ci := 13) (kk := 20) (by decide) (Or.inl rfl) (by decide) rfl rfl (by decide) (fun _ h => by cases h) (Or.inr ⟨_, rfl⟩) q575 (Or.inl rfl) (htX13_read (53, .putfield 39, 3) (gx_m 29 rfl)) ?_
        refine gx_Jw (lv := [(0, gx_r 14 (some x0)), (1, gx_i x1), (2, gx_i x2)]) [0, 1, 2] rfl ?_
        exact hj1 () trivial
      · refine gx_Jw (lv := [(0, gx_r 14 (some x0)), (1, gx_i x1), (2, gx_i x2), (3, gx_r 109 (some ((2 * v4).toNatClampNeg :: 20 :: x0))), (4, gx_i 0)]) [2, 3, 4, 1, 0] rfl ?_
        refine gx_Jlp (pc := 25) (lvh := fun (s5 : Int32) => [(0, gx_r 14 (some x0)), (1, gx_i x1), (2, gx_i x2), (3, gx_r 109 (some ((2 * v4).toNatClampNeg :: 20 :: x0))), (4, gx_i s5)]) (fun s5 kl5 ha5 hb5 => ?_) _
        unfold lb_X13_read_1
        refine gx_iload (pc := 25) (i := 4) 4 rfl (htX13_read (25, .iload 4, 2) (gx_m 14 rfl)) ?_
        refine gx_aload_n (pc := 27) (n := 0) (i := 0) rfl 0 rfl (htX13_read (27, .aload_n 0, 1) (gx_m 15 rfl)) ?_
        refine gx_Jgi (pc := 28) (ci := 13) (kk := 21) (by decide) (Or.inl rfl) (by decide) (by decide) q576 (htX13_read (28, .getfield 145, 3) (gx_m 16 rfl)) (fun v6 hv6 => ?_)
        refine gx_icmp_ge (pc := 31) (tgt := 51) (by decide) (htX13_read (31, .if_icmp .ge 20, 3) (gx_m 17 rfl)) (fun c6 => ?_) (fun c6 => ?_)
        · refine gx_Jw (lv := [(0, gx_r 14 (some x0)), (1, gx_i x1), (2, gx_i x2), (3, gx_r 109 (some ((2 * v4).toNatClampNeg :: 20 :: x0)))]) [0, 1, 2, 3] rfl ?_
          exact gx_Jout hb5 (hj5 () trivial)
        · refine gx_aload_n (pc := 34) (n := 3) (i := 3) rfl 3 rfl (htX13_read (34, .aload_n 3, 1) (gx_m 18 rfl)) ?_
          refine gx_iload (pc := 35) (i := 4) 4 rfl (htX13_read (35, .iload 4, 2) (gx_m 19 rfl)) ?_
          refine gx_aload_n (pc := 37) (n := 0) (i := 0) rfl 0 rfl (htX13_read (37, .aload_n 0, 1) (gx_m 20 rfl)) ?_
          refine gx_Jgr (pc := 38) (ci := 13) (kk := 20) (t2 := 109) (by decide) (Or.inl rfl) (by decide) rfl rfl q575 (htX13_read (38, .getfield 39, 3) (gx_m 21 rfl)) (fun v7 => ?_)
          refine gx_iload (pc := 41) (i := 4) 4 rfl (htX13_read (41, .iload 4, 2) (gx_m 22 rfl)) ?_
          refine gx_Jra (pc := 43) (t := 9) (t2 := 19) (by decide) (by decide) rfl (htX13_read (43, .aaload, 1) (gx_m 23 rfl)) (fun v8 => ?_)
          refine gx_Jrs (pc := 44) (t := 9) (ci := 18) (by decide) (by decide) rfl (by decide) rfl rfl (htX13_read (44, .aastore, 1) (gx_m 24 rfl)) ?_
          refine gx_iinc (pc := 45) (i := 4) (j := 4) (v := (s5 + 1)) (lv' := [(4, gx_i (s5 + 1)), (0, gx_r 14 (some x0)), (1, gx_i x1), (2, gx_i x2), (3, gx_r 109 (some ((2 * v4).toNatClampNeg :: 20 :: x0)))]) rfl (gx_iv (by decide)) (by decide) rfl (htX13_read (45, .iinc 4 1, 3) (gx_m 25 rfl)) ?_
          refine gx_goto (pc := 48) (tgt := 25) (by decide) (htX13_read (48, .goto (-23), 3) (gx_m 26 rfl)) ?_
          refine gx_Jw (lv := [(0, gx_r 14 (some x0)), (1, gx_i x1), (2, gx_i x2), (3, gx_r 109 (some ((2 * v4).toNatClampNeg :: 20 :: x0))), (4, gx_i (s5 + 1))]) [1, 2, 3, 4, 0] rfl ?_
          exact ha5 ((s5 + 1) : Int32)
    · exact hj1 () trivial
theorem ct_X13_isDone (Y : gx_Y) (x0 : gx_Nm) (x1 : Int32) : gx_Ct Y yX13_isDone (ws_ yX13_isDone cX13_isDone 2 (some .boolean)) 1 100 [gx_r 14 (some x0), gx_i x1] gx_Oz (f_X13_isDone x0 x1) := by
  refine gx_start (lv := [(0, gx_r 14 (some x0)), (1, gx_i x1)]) gx_Oz_r pn_X13 (Nat.le_of_ble_eq_true rfl) rfl ?_
  unfold f_X13_isDone
  refine gx_iload_n (pc := 0) (n := 1) (i := 1) rfl 1 rfl (htX13_isDone (0, .iload_n 1, 1) (gx_m 0 rfl)) ?_
  refine gx_Jjoin (pcJ := 29) (lvJ := fun (j5 : Int32) => []) (stJ := fun (j5 : Int32) => [gx_i j5]) (fun (j5 : Int32) => j5 &&& 1 = j5) (fun j5 hj5 => ?_) (fun kk1 hj1 => ?_)
  · exact gx_Jzret (pc := 29) rfl hj5 (fun _ => hj5) (fun _ _ => rfl) (htX13_isDone (29, .ireturn, 1) (gx_m 15 rfl))
  · refine gx_if_lt (pc := 1) (y := 0) (tgt := 28) (by decide) (htX13_isDone (1, .ifCond .lt 27, 3) (gx_m 1 rfl)) (fun c2 => ?_) (fun c2 => ?_)
    · refine gx_iconst (pc := 28) (v := 0) (by decide) (htX13_isDone (28, .iconst 0, 1) (gx_m 14 rfl)) ?_
      refine gx_Jw (lv := []) [] rfl ?_
      exact hj1 (0 : Int32) gx_b0
    · refine gx_iload_n (pc := 4) (n := 1) (i := 1) rfl 1 rfl (htX13_isDone (4, .iload_n 1, 1) (gx_m 2 rfl)) ?_
      refine gx_aload_n (pc := 5) (n := 0) (i := 0) rfl 0 rfl (htX13_isDone (5, .aload_n 0, 1) (gx_m 3 rfl)) ?_
      refine gx_Jgi (pc := 6) (ci := 13) (kk := 21) (by decide) (Or.inl rfl) (by decide) (by decide) q576 (htX13_isDone (6, .getfield 145, 3) (gx_m 4 rfl)) (fun v1 hv1 => ?_)
      refine gx_icmp_ge (pc := 9) (tgt := 28) (by decide) (htX13_isDone (9, .if_icmp .ge 19, 3) (gx_m 5 rfl)) (fun c3 => ?_) (fun c3 => ?_)
      · refine gx_iconst (pc := 28) (v := 0) (by decide) (htX13_isDone (28, .iconst 0, 1) (gx_m 14 rfl)) ?_
        refine gx_Jw (lv := []) [] rfl ?_
        exact hj1 (0 : Int32) gx_b0
      · refine gx_aload_n (pc := 12) (n := 0) (i := 0) rfl 0 rfl (htX13_isDone (12, .aload_n 0, 1) (gx_m 6 rfl)) ?_
        refine gx_Jgr (pc := 13) (ci := 13) (kk := 20) (t2 := 109) (by decide) (Or.inl rfl) (by decide) rfl rfl q575 (htX13_isDone (13, .getfield 39, 3) (gx_m 7 rfl)) (fun v2 => ?_)
        refine gx_iload_n (pc := 16) (n := 1) (i := 1) rfl 1 rfl (htX13_isDone (16, .iload_n 1, 1) (gx_m 8 rfl)) ?_
        refine gx_Jra (pc := 17) (t := 9) (t2 := 19) (by decide) (by decide) rfl (htX13_isDone (17, .aaload, 1) (gx_m 9 rfl)) (fun v3 => ?_)
        refine gx_Jgi (pc := 18) (ci := 18) (kk := 4) (by decide) (Or.inl rfl) (by decide) (by decide) q1511 (htX13_isDone (18, .getfield 350, 3) (gx_m 10 rfl)) (fun v4 hv4 => ?_)
        refine gx_if_eq (pc := 21) (y := 0) (tgt := 28) (by decide) (htX13_isDone (21, .ifCond .eq 7, 3) (gx_m 11 rfl)) (fun c4 => ?_) (fun c4 => ?_)
        · refine gx_iconst (pc := 28) (v := 0) (by decide) (htX13_isDone (28, .iconst 0, 1) (gx_m 14 rfl)) ?_
          refine gx_Jw (lv := []) [] rfl ?_
          exact hj1 (0 : Int32) gx_b0
        · refine gx_iconst (pc := 24) (v := 1) (by decide) (htX13_isDone (24, .iconst 1, 1) (gx_m 12 rfl)) ?_
          refine gx_goto (pc := 25) (tgt := 29) (by decide) (htX13_isDone (25, .goto 4, 3) (gx_m 13 rfl)) ?_
          refine gx_Jw (lv := []) [] rfl ?_
          exact hj1 (1 : Int32) gx_b1
theorem ct_X13_answer_2 (Y : gx_Y) (x0 : gx_Nm) (x1 : Int32) (x2 : Int32) : gx_Ct Y yX13_answer_2 (ws_ yX13_answer_2 cX13_answer_2 3 (some .int)) 1 100 [gx_r 14 (some x0), gx_i x1, gx_i x2] gx_Oi (f_X13_answer_2 x0 x1 x2) := by
  refine gx_start (lv := [(0, gx_r 14 (some x0)), (1, gx_i x1), (2, gx_i x2)]) gx_Oi_r pn_X13 (Nat.le_of_ble_eq_true rfl) rfl ?_
  unfold f_X13_answer_2
  refine gx_aload_n (pc := 0) (n := 0) (i := 0) rfl 0 rfl (htX13_answer_2 (0, .aload_n 0, 1) (gx_m 0 rfl)) ?_
  refine gx_Jgr (pc := 1) (ci := 13) (kk := 20) (t2 := 109) (by decide) (Or.inl rfl) (by decide) rfl rfl q575 (htX13_answer_2 (1, .getfield 39, 3) (gx_m 1 rfl)) (fun v1 => ?_)
  refine gx_iload_n (pc := 4) (n := 1) (i := 1) rfl 1 rfl (htX13_answer_2 (4, .iload_n 1, 1) (gx_m 2 rfl)) ?_
  refine gx_Jra (pc := 5) (t := 9) (t2 := 19) (by decide) (by decide) rfl (htX13_answer_2 (5, .aaload, 1) (gx_m 3 rfl)) (fun v2 => ?_)
  refine gx_Jgs (pc := 6) (ci := 18) (kk := 5) (t2 := 100) (by decide) (by decide) rfl rfl rfl q1513 (htX13_answer_2 (6, .getfield 364, 3) (gx_m 4 rfl)) ?_
  refine gx_iload_n (pc := 9) (n := 2) (i := 2) rfl 2 rfl (htX13_answer_2 (9, .iload_n 2, 1) (gx_m 5 rfl)) ?_
  refine gx_Jia (pc := 10) (htX13_answer_2 (10, .iaload, 1) (gx_m 6 rfl)) (fun v3 => ?_)
  exact gx_Jiret (pc := 11) rfl (fun _ => trivial) (fun _ _ => rfl) (htX13_answer_2 (11, .ireturn, 1) (gx_m 7 rfl))
theorem ct_X13_compacted (Y : gx_Y) (x0 : gx_Nm) : gx_Ct Y yX13_compacted (ws_ yX13_compacted cX13_compacted 1 (some .int)) 1 100 [gx_r 14 (some x0)] gx_Oi (f_X13_compacted x0) := by
  refine gx_start (lv := [(0, gx_r 14 (some x0))]) gx_Oi_r pn_X13 (Nat.le_of_ble_eq_true rfl) rfl ?_
  unfold f_X13_compacted
  refine gx_aload_n (pc := 0) (n := 0) (i := 0) rfl 0 rfl (htX13_compacted (0, .aload_n 0, 1) (gx_m 0 rfl)) ?_
  refine gx_Jgi (pc := 1) (ci := 13) (kk := 14) (by decide) (Or.inl rfl) (by decide) (by decide) q569 (htX13_compacted (1, .getfield 142, 3) (gx_m 1 rfl)) (fun v1 hv1 => ?_)
  exact gx_Jiret (pc := 4) rfl (fun _ => trivial) (fun _ _ => rfl) (htX13_compacted (4, .ireturn, 1) (gx_m 2 rfl))
theorem ct_X7_at (Y : gx_Y) (x0 : gx_Nm) (x1 : Int32) (x2 : Int32) : gx_Ct Y yX7_at (ws_ yX7_at cX7_at 4 (some .int)) 2 121 [gx_r 8 (some x0), gx_i x1, gx_i x2] gx_Oi (f_X7_at x0 x1 x2) := by
  refine gx_start (lv := [(0, gx_r 8 (some x0)), (1, gx_i x1), (2, gx_i x2)]) gx_Oi_r pn_X7 (Nat.le_of_ble_eq_true rfl) rfl ?_
  unfold f_X7_at
  refine gx_iload_n (pc := 0) (n := 1) (i := 1) rfl 1 rfl (htX7_at (0, .iload_n 1, 1) (gx_m 0 rfl)) ?_
  refine gx_istore_n (pc := 1) (n := 3) (i := 3) (lv' := [(3, gx_i x1), (0, gx_r 8 (some x0)), (1, gx_i x1), (2, gx_i x2)]) rfl (by decide) rfl (htX7_at (1, .istore_n 3, 1) (gx_m 1 rfl)) ?_
  refine gx_Jjoin (pcJ := 26) (lvJ := fun (j4 : Int32) => [(3, gx_i j4)]) (stJ := fun (j4 : Int32) => []) (fun _ => True) (fun j4 _ => ?_) (fun kk1 hj1 => ?_)
  · refine gx_iload_n (pc := 26) (n := 3) (i := 3) rfl 0 rfl (htX7_at (26, .iload_n 3, 1) (gx_m 14 rfl)) ?_
    exact gx_Jiret (pc := 27) rfl (fun _ => trivial) (fun _ _ => rfl) (htX7_at (27, .ireturn, 1) (gx_m 15 rfl))
  · refine gx_Jw (lv := [(0, gx_r 8 (some x0)), (2, gx_i x2), (3, gx_i x1)]) [1, 3, 0] rfl ?_
    refine gx_Jlp (pc := 2) (lvh := fun (s1 : Int32) => [(0, gx_r 8 (some x0)), (2, gx_i x2), (3, gx_i s1)]) (fun s1 kl1 ha1 hb1 => ?_) _
    unfold lb_X7_at_1
    refine gx_aload_n (pc := 2) (n := 0) (i := 0) rfl 0 rfl (htX7_at (2, .aload_n 0, 1) (gx_m 2 rfl)) ?_
    refine gx_Jgs (pc := 3) (ci := 7) (kk := 3) (t2 := 6) (by decide) (by decide) rfl rfl rfl q309 (htX7_at (3, .getfield 21, 3) (gx_m 3 rfl)) ?_
    refine gx_iload_n (pc := 6) (n := 3) (i := 3) rfl 2 rfl (htX7_at (6, .iload_n 3, 1) (gx_m 4 rfl)) ?_
    refine gx_Jci (pc := 7) (gx_hst (as := [gx_i s1]) (b := gx_r 6 (some (3 :: x0)))) (gx_runV (as := [gx_i s1]) (ci := 5) (ct_X5_get Y (3 :: x0) s1) (by decide) (Or.inl rfl) rfl rfl rfl rfl q667 q668 q669 q105 q670 rfl dd_X5_get (by decide) (by decide) (Nat.le_of_ble_eq_true rfl) (htX7_at (7, .invokevirtual 89, 3) (gx_m 5 rfl))) (fun v2 => ?_)
    refine gx_iload_n (pc := 10) (n := 2) (i := 2) rfl 1 rfl (htX7_at (10, .iload_n 2, 1) (gx_m 6 rfl)) ?_
    refine gx_icmp_le (pc := 11) (tgt := 26) (by decide) (htX7_at (11, .if_icmp .le 15, 3) (gx_m 7 rfl)) (fun c2 => ?_) (fun c2 => ?_)
    · refine gx_Jw (lv := [(3, gx_i s1)]) [2] rfl ?_
      exact gx_Jout hb1 (hj1 (s1 : Int32) trivial)
    · refine gx_aload_n (pc := 14) (n := 0) (i := 0) rfl 0 rfl (htX7_at (14, .aload_n 0, 1) (gx_m 8 rfl)) ?_
      refine gx_Jgs (pc := 15) (ci := 7) (kk := 1) (t2 := 6) (by decide) (by decide) rfl rfl rfl q307 (htX7_at (15, .getfield 12, 3) (gx_m 9 rfl)) ?_
      refine gx_iload_n (pc := 18) (n := 3) (i := 3) rfl 2 rfl (htX7_at (18, .iload_n 3, 1) (gx_m 10 rfl)) ?_
      refine gx_Jci (pc := 19) (gx_hst (as := [gx_i s1]) (b := gx_r 6 (some (1 :: x0)))) (gx_runV (as := [gx_i s1]) (ci := 5) (ct_X5_get Y (1 :: x0) s1) (by decide) (Or.inl rfl) rfl rfl rfl rfl q667 q668 q669 q105 q670 rfl dd_X5_get (by decide) (by decide) (Nat.le_of_ble_eq_true rfl) (htX7_at (19, .invokevirtual 89, 3) (gx_m 11 rfl))) (fun v3 => ?_)
      refine gx_istore_n (pc := 22) (n := 3) (i := 3) (lv' := [(3, gx_i v3), (0, gx_r 8 (some x0)), (2, gx_i x2)]) rfl (by decide) rfl (htX7_at (22, .istore_n 3, 1) (gx_m 12 rfl)) ?_
      refine gx_goto (pc := 23) (tgt := 2) (by decide) (htX7_at (23, .goto (-21), 3) (gx_m 13 rfl)) ?_
      refine gx_Jw (lv := [(0, gx_r 8 (some x0)), (2, gx_i x2), (3, gx_i v3)]) [1, 2, 0] rfl ?_
      exact ha1 (v3 : Int32)
theorem ct_X7_maker (Y : gx_Y) (x0 : gx_Nm) (x1 : Int32) (x2 : Int32) : gx_Ct Y yX7_maker (ws_ yX7_maker cX7_maker 4 (some .int)) 3 144 [gx_r 8 (some x0), gx_i x1, gx_i x2] gx_Oi (f_X7_maker x0 x1 x2) := by
  refine gx_start (lv := [(0, gx_r 8 (some x0)), (1, gx_i x1), (2, gx_i x2)]) gx_Oi_r pn_X7 (Nat.le_of_ble_eq_true rfl) rfl ?_
  unfold f_X7_maker
  refine gx_aload_n (pc := 0) (n := 0) (i := 0) rfl 0 rfl (htX7_maker (0, .aload_n 0, 1) (gx_m 0 rfl)) ?_
  refine gx_iload_n (pc := 1) (n := 1) (i := 1) rfl 1 rfl (htX7_maker (1, .iload_n 1, 1) (gx_m 1 rfl)) ?_
  refine gx_iload_n (pc := 2) (n := 2) (i := 2) rfl 2 rfl (htX7_maker (2, .iload_n 2, 1) (gx_m 2 rfl)) ?_
  refine gx_Jci (pc := 3) (gx_hst (as := [gx_i x1, gx_i x2]) (b := gx_r 8 (some x0))) (gx_runV (as := [gx_i x1, gx_i x2]) (ci := 7) (ct_X7_at Y x0 x1 x2) (by decide) (Or.inl rfl) rfl rfl rfl rfl q1588 q1559 q1560 q107 q1561 rfl dd_X7_at (by decide) (by decide) (Nat.le_of_ble_eq_true rfl) (htX7_maker (3, .invokevirtual 97, 3) (gx_m 3 rfl))) (fun v1 => ?_)
  refine gx_istore_n (pc := 6) (n := 3) (i := 3) (lv' := [(3, gx_i v1), (0, gx_r 8 (some x0)), (1, gx_i x1), (2, gx_i x2)]) rfl (by decide) rfl (htX7_maker (6, .istore_n 3, 1) (gx_m 4 rfl)) ?_
  refine gx_Jjoin (pcJ := 42) (lvJ := fun (j6 : Int32) => [(3, gx_i j6)]) (stJ := fun (j6 : Int32) => []) (fun _ => True) (fun j6 _ => ?_) (fun kk1 hj1 => ?_)
  · refine gx_iload_n (pc := 42) (n := 3) (i := 3) rfl 0 rfl (htX7_maker (42, .iload_n 3, 1) (gx_m 22 rfl)) ?_
    exact gx_Jiret (pc := 43) rfl (fun _ => trivial) (fun _ _ => rfl) (htX7_maker (43, .ireturn, 1) (gx_m 23 rfl))
  · refine gx_Jw (lv := [(0, gx_r 8 (some x0)), (2, gx_i x2), (3, gx_i v1)]) [1, 3, 0] rfl ?_
    refine gx_Jlp (pc := 7) (lvh := fun (s2 : Int32) => [(0, gx_r 8 (some x0)), (2, gx_i x2), (3, gx_i s2)]) (fun s2 kl1 ha1 hb1 => ?_) _
    unfold lb_X7_maker_1
    refine gx_iload_n (pc := 7) (n := 3) (i := 3) rfl 2 rfl (htX7_maker (7, .iload_n 3, 1) (gx_m 5 rfl)) ?_
    refine gx_if_le (pc := 8) (y := 0) (tgt := 42) (by decide) (htX7_maker (8, .ifCond .le 34, 3) (gx_m 6 rfl)) (fun c2 => ?_) (fun c2 => ?_)
    · refine gx_Jw (lv := [(3, gx_i s2)]) [2] rfl ?_
      exact gx_Jout hb1 (hj1 (s2 : Int32) trivial)
    · refine gx_aload_n (pc := 11) (n := 0) (i := 0) rfl 0 rfl (htX7_maker (11, .aload_n 0, 1) (gx_m 7 rfl)) ?_
      refine gx_Jgs (pc := 12) (ci := 7) (kk := 3) (t2 := 6) (by decide) (by decide) rfl rfl rfl q309 (htX7_maker (12, .getfield 21, 3) (gx_m 8 rfl)) ?_
      refine gx_aload_n (pc := 15) (n := 0) (i := 0) rfl 0 rfl (htX7_maker (15, .aload_n 0, 1) (gx_m 9 rfl)) ?_
      refine gx_Jgs (pc := 16) (ci := 7) (kk := 1) (t2 := 6) (by decide) (by decide) rfl rfl rfl q307 (htX7_maker (16, .getfield 12, 3) (gx_m 10 rfl)) ?_
      refine gx_iload_n (pc := 19) (n := 3) (i := 3) rfl 2 rfl (htX7_maker (19, .iload_n 3, 1) (gx_m 11 rfl)) ?_
      refine gx_Jci (pc := 20) (gx_hst (as := [gx_i s2]) (b := gx_r 6 (some (1 :: x0)))) (gx_runV (as := [gx_i s2]) (ci := 5) (ct_X5_get Y (1 :: x0) s2) (by decide) (Or.inl rfl) rfl rfl rfl rfl q667 q668 q669 q105 q670 rfl dd_X5_get (by decide) (by decide) (Nat.le_of_ble_eq_true rfl) (htX7_maker (20, .invokevirtual 89, 3) (gx_m 12 rfl))) (fun v3 => ?_)
      refine gx_Jci (pc := 23) (gx_hst (as := [gx_i v3]) (b := gx_r 6 (some (3 :: x0)))) (gx_runV (as := [gx_i v3]) (ci := 5) (ct_X5_get Y (3 :: x0) v3) (by decide) (Or.inl rfl) rfl rfl rfl rfl q667 q668 q669 q105 q670 rfl dd_X5_get (by decide) (by decide) (Nat.le_of_ble_eq_true rfl) (htX7_maker (23, .invokevirtual 89, 3) (gx_m 13 rfl))) (fun v4 => ?_)
      refine gx_iload_n (pc := 26) (n := 2) (i := 2) rfl 1 rfl (htX7_maker (26, .iload_n 2, 1) (gx_m 14 rfl)) ?_
      refine gx_icmp_ne (pc := 27) (tgt := 42) (by decide) (htX7_maker (27, .if_icmp .ne 15, 3) (gx_m 15 rfl)) (fun c3 => ?_) (fun c3 => ?_)
      · refine gx_aload_n (pc := 30) (n := 0) (i := 0) rfl 0 rfl (htX7_maker (30, .aload_n 0, 1) (gx_m 16 rfl)) ?_
        refine gx_Jgs (pc := 31) (ci := 7) (kk := 1) (t2 := 6) (by decide) (by decide) rfl rfl rfl q307 (htX7_maker (31, .getfield 12, 3) (gx_m 17 rfl)) ?_
        refine gx_iload_n (pc := 34) (n := 3) (i := 3) rfl 2 rfl (htX7_maker (34, .iload_n 3, 1) (gx_m 18 rfl)) ?_
        refine gx_Jci (pc := 35) (gx_hst (as := [gx_i s2]) (b := gx_r 6 (some (1 :: x0)))) (gx_runV (as := [gx_i s2]) (ci := 5) (ct_X5_get Y (1 :: x0) s2) (by decide) (Or.inl rfl) rfl rfl rfl rfl q667 q668 q669 q105 q670 rfl dd_X5_get (by decide) (by decide) (Nat.le_of_ble_eq_true rfl) (htX7_maker (35, .invokevirtual 89, 3) (gx_m 19 rfl))) (fun v5 => ?_)
        refine gx_istore_n (pc := 38) (n := 3) (i := 3) (lv' := [(3, gx_i v5), (0, gx_r 8 (some x0)), (2, gx_i x2)]) rfl (by decide) rfl (htX7_maker (38, .istore_n 3, 1) (gx_m 20 rfl)) ?_
        refine gx_goto (pc := 39) (tgt := 7) (by decide) (htX7_maker (39, .goto (-32), 3) (gx_m 21 rfl)) ?_
        refine gx_Jw (lv := [(0, gx_r 8 (some x0)), (2, gx_i x2), (3, gx_i v5)]) [1, 2, 0] rfl ?_
        exact ha1 (v5 : Int32)
      · refine gx_Jw (lv := [(3, gx_i s2)]) [2] rfl ?_
        exact gx_Jout hb1 (hj1 (s2 : Int32) trivial)
theorem ct_X7_changes (Y : gx_Y) (x0 : gx_Nm) (x1 : Int32) : gx_Ct Y yX7_changes (ws_ yX7_changes cX7_changes 2 (some .int)) 3 142 [gx_r 8 (some x0), gx_i x1] gx_Oi (f_X7_changes x0 x1) := by
  refine gx_start (lv := [(0, gx_r 8 (some x0)), (1, gx_i x1)]) gx_Oi_r pn_X7 (Nat.le_of_ble_eq_true rfl) rfl ?_
  unfold f_X7_changes
  refine gx_aload_n (pc := 0) (n := 0) (i := 0) rfl 0 rfl (htX7_changes (0, .aload_n 0, 1) (gx_m 0 rfl)) ?_
  refine gx_Jgs (pc := 1) (ci := 7) (kk := 8) (t2 := 6) (by decide) (by decide) rfl rfl rfl q314 (htX7_changes (1, .getfield 36, 3) (gx_m 1 rfl)) ?_
  refine gx_iload_n (pc := 4) (n := 1) (i := 1) rfl 1 rfl (htX7_changes (4, .iload_n 1, 1) (gx_m 2 rfl)) ?_
  refine gx_Jci (pc := 5) (gx_hst (as := [gx_i x1]) (b := gx_r 6 (some (8 :: x0)))) (gx_runV (as := [gx_i x1]) (ci := 5) (ct_X5_get Y (8 :: x0) x1) (by decide) (Or.inl rfl) rfl rfl rfl rfl q667 q668 q669 q105 q670 rfl dd_X5_get (by decide) (by decide) (Nat.le_of_ble_eq_true rfl) (htX7_changes (5, .invokevirtual 89, 3) (gx_m 3 rfl))) (fun v1 => ?_)
  refine gx_aload_n (pc := 8) (n := 0) (i := 0) rfl 0 rfl (htX7_changes (8, .aload_n 0, 1) (gx_m 4 rfl)) ?_
  refine gx_iload_n (pc := 9) (n := 1) (i := 1) rfl 1 rfl (htX7_changes (9, .iload_n 1, 1) (gx_m 5 rfl)) ?_
  refine gx_Jci (pc := 10) (gx_hst (as := [gx_i x1]) (b := gx_r 8 (some x0))) (gx_runV (as := [gx_i x1]) (ci := 7) (ct_X7_changeFrom Y x0 x1) (by decide) (Or.inl rfl) rfl rfl rfl rfl q1304 q1306 qs21 q107 q1307 rfl dd_X7_changeFrom (by decide) (by decide) (Nat.le_of_ble_eq_true rfl) (htX7_changes (10, .invokevirtual 101, 3) (gx_m 6 rfl))) (fun v2 => ?_)
  refine gx_isub (pc := 13) (htX7_changes (13, .isub, 1) (gx_m 7 rfl)) ?_
  exact gx_Jiret (pc := 14) rfl (fun _ => trivial) (fun _ _ => rfl) (htX7_changes (14, .ireturn, 1) (gx_m 8 rfl))
theorem ct_X7_change (Y : gx_Y) (x0 : gx_Nm) (x1 : Int32) (x2 : Int32) : gx_Ct Y yX7_change (ws_ yX7_change cX7_change 3 (some (.object "CouncilStore$Pair"))) 3 142 [gx_r 8 (some x0), gx_i x1, gx_i x2] (gx_Or Y 10) (f_X7_change x0 x1 x2) := by
  refine gx_start (lv := [(0, gx_r 8 (some x0)), (1, gx_i x1), (2, gx_i x2)]) gx_Or_r pn_X7 (Nat.le_of_ble_eq_true rfl) rfl ?_
  unfold f_X7_change
  refine gx_aload_n (pc := 0) (n := 0) (i := 0) rfl 0 rfl (htX7_change (0, .aload_n 0, 1) (gx_m 0 rfl)) ?_
  refine gx_Jgs (pc := 1) (ci := 7) (kk := 9) (t2 := 9) (by decide) (by decide) rfl rfl rfl q315 (htX7_change (1, .getfield 42, 3) (gx_m 1 rfl)) ?_
  refine gx_aload_n (pc := 4) (n := 0) (i := 0) rfl 0 rfl (htX7_change (4, .aload_n 0, 1) (gx_m 2 rfl)) ?_
  refine gx_iload_n (pc := 5) (n := 1) (i := 1) rfl 1 rfl (htX7_change (5, .iload_n 1, 1) (gx_m 3 rfl)) ?_
  refine gx_Jci (pc := 6) (gx_hst (as := [gx_i x1]) (b := gx_r 8 (some x0))) (gx_runV (as := [gx_i x1]) (ci := 7) (ct_X7_changeFrom Y x0 x1) (by decide) (Or.inl rfl) rfl rfl rfl rfl q1304 q1306 qs21 q107 q1307 rfl dd_X7_changeFrom (by decide) (by decide) (Nat.le_of_ble_eq_true rfl) (htX7_change (6, .invokevirtual 101, 3) (gx_m 4 rfl))) (fun v1 => ?_)
  refine gx_iload_n (pc := 9) (n := 2) (i := 2) rfl 2 rfl (htX7_change (9, .iload_n 2, 1) (gx_m 5 rfl)) ?_
  refine gx_iadd (pc := 10) (htX7_change (10, .iadd, 1) (gx_m 6 rfl)) ?_
  refine gx_Jcr (pc := 11) (t2 := 10) (gx_hst (as := [gx_i (v1 + x2)]) (b := gx_r 9 (some (9 :: x0)))) (gx_runV (as := [gx_i (v1 + x2)]) (ci := 8) (ct_X8_get Y (9 :: x0) (v1 + x2)) (by decide) (Or.inl rfl) rfl rfl rfl rfl q1308 q1309 q1310 q108 q1311 rfl dd_X8_get (by decide) (by decide) (Nat.le_of_ble_eq_true rfl) (htX7_change (11, .invokevirtual 104, 3) (gx_m 7 rfl))) (fun v2 => ?_)
  exact gx_Jaret (pc := 14) rfl (Or.inl ⟨_, rfl⟩) (fun _ h => h) (fun _ _ => rfl) (htX7_change (14, .areturn, 1) (gx_m 8 rfl))
theorem ct_X13_compact (Y : gx_Y) (x0 : gx_Nm) (x1 : Int32) : gx_Ct Y yX13_compact (ws_ yX13_compact cX13_compact 2 none) 1 100 [gx_r 14 (some x0), gx_i x1] gx_Ov (f_X13_compact x0 x1) := by
  refine gx_start (lv := [(0, gx_r 14 (some x0)), (1, gx_i x1)]) gx_Ov_r pn_X13 (Nat.le_of_ble_eq_true rfl) rfl ?_
  unfold f_X13_compact
  refine gx_aload_n (pc := 0) (n := 0) (i := 0) rfl 0 rfl (htX13_compact (0, .aload_n 0, 1) (gx_m 0 rfl)) ?_
  refine gx_iload_n (pc := 1) (n := 1) (i := 1) rfl 1 rfl (htX13_compact (1, .iload_n 1, 1) (gx_m 1 rfl)) ?_
  refine gx_Jpi (pc := 2) (ci := 13) (kk := 14) (by decide) (Or.inl rfl) (by decide) rfl rfl q569 (Or.inl rfl) (htX13_compact (2, .putfield 142, 3) (gx_m 2 rfl)) ?_
  exact gx_Jvret (pc := 5) rfl (fun _ => trivial) (fun _ _ => rfl) (htX13_compact (5, .return_, 1) (gx_m 3 rfl))
theorem ct_X13_stateAt (Y : gx_Y) (x0 : gx_Nm) (x1 : Int32) : gx_Ct Y yX13_stateAt (ws_ yX13_stateAt cX13_stateAt 2 (some .int)) 2 121 [gx_r 14 (some x0), gx_i x1] gx_Oi (f_X13_stateAt x0 x1) := by
  refine gx_start (lv := [(0, gx_r 14 (some x0)), (1, gx_i x1)]) gx_Oi_r pn_X13 (Nat.le_of_ble_eq_true rfl) rfl ?_
  unfold f_X13_stateAt
  refine gx_iload_n (pc := 0) (n := 1) (i := 1) rfl 1 rfl (htX13_stateAt (0, .iload_n 1, 1) (gx_m 0 rfl)) ?_
  refine gx_aload_n (pc := 1) (n := 0) (i := 0) rfl 0 rfl (htX13_stateAt (1, .aload_n 0, 1) (gx_m 1 rfl)) ?_
  refine gx_Jgi (pc := 2) (ci := 13) (kk := 13) (by decide) (Or.inl rfl) (by decide) (by decide) q568 (htX13_stateAt (2, .getfield 138, 3) (gx_m 2 rfl)) (fun v1 hv1 => ?_)
  refine gx_Jjoin (pcJ := 35) (lvJ := fun (j5 : Int32) => []) (stJ := fun (j5 : Int32) => [gx_i j5]) (fun _ => True) (fun j5 hj5 => ?_) (fun kk1 hj1 => ?_)
  · exact gx_Jiret (pc := 35) rfl (fun _ => trivial) (fun _ _ => rfl) (htX13_stateAt (35, .ireturn, 1) (gx_m 19 rfl))
  · refine gx_icmp_le (pc := 5) (tgt := 34) (by decide) (htX13_stateAt (5, .if_icmp .le 29, 3) (gx_m 3 rfl)) (fun c2 => ?_) (fun c2 => ?_)
    · refine gx_iconst (pc := 34) (v := (-1)) (by decide) (htX13_stateAt (34, .iconst (-1), 1) (gx_m 18 rfl)) ?_
      refine gx_Jw (lv := []) [] rfl ?_
      exact hj1 ((-1) : Int32) trivial
    · refine gx_iload_n (pc := 8) (n := 1) (i := 1) rfl 1 rfl (htX13_stateAt (8, .iload_n 1, 1) (gx_m 4 rfl)) ?_
      refine gx_aload_n (pc := 9) (n := 0) (i := 0) rfl 0 rfl (htX13_stateAt (9, .aload_n 0, 1) (gx_m 5 rfl)) ?_
      refine gx_Jgi (pc := 10) (ci := 13) (kk := 10) (by decide) (Or.inl rfl) (by decide) (by decide) q563 (htX13_stateAt (10, .getfield 131, 3) (gx_m 6 rfl)) (fun v2 hv2 => ?_)
      refine gx_icmp_gt (pc := 13) (tgt := 34) (by decide) (htX13_stateAt (13, .if_icmp .gt 21, 3) (gx_m 7 rfl)) (fun c3 => ?_) (fun c3 => ?_)
      · refine gx_iconst (pc := 34) (v := (-1)) (by decide) (htX13_stateAt (34, .iconst (-1), 1) (gx_m 18 rfl)) ?_
        refine gx_Jw (lv := []) [] rfl ?_
        exact hj1 ((-1) : Int32) trivial
      · refine gx_aload_n (pc := 16) (n := 0) (i := 0) rfl 0 rfl (htX13_stateAt (16, .aload_n 0, 1) (gx_m 8 rfl)) ?_
        refine gx_Jgs (pc := 17) (ci := 13) (kk := 12) (t2 := 6) (by decide) (by decide) rfl rfl rfl q567 (htX13_stateAt (17, .getfield 23, 3) (gx_m 9 rfl)) ?_
        refine gx_iload_n (pc := 20) (n := 1) (i := 1) rfl 1 rfl (htX13_stateAt (20, .iload_n 1, 1) (gx_m 10 rfl)) ?_
        refine gx_aload_n (pc := 21) (n := 0) (i := 0) rfl 0 rfl (htX13_stateAt (21, .aload_n 0, 1) (gx_m 11 rfl)) ?_
        refine gx_Jgi (pc := 22) (ci := 13) (kk := 13) (by decide) (Or.inl rfl) (by decide) (by decide) q568 (htX13_stateAt (22, .getfield 138, 3) (gx_m 12 rfl)) (fun v3 hv3 => ?_)
        refine gx_isub (pc := 25) (htX13_stateAt (25, .isub, 1) (gx_m 13 rfl)) ?_
        refine gx_iconst (pc := 26) (v := 1) (by decide) (htX13_stateAt (26, .iconst 1, 1) (gx_m 14 rfl)) ?_
        refine gx_isub (pc := 27) (htX13_stateAt (27, .isub, 1) (gx_m 15 rfl)) ?_
        refine gx_Jci (pc := 28) (gx_hst (as := [gx_i ((x1 - v3) - 1)]) (b := gx_r 6 (some (12 :: x0)))) (gx_runV (as := [gx_i ((x1 - v3) - 1)]) (ci := 5) (ct_X5_get Y (12 :: x0) ((x1 - v3) - 1)) (by decide) (Or.inl rfl) rfl rfl rfl rfl q1279 q668 q669 q105 q670 rfl dd_X5_get (by decide) (by decide) (Nat.le_of_ble_eq_true rfl) (htX13_stateAt (28, .invokevirtual 286, 3) (gx_m 16 rfl))) (fun v4 => ?_)
        refine gx_goto (pc := 31) (tgt := 35) (by decide) (htX13_stateAt (31, .goto 4, 3) (gx_m 17 rfl)) ?_
        refine gx_Jw (lv := []) [] rfl ?_
        exact hj1 (v4 : Int32) trivial
theorem ct_X7_outcome (Y : gx_Y) (x0 : gx_Nm) (x1 : Int32) : gx_Ct Y yX7_outcome (ws_ yX7_outcome cX7_outcome 2 (some .int)) 2 121 [gx_r 8 (some x0), gx_i x1] gx_Oi (f_X7_outcome x0 x1) := by
  refine gx_start (lv := [(0, gx_r 8 (some x0)), (1, gx_i x1)]) gx_Oi_r pn_X7 (Nat.le_of_ble_eq_true rfl) rfl ?_
  unfold f_X7_outcome
  refine gx_aload_n (pc := 0) (n := 0) (i := 0) rfl 0 rfl (htX7_outcome (0, .aload_n 0, 1) (gx_m 0 rfl)) ?_
  refine gx_Jgs (pc := 1) (ci := 7) (kk := 4) (t2 := 6) (by decide) (by decide) rfl rfl rfl q310 (htX7_outcome (1, .getfield 24, 3) (gx_m 1 rfl)) ?_
  refine gx_iload_n (pc := 4) (n := 1) (i := 1) rfl 1 rfl (htX7_outcome (4, .iload_n 1, 1) (gx_m 2 rfl)) ?_
  refine gx_Jci (pc := 5) (gx_hst (as := [gx_i x1]) (b := gx_r 6 (some (4 :: x0)))) (gx_runV (as := [gx_i x1]) (ci := 5) (ct_X5_get Y (4 :: x0) x1) (by decide) (Or.inl rfl) rfl rfl rfl rfl q667 q668 q669 q105 q670 rfl dd_X5_get (by decide) (by decide) (Nat.le_of_ble_eq_true rfl) (htX7_outcome (5, .invokevirtual 89, 3) (gx_m 3 rfl))) (fun v1 => ?_)
  exact gx_Jiret (pc := 8) rfl (fun _ => trivial) (fun _ _ => rfl) (htX7_outcome (8, .ireturn, 1) (gx_m 4 rfl))
theorem ct_X7_deleted (Y : gx_Y) (x0 : gx_Nm) (x1 : Int32) : gx_Ct Y yX7_deleted (ws_ yX7_deleted cX7_deleted 2 (some .int)) 2 121 [gx_r 8 (some x0), gx_i x1] gx_Oi (f_X7_deleted x0 x1) := by
  refine gx_start (lv := [(0, gx_r 8 (some x0)), (1, gx_i x1)]) gx_Oi_r pn_X7 (Nat.le_of_ble_eq_true rfl) rfl ?_
  unfold f_X7_deleted
  refine gx_aload_n (pc := 0) (n := 0) (i := 0) rfl 0 rfl (htX7_deleted (0, .aload_n 0, 1) (gx_m 0 rfl)) ?_
  refine gx_Jgs (pc := 1) (ci := 7) (kk := 5) (t2 := 6) (by decide) (by decide) rfl rfl rfl q311 (htX7_deleted (1, .getfield 27, 3) (gx_m 1 rfl)) ?_
  refine gx_iload_n (pc := 4) (n := 1) (i := 1) rfl 1 rfl (htX7_deleted (4, .iload_n 1, 1) (gx_m 2 rfl)) ?_
  refine gx_Jci (pc := 5) (gx_hst (as := [gx_i x1]) (b := gx_r 6 (some (5 :: x0)))) (gx_runV (as := [gx_i x1]) (ci := 5) (ct_X5_get Y (5 :: x0) x1) (by decide) (Or.inl rfl) rfl rfl rfl rfl q667 q668 q669 q105 q670 rfl dd_X5_get (by decide) (by decide) (Nat.le_of_ble_eq_true rfl) (htX7_deleted (5, .invokevirtual 89, 3) (gx_m 3 rfl))) (fun v1 => ?_)
  exact gx_Jiret (pc := 8) rfl (fun _ => trivial) (fun _ _ => rfl) (htX7_deleted (8, .ireturn, 1) (gx_m 4 rfl))
theorem ct_X13_waiting (Y : gx_Y) (x0 : gx_Nm) : gx_Ct Y yX13_waiting (ws_ yX13_waiting cX13_waiting 1 (some .int)) 1 100 [gx_r 14 (some x0)] gx_Oi (f_X13_waiting x0) := by
  refine gx_start (lv := [(0, gx_r 14 (some x0))]) gx_Oi_r pn_X13 (Nat.le_of_ble_eq_true rfl) rfl ?_
  unfold f_X13_waiting
  refine gx_aload_n (pc := 0) (n := 0) (i := 0) rfl 0 rfl (htX13_waiting (0, .aload_n 0, 1) (gx_m 0 rfl)) ?_
  refine gx_Jgs (pc := 1) (ci := 13) (kk := 6) (t2 := 12) (by decide) (by decide) rfl rfl rfl q556 (htX13_waiting (1, .getfield 12, 3) (gx_m 1 rfl)) ?_
  refine gx_Jgi (pc := 4) (ci := 11) (kk := 1) (by decide) (Or.inl rfl) (by decide) (by decide) q380 (htX13_waiting (4, .getfield 76, 3) (gx_m 2 rfl)) (fun v1 hv1 => ?_)
  exact gx_Jiret (pc := 7) rfl (fun _ => trivial) (fun _ _ => rfl) (htX13_waiting (7, .ireturn, 1) (gx_m 3 rfl))
theorem ct_X7_count (Y : gx_Y) (x0 : gx_Nm) (x1 : Int32) : gx_Ct Y yX7_count (ws_ yX7_count cX7_count 2 (some .int)) 2 121 [gx_r 8 (some x0), gx_i x1] gx_Oi (f_X7_count x0 x1) := by
  refine gx_start (lv := [(0, gx_r 8 (some x0)), (1, gx_i x1)]) gx_Oi_r pn_X7 (Nat.le_of_ble_eq_true rfl) rfl ?_
  unfold f_X7_count
  refine gx_aload_n (pc := 0) (n := 0) (i := 0) rfl 0 rfl (htX7_count (0, .aload_n 0, 1) (gx_m 0 rfl)) ?_
  refine gx_Jgs (pc := 1) (ci := 7) (kk := 6) (t2 := 6) (by decide) (by decide) rfl rfl rfl q312 (htX7_count (1, .getfield 30, 3) (gx_m 1 rfl)) ?_
  refine gx_iload_n (pc := 4) (n := 1) (i := 1) rfl 1 rfl (htX7_count (4, .iload_n 1, 1) (gx_m 2 rfl)) ?_
  refine gx_Jci (pc := 5) (gx_hst (as := [gx_i x1]) (b := gx_r 6 (some (6 :: x0)))) (gx_runV (as := [gx_i x1]) (ci := 5) (ct_X5_get Y (6 :: x0) x1) (by decide) (Or.inl rfl) rfl rfl rfl rfl q667 q668 q669 q105 q670 rfl dd_X5_get (by decide) (by decide) (Nat.le_of_ble_eq_true rfl) (htX7_count (5, .invokevirtual 89, 3) (gx_m 3 rfl))) (fun v1 => ?_)
  exact gx_Jiret (pc := 8) rfl (fun _ => trivial) (fun _ _ => rfl) (htX7_count (8, .ireturn, 1) (gx_m 4 rfl))
theorem ct_X7_leases (Y : gx_Y) (x0 : gx_Nm) (x1 : Int32) : gx_Ct Y yX7_leases (ws_ yX7_leases cX7_leases 5 (some .int)) 2 121 [gx_r 8 (some x0), gx_i x1] gx_Oi (f_X7_leases x0 x1) := by
  refine gx_start (lv := [(0, gx_r 8 (some x0)), (1, gx_i x1)]) gx_Oi_r pn_X7 (Nat.le_of_ble_eq_true rfl) rfl ?_
  unfold f_X7_leases
  refine gx_iconst (pc := 0) (v := 0) (by decide) (htX7_leases (0, .iconst 0, 1) (gx_m 0 rfl)) ?_
  refine gx_istore_n (pc := 1) (n := 2) (i := 2) (lv' := [(2, gx_i 0), (0, gx_r 8 (some x0)), (1, gx_i x1)]) rfl (by decide) rfl (htX7_leases (1, .istore_n 2, 1) (gx_m 1 rfl)) ?_
  refine gx_iconst (pc := 2) (v := 0) (by decide) (htX7_leases (2, .iconst 0, 1) (gx_m 2 rfl)) ?_
  refine gx_istore_n (pc := 3) (n := 3) (i := 3) (lv' := [(3, gx_i 0), (2, gx_i 0), (0, gx_r 8 (some x0)), (1, gx_i x1)]) rfl (by decide) rfl (htX7_leases (3, .istore_n 3, 1) (gx_m 3 rfl)) ?_
  refine gx_Jjoin (pcJ := 49) (lvJ := fun (j5 : Int32) => [(2, gx_i j5)]) (stJ := fun (j5 : Int32) => []) (fun _ => True) (fun j5 _ => ?_) (fun kk1 hj1 => ?_)
  · refine gx_iload_n (pc := 49) (n := 2) (i := 2) rfl 0 rfl (htX7_leases (49, .iload_n 2, 1) (gx_m 28 rfl)) ?_
    exact gx_Jiret (pc := 50) rfl (fun _ => trivial) (fun _ _ => rfl) (htX7_leases (50, .ireturn, 1) (gx_m 29 rfl))
  · refine gx_Jw (lv := [(0, gx_r 8 (some x0)), (1, gx_i x1), (2, gx_i 0), (3, gx_i 0)]) [2, 3, 1, 0] rfl ?_
    refine gx_Jlp (pc := 4) (lvh := fun (s1 : Int32 × Int32) => [(0, gx_r 8 (some x0)), (1, gx_i x1), (2, gx_i s1.1), (3, gx_i s1.2)]) (fun s1 kl1 ha1 hb1 => ?_) _
    unfold lb_X7_leases_2
    refine gx_iload_n (pc := 4) (n := 3) (i := 3) rfl 3 rfl (htX7_leases (4, .iload_n 3, 1) (gx_m 4 rfl)) ?_
    refine gx_iconst (pc := 5) (v := 4) (by decide) (htX7_leases (5, .iconst 4, 1) (gx_m 5 rfl)) ?_
    refine gx_icmp_ge (pc := 6) (tgt := 49) (by decide) (htX7_leases (6, .if_icmp .ge 43, 3) (gx_m 6 rfl)) (fun c2 => ?_) (fun c2 => ?_)
    · refine gx_Jw (lv := [(2, gx_i s1.1)]) [2] rfl ?_
      exact gx_Jout hb1 (hj1 (s1.1 : Int32) trivial)
    · refine gx_aload_n (pc := 9) (n := 0) (i := 0) rfl 0 rfl (htX7_leases (9, .aload_n 0, 1) (gx_m 7 rfl)) ?_
      refine gx_Jgs (pc := 10) (ci := 7) (kk := 7) (t2 := 6) (by decide) (by decide) rfl rfl rfl q313 (htX7_leases (10, .getfield 33, 3) (gx_m 8 rfl)) ?_
      refine gx_iconst (pc := 13) (v := 4) (by decide) (htX7_leases (13, .iconst 4, 1) (gx_m 9 rfl)) ?_
      refine gx_iload_n (pc := 14) (n := 1) (i := 1) rfl 1 rfl (htX7_leases (14, .iload_n 1, 1) (gx_m 10 rfl)) ?_
      refine gx_imul (pc := 15) (htX7_leases (15, .imul, 1) (gx_m 11 rfl)) ?_
      refine gx_iload_n (pc := 16) (n := 3) (i := 3) rfl 3 rfl (htX7_leases (16, .iload_n 3, 1) (gx_m 12 rfl)) ?_
      refine gx_iadd (pc := 17) (htX7_leases (17, .iadd, 1) (gx_m 13 rfl)) ?_
      refine gx_Jci (pc := 18) (gx_hst (as := [gx_i ((4 * x1) + s1.2)]) (b := gx_r 6 (some (7 :: x0)))) (gx_runV (as := [gx_i ((4 * x1) + s1.2)]) (ci := 5) (ct_X5_get Y (7 :: x0) ((4 * x1) + s1.2)) (by decide) (Or.inl rfl) rfl rfl rfl rfl q667 q668 q669 q105 q670 rfl dd_X5_get (by decide) (by decide) (Nat.le_of_ble_eq_true rfl) (htX7_leases (18, .invokevirtual 89, 3) (gx_m 14 rfl))) (fun v2 => ?_)
      refine gx_istore (pc := 21) (i := 4) (lv' := [(4, gx_i v2), (0, gx_r 8 (some x0)), (1, gx_i x1), (2, gx_i s1.1), (3, gx_i s1.2)]) (by decide) rfl (htX7_leases (21, .istore 4, 2) (gx_m 15 rfl)) ?_
      refine gx_Jjoin (pcJ := 43) (lvJ := fun (j4 : Int32) => [(0, gx_r 8 (some x0)), (1, gx_i x1), (2, gx_i j4), (3, gx_i s1.2)]) (stJ := fun (j4 : Int32) => []) (fun _ => True) (fun j4 _ => ?_) (fun kk3 hj3 => ?_)
      · refine gx_iinc (pc := 43) (i := 3) (j := 3) (v := (s1.2 + 1)) (lv' := [(3, gx_i (s1.2 + 1)), (0, gx_r 8 (some x0)), (1, gx_i x1), (2, gx_i j4)]) rfl (gx_iv (by decide)) (by decide) rfl (htX7_leases (43, .iinc 3 1, 3) (gx_m 26 rfl)) ?_
        refine gx_goto (pc := 46) (tgt := 4) (by decide) (htX7_leases (46, .goto (-42), 3) (gx_m 27 rfl)) ?_
        refine gx_Jw (lv := [(0, gx_r 8 (some x0)), (1, gx_i x1), (2, gx_i j4), (3, gx_i (s1.2 + 1))]) [1, 2, 3, 0] rfl ?_
        exact ha1 ((j4 : Int32), ((s1.2 + 1) : Int32))
      · refine gx_Jw (lv := [(0, gx_r 8 (some x0)), (1, gx_i x1), (2, gx_i s1.1), (3, gx_i s1.2), (4, gx_i v2)]) [1, 2, 3, 4, 0] rfl ?_
        refine gx_Jlp (pc := 23) (lvh := fun (s3 : Int32 × Int32) => [(0, gx_r 8 (some x0)), (1, gx_i x1), (2, gx_i s3.1), (3, gx_i s1.2), (4, gx_i s3.2)]) (fun s3 kl3 ha3 hb3 => ?_) _
        unfold lb_X7_leases_1
        refine gx_iload (pc := 23) (i := 4) 4 rfl (htX7_leases (23, .iload 4, 2) (gx_m 16 rfl)) ?_
        refine gx_if_eq (pc := 25) (y := 0) (tgt := 43) (by decide) (htX7_leases (25, .ifCond .eq 18, 3) (gx_m 17 rfl)) (fun c4 => ?_) (fun c4 => ?_)
        · refine gx_Jw (lv := [(0, gx_r 8 (some x0)), (1, gx_i x1), (2, gx_i s3.1), (3, gx_i s1.2)]) [0, 1, 2, 3] rfl ?_
          exact gx_Jout hb3 (hj3 (s3.1 : Int32) trivial)
        · refine gx_iinc (pc := 28) (i := 2) (j := 2) (v := (s3.1 + 1)) (lv' := [(2, gx_i (s3.1 + 1)), (0, gx_r 8 (some x0)), (1, gx_i x1), (3, gx_i s1.2), (4, gx_i s3.2)]) rfl (gx_iv (by decide)) (by decide) rfl (htX7_leases (28, .iinc 2 1, 3) (gx_m 18 rfl)) ?_
          refine gx_iload (pc := 31) (i := 4) 4 rfl (htX7_leases (31, .iload 4, 2) (gx_m 19 rfl)) ?_
          refine gx_iload (pc := 33) (i := 4) 4 rfl (htX7_leases (33, .iload 4, 2) (gx_m 20 rfl)) ?_
          refine gx_iconst (pc := 35) (v := 1) (by decide) (htX7_leases (35, .iconst 1, 1) (gx_m 21 rfl)) ?_
          refine gx_isub (pc := 36) (htX7_leases (36, .isub, 1) (gx_m 22 rfl)) ?_
          refine gx_iand (pc := 37) (htX7_leases (37, .iand, 1) (gx_m 23 rfl)) ?_
          refine gx_istore (pc := 38) (i := 4) (lv' := [(4, gx_i (s3.2 &&& (s3.2 - 1))), (2, gx_i (s3.1 + 1)), (0, gx_r 8 (some x0)), (1, gx_i x1), (3, gx_i s1.2)]) (by decide) rfl (htX7_leases (38, .istore 4, 2) (gx_m 24 rfl)) ?_
          refine gx_goto (pc := 40) (tgt := 23) (by decide) (htX7_leases (40, .goto (-17), 3) (gx_m 25 rfl)) ?_
          refine gx_Jw (lv := [(0, gx_r 8 (some x0)), (1, gx_i x1), (2, gx_i (s3.1 + 1)), (3, gx_i s1.2), (4, gx_i (s3.2 &&& (s3.2 - 1)))]) [2, 3, 1, 4, 0] rfl ?_
          exact ha3 (((s3.1 + 1) : Int32), ((s3.2 &&& (s3.2 - 1)) : Int32))
theorem ct_X1_more (Y : gx_Y) (x0 : gx_Nm) (x1 : gx_Nm) (x2 : Int32) : gx_Ct Y yX1_more (ws_ yX1_more cX1_more 3 (some .int)) 3 145 [gx_r 2 (some x0), gx_r 14 (some x1), gx_i x2] gx_Oi (f_X1_more x0 x1 x2) := by
  refine gx_start (lv := [(0, gx_r 2 (some x0)), (1, gx_r 14 (some x1)), (2, gx_i x2)]) gx_Oi_r pn_X1 (Nat.le_of_ble_eq_true rfl) rfl ?_
  unfold f_X1_more
  refine gx_iload_n (pc := 0) (n := 2) (i := 2) rfl 2 rfl (htX1_more (0, .iload_n 2, 1) (gx_m 0 rfl)) ?_
  refine gx_Jite (fun c1 => ?_) (fun c1 => ?_)
  · refine gx_Jtab (pc := 1) (tgt := 56) (htX1_more (1, .tableswitch 113 3 12 #[55, 113, 113, 60, 113, 65, 80, 85, 93, 108], 55) (gx_m 1 rfl)) (by decide) (gx_tD c1 (by decide)) (gx_tI c1 (by decide)) ?_
    refine gx_aload_n (pc := 56) (n := 1) (i := 1) rfl 1 rfl (htX1_more (56, .aload_n 1, 1) (gx_m 2 rfl)) ?_
    refine gx_Jgi (pc := 57) (ci := 13) (kk := 8) (by decide) (Or.inl rfl) (by decide) (by decide) q560 (htX1_more (57, .getfield 151, 3) (gx_m 3 rfl)) (fun v1 hv1 => ?_)
    exact gx_Jiret (pc := 60) rfl (fun _ => trivial) (fun _ _ => rfl) (htX1_more (60, .ireturn, 1) (gx_m 4 rfl))
  · refine gx_Jite (fun c2 => ?_) (fun c2 => ?_)
    · refine gx_Jtab (pc := 1) (tgt := 61) (htX1_more (1, .tableswitch 113 3 12 #[55, 113, 113, 60, 113, 65, 80, 85, 93, 108], 55) (gx_m 1 rfl)) (by decide) (gx_tD c2 (by decide)) (gx_tI c2 (by decide)) ?_
      refine gx_aload_n (pc := 61) (n := 1) (i := 1) rfl 1 rfl (htX1_more (61, .aload_n 1, 1) (gx_m 5 rfl)) ?_
      refine gx_Jgi (pc := 62) (ci := 13) (kk := 10) (by decide) (Or.inl rfl) (by decide) (by decide) q564 (htX1_more (62, .getfield 233, 3) (gx_m 6 rfl)) (fun v2 hv2 => ?_)
      exact gx_Jiret (pc := 65) rfl (fun _ => trivial) (fun _ _ => rfl) (htX1_more (65, .ireturn, 1) (gx_m 7 rfl))
    · refine gx_Jite (fun c3 => ?_) (fun c3 => ?_)
      · refine gx_Jtab (pc := 1) (tgt := 66) (htX1_more (1, .tableswitch 113 3 12 #[55, 113, 113, 60, 113, 65, 80, 85, 93, 108], 55) (gx_m 1 rfl)) (by decide) (gx_tD c3 (by decide)) (gx_tI c3 (by decide)) ?_
        refine gx_aload_n (pc := 66) (n := 0) (i := 0) rfl 0 rfl (htX1_more (66, .aload_n 0, 1) (gx_m 8 rfl)) ?_
        refine gx_Jgs (pc := 67) (ci := 1) (kk := 0) (t2 := 3) (by decide) (by decide) rfl rfl rfl q697 (htX1_more (67, .getfield 22, 3) (gx_m 9 rfl)) ?_
        refine gx_Jgs (pc := 70) (ci := 2) (kk := 2) (t2 := 8) (by decide) (by decide) rfl rfl rfl q408 (htX1_more (70, .getfield 267, 3) (gx_m 10 rfl)) ?_
        refine gx_aload_n (pc := 73) (n := 1) (i := 1) rfl 1 rfl (htX1_more (73, .aload_n 1, 1) (gx_m 11 rfl)) ?_
        refine gx_Jgi (pc := 74) (ci := 13) (kk := 11) (by decide) (Or.inl rfl) (by decide) (by decide) q566 (htX1_more (74, .getfield 271, 3) (gx_m 12 rfl)) (fun v3 hv3 => ?_)
        refine gx_Jci (pc := 77) (gx_hst (as := [gx_i v3]) (b := gx_r 8 (some (2 :: 0 :: x0)))) (gx_runV (as := [gx_i v3]) (ci := 7) (ct_X7_revision Y (2 :: 0 :: x0) v3) (by decide) (Or.inl rfl) rfl rfl rfl rfl q1553 q1457 q1458 q107 q1459 rfl dd_X7_revision (by decide) (by decide) (Nat.le_of_ble_eq_true rfl) (htX1_more (77, .invokevirtual 274, 3) (gx_m 13 rfl))) (fun v4 => ?_)
        exact gx_Jiret (pc := 80) rfl (fun _ => trivial) (fun _ _ => rfl) (htX1_more (80, .ireturn, 1) (gx_m 14 rfl))
      · refine gx_Jite (fun c4 => ?_) (fun c4 => ?_)
        · refine gx_Jtab (pc := 1) (tgt := 81) (htX1_more (1, .tableswitch 113 3 12 #[55, 113, 113, 60, 113, 65, 80, 85, 93, 108], 55) (gx_m 1 rfl)) (by decide) (gx_tD c4 (by decide)) (gx_tI c4 (by decide)) ?_
          refine gx_aload_n (pc := 81) (n := 1) (i := 1) rfl 1 rfl (htX1_more (81, .aload_n 1, 1) (gx_m 15 rfl)) ?_
          refine gx_Jci (pc := 82) (gx_hst (as := []) (b := gx_r 14 (some x1))) (gx_runV (as := []) (ci := 13) (ct_X13_waiting Y x1) (by decide) (Or.inl rfl) rfl rfl rfl rfl q1647 q1648 q1649 q113 q1650 rfl dd_X13_waiting (by decide) (by decide) (Nat.le_of_ble_eq_true rfl) (htX1_more (82, .invokevirtual 397, 3) (gx_m 16 rfl))) (fun v5 => ?_)
          exact gx_Jiret (pc := 85) rfl (fun _ => trivial) (fun _ _ => rfl) (htX1_more (85, .ireturn, 1) (gx_m 17 rfl))
        · refine gx_Jite (fun c5 => ?_) (fun c5 => ?_)
          · refine gx_Jtab (pc := 1) (tgt := 86) (htX1_more (1, .tableswitch 113 3 12 #[55, 113, 113, 60, 113, 65, 80, 85, 93, 108], 55) (gx_m 1 rfl)) (by decide) (gx_tD c5 (by decide)) (gx_tI c5 (by decide)) ?_
            refine gx_aload_n (pc := 86) (n := 1) (i := 1) rfl 1 rfl (htX1_more (86, .aload_n 1, 1) (gx_m 18 rfl)) ?_
            refine gx_Jgs (pc := 87) (ci := 13) (kk := 2) (t2 := 15) (by decide) (by decide) rfl rfl rfl q549 (htX1_more (87, .getfield 182, 3) (gx_m 19 rfl)) ?_
            refine gx_Jci (pc := 90) (gx_hst (as := []) (b := gx_r 15 (some (2 :: x1)))) (gx_runV (as := []) (ci := 14) (ct_X14_unsynced Y (2 :: x1)) (by decide) (Or.inl rfl) rfl rfl rfl rfl q1377 q1164 q1165 q114 q1166 rfl dd_X14_unsynced (by decide) (by decide) (Nat.le_of_ble_eq_true rfl) (htX1_more (90, .invokevirtual 186, 3) (gx_m 20 rfl))) (fun v6 => ?_)
            exact gx_Jiret (pc := 93) rfl (fun _ => trivial) (fun _ _ => rfl) (htX1_more (93, .ireturn, 1) (gx_m 21 rfl))
          · refine gx_Jite (fun c6 => ?_) (fun c6 => ?_)
            · refine gx_Jtab (pc := 1) (tgt := 94) (htX1_more (1, .tableswitch 113 3 12 #[55, 113, 113, 60, 113, 65, 80, 85, 93, 108], 55) (gx_m 1 rfl)) (by decide) (gx_tD c6 (by decide)) (gx_tI c6 (by decide)) ?_
              refine gx_aload_n (pc := 94) (n := 0) (i := 0) rfl 0 rfl (htX1_more (94, .aload_n 0, 1) (gx_m 22 rfl)) ?_
              refine gx_Jgs (pc := 95) (ci := 1) (kk := 0) (t2 := 3) (by decide) (by decide) rfl rfl rfl q697 (htX1_more (95, .getfield 22, 3) (gx_m 23 rfl)) ?_
              refine gx_Jgs (pc := 98) (ci := 2) (kk := 2) (t2 := 8) (by decide) (by decide) rfl rfl rfl q408 (htX1_more (98, .getfield 267, 3) (gx_m 24 rfl)) ?_
              refine gx_aload_n (pc := 101) (n := 1) (i := 1) rfl 1 rfl (htX1_more (101, .aload_n 1, 1) (gx_m 25 rfl)) ?_
              refine gx_Jgi (pc := 102) (ci := 13) (kk := 11) (by decide) (Or.inl rfl) (by decide) (by decide) q566 (htX1_more (102, .getfield 271, 3) (gx_m 26 rfl)) (fun v7 hv7 => ?_)
              refine gx_Jci (pc := 105) (gx_hst (as := [gx_i v7]) (b := gx_r 8 (some (2 :: 0 :: x0)))) (gx_runV (as := [gx_i v7]) (ci := 7) (ct_X7_count Y (2 :: 0 :: x0) v7) (by decide) (Or.inl rfl) rfl rfl rfl rfl q1651 q1652 q1653 q107 q1654 rfl dd_X7_count (by decide) (by decide) (Nat.le_of_ble_eq_true rfl) (htX1_more (105, .invokevirtual 400, 3) (gx_m 27 rfl))) (fun v8 => ?_)
              exact gx_Jiret (pc := 108) rfl (fun _ => trivial) (fun _ _ => rfl) (htX1_more (108, .ireturn, 1) (gx_m 28 rfl))
            · refine gx_Jite (fun c7 => ?_) (fun c7 => ?_)
              · refine gx_Jtab (pc := 1) (tgt := 109) (htX1_more (1, .tableswitch 113 3 12 #[55, 113, 113, 60, 113, 65, 80, 85, 93, 108], 55) (gx_m 1 rfl)) (by decide) (gx_tD c7 (by decide)) (gx_tI c7 (by decide)) ?_
                refine gx_aload_n (pc := 109) (n := 1) (i := 1) rfl 1 rfl (htX1_more (109, .aload_n 1, 1) (gx_m 29 rfl)) ?_
                refine gx_Jci (pc := 110) (gx_hst (as := []) (b := gx_r 14 (some x1))) (gx_runV (as := []) (ci := 13) (ct_X13_readsWaiting Y x1) (by decide) (Or.inl rfl) rfl rfl rfl rfl q1655 q1495 q1496 q113 q1497 rfl dd_X13_readsWaiting (by decide) (by decide) (Nat.le_of_ble_eq_true rfl) (htX1_more (110, .invokevirtual 403, 3) (gx_m 30 rfl))) (fun v9 => ?_)
                exact gx_Jiret (pc := 113) rfl (fun _ => trivial) (fun _ _ => rfl) (htX1_more (113, .ireturn, 1) (gx_m 31 rfl))
              · refine gx_Jtab (pc := 1) (tgt := 114) (htX1_more (1, .tableswitch 113 3 12 #[55, 113, 113, 60, 113, 65, 80, 85, 93, 108], 55) (gx_m 1 rfl)) (by decide) (fun _ => by decide) (gx_tN (ks := [3, 6, 8, 9, 10, 11, 12]) (by simp only [List.mem_cons, List.not_mem_nil, or_false, not_or]; exact ⟨c1, c2, c3, c4, c5, c6, c7⟩) (by decide)) ?_
                refine gx_aload_n (pc := 114) (n := 0) (i := 0) rfl 0 rfl (htX1_more (114, .aload_n 0, 1) (gx_m 32 rfl)) ?_
                refine gx_Jgs (pc := 115) (ci := 1) (kk := 0) (t2 := 3) (by decide) (by decide) rfl rfl rfl q697 (htX1_more (115, .getfield 22, 3) (gx_m 33 rfl)) ?_
                refine gx_Jgs (pc := 118) (ci := 2) (kk := 2) (t2 := 8) (by decide) (by decide) rfl rfl rfl q408 (htX1_more (118, .getfield 267, 3) (gx_m 34 rfl)) ?_
                refine gx_aload_n (pc := 121) (n := 1) (i := 1) rfl 1 rfl (htX1_more (121, .aload_n 1, 1) (gx_m 35 rfl)) ?_
                refine gx_Jgi (pc := 122) (ci := 13) (kk := 11) (by decide) (Or.inl rfl) (by decide) (by decide) q566 (htX1_more (122, .getfield 271, 3) (gx_m 36 rfl)) (fun v10 hv10 => ?_)
                refine gx_Jci (pc := 125) (gx_hst (as := [gx_i v10]) (b := gx_r 8 (some (2 :: 0 :: x0)))) (gx_runV (as := [gx_i v10]) (ci := 7) (ct_X7_leases Y (2 :: 0 :: x0) v10) (by decide) (Or.inl rfl) rfl rfl rfl rfl q1656 q1657 q1658 q107 q1659 rfl dd_X7_leases (by decide) (by decide) (Nat.le_of_ble_eq_true rfl) (htX1_more (125, .invokevirtual 406, 3) (gx_m 37 rfl))) (fun v11 => ?_)
                exact gx_Jiret (pc := 128) rfl (fun _ => trivial) (fun _ _ => rfl) (htX1_more (128, .ireturn, 1) (gx_m 38 rfl))
