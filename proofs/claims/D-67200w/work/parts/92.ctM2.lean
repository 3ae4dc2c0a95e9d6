/-! ===== the machine does what f_y says (printed by gen/pprint.py) ===== -/
set_option maxRecDepth 100000
set_option maxHeartbeats 4000000
theorem ct_X16_asked (Y : gx_Y) (x0 : gx_Nm) (x1 : Int32) (x2 : Int32) : gx_Ct Y yX16_asked (ws_ yX16_asked cX16_asked 6 none) 3 148 [gx_r 17 (some x0), gx_i x1, gx_i x2] gx_Ov (f_X16_asked x0 x1 x2) := by
  refine gx_start (lv := [(0, gx_r 17 (some x0)), (1, gx_i x1), (2, gx_i x2)]) gx_Ov_r pn_X16 (Nat.le_of_ble_eq_true rfl) rfl ?_
  unfold f_X16_asked
  refine gx_aload_n (pc := 0) (n := 0) (i := 0) rfl 0 rfl (htX16_asked_0 (0, .aload_n 0, 1) (gx_m 0 rfl)) ?_
  refine gx_Jgs (pc := 1) (ci := 16) (kk := 69) (t2 := 100) (by decide) (by decide) rfl rfl rfl q1743 (htX16_asked_0 (1, .getfield 196, 3) (gx_m 1 rfl)) ?_
  refine gx_iload_n (pc := 4) (n := 2) (i := 2) rfl 2 rfl (htX16_asked_0 (4, .iload_n 2, 1) (gx_m 2 rfl)) ?_
  refine gx_Jia (pc := 5) (htX16_asked_0 (5, .iaload, 1) (gx_m 3 rfl)) (fun v1 => ?_)
  refine gx_aload_n (pc := 6) (n := 0) (i := 0) rfl 0 rfl (htX16_asked_0 (6, .aload_n 0, 1) (gx_m 4 rfl)) ?_
  refine gx_iload_n (pc := 7) (n := 1) (i := 1) rfl 1 rfl (htX16_asked_0 (7, .iload_n 1, 1) (gx_m 5 rfl)) ?_
  refine gx_aload_n (pc := 8) (n := 0) (i := 0) rfl 0 rfl (htX16_asked_0 (8, .aload_n 0, 1) (gx_m 6 rfl)) ?_
  refine gx_Jgs (pc := 9) (ci := 16) (kk := 36) (t2 := 100) (by decide) (by decide) rfl rfl rfl q1710 (htX16_asked_0 (9, .getfield 95, 3) (gx_m 7 rfl)) ?_
  refine gx_iload_n (pc := 12) (n := 1) (i := 1) rfl 1 rfl (htX16_asked_0 (12, .iload_n 1, 1) (gx_m 8 rfl)) ?_
  refine gx_Jia (pc := 13) (htX16_asked_0 (13, .iaload, 1) (gx_m 9 rfl)) (fun v2 => ?_)
  refine gx_Jci (pc := 14) (gx_hst (as := [gx_i x1, gx_i v2]) (b := gx_r 17 (some x0))) (gx_runV (as := [gx_i x1, gx_i v2]) (ci := 16) (ct_X16_termAt Y x0 x1 v2) (by decide) (Or.inl rfl) rfl rfl rfl rfl q2150 q2152 qs60 q117 q2153 rfl dd_X16_termAt (by decide) (by decide) (Nat.le_of_ble_eq_true rfl) (htX16_asked_0 (14, .invokevirtual 461, 3) (gx_m 10 rfl))) (fun v3 => ?_)
  refine gx_Jjoin (pcJ := 60) (lvJ := fun (j9 : Int32) => [(0, gx_r 17 (some x0)), (1, gx_i x1), (2, gx_i x2)]) (stJ := fun (j9 : Int32) => [gx_i j9]) (fun (j9 : Int32) => j9 &&& 1 = j9) (fun j9 hj9 => ?_) (fun kk1 hj1 => ?_)
  · refine gx_istore_n (pc := 60) (n := 3) (i := 3) (lv' := [(3, gx_i j9), (0, gx_r 17 (some x0)), (1, gx_i x1), (2, gx_i x2)]) rfl (by decide) rfl (htX16_asked_0 (60, .istore_n 3, 1) (gx_m 36 rfl)) ?_
    refine gx_aload_n (pc := 61) (n := 0) (i := 0) rfl 1 rfl (htX16_asked_0 (61, .aload_n 0, 1) (gx_m 37 rfl)) ?_
    refine gx_Jgs (pc := 62) (ci := 16) (kk := 67) (t2 := 100) (by decide) (by decide) rfl rfl rfl q1741 (htX16_asked_0 (62, .getfield 190, 3) (gx_m 38 rfl)) ?_
    refine gx_iload_n (pc := 65) (n := 2) (i := 2) rfl 3 rfl (htX16_asked_0 (65, .iload_n 2, 1) (gx_m 39 rfl)) ?_
    refine gx_Jia (pc := 66) (htX16_asked_0 (66, .iaload, 1) (gx_m 40 rfl)) (fun v10 => ?_)
    refine gx_aload_n (pc := 67) (n := 0) (i := 0) rfl 1 rfl (htX16_asked_0 (67, .aload_n 0, 1) (gx_m 41 rfl)) ?_
    refine gx_Jgs (pc := 68) (ci := 16) (kk := 31) (t2 := 100) (by decide) (by decide) rfl rfl rfl q1705 (htX16_asked_0 (68, .getfield 80, 3) (gx_m 42 rfl)) ?_
    refine gx_iload_n (pc := 71) (n := 1) (i := 1) rfl 2 rfl (htX16_asked_0 (71, .iload_n 1, 1) (gx_m 43 rfl)) ?_
    refine gx_Jia (pc := 72) (htX16_asked_0 (72, .iaload, 1) (gx_m 44 rfl)) (fun v11 => ?_)
    refine gx_Jjoin (pcJ := 110) (lvJ := fun (j15 : Int32) => [(0, gx_r 17 (some x0)), (1, gx_i x1), (2, gx_i x2)]) (stJ := fun (j15 : Int32) => [gx_i j15]) (fun (j15 : Int32) => j15 &&& 1 = j15) (fun j15 hj15 => ?_) (fun kk2 hj2 => ?_)
    · refine gx_istore (pc := 110) (i := 4) (lv' := [(4, gx_i j15), (0, gx_r 17 (some x0)), (1, gx_i x1), (2, gx_i x2)]) (by decide) rfl (htX16_asked_0 (110, .istore 4, 2) (gx_m 66 rfl)) ?_
      refine gx_iload (pc := 112) (i := 4) 0 rfl (htX16_asked_0 (112, .iload 4, 2) (gx_m 67 rfl)) ?_
      refine gx_Jjoin (pcJ := 144) (lvJ := fun (j_3 : Unit) => [(0, gx_r 17 (some x0)), (1, gx_i x1), (2, gx_i x2), (4, gx_i j15)]) (stJ := fun (j_3 : Unit) => []) (fun _ => True) (fun j_3 hj_3 => ?_) (fun kk3 hj3 => ?_)
      · refine gx_aload_n (pc := 144) (n := 0) (i := 0) rfl 0 rfl (htX16_asked_0 (144, .aload_n 0, 1) (gx_m 86 rfl)) ?_
        refine gx_iconst (pc := 145) (v := 2) (by decide) (htX16_asked_0 (145, .iconst 2, 1) (gx_m 87 rfl)) ?_
        refine gx_iload_n (pc := 146) (n := 1) (i := 1) rfl 1 rfl (htX16_asked_0 (146, .iload_n 1, 1) (gx_m 88 rfl)) ?_
        refine gx_aload_n (pc := 147) (n := 0) (i := 0) rfl 0 rfl (htX16_asked_0 (147, .aload_n 0, 1) (gx_m 89 rfl)) ?_
        refine gx_Jgs (pc := 148) (ci := 16) (kk := 65) (t2 := 100) (by decide) (by decide) rfl rfl rfl q1739 (htX16_asked_0 (148, .getfield 184, 3) (gx_m 90 rfl)) ?_
        refine gx_iload_n (pc := 151) (n := 2) (i := 2) rfl 2 rfl (htX16_asked_0 (151, .iload_n 2, 1) (gx_m 91 rfl)) ?_
        refine gx_Jia (pc := 152) (htX16_asked_0 (152, .iaload, 1) (gx_m 92 rfl)) (fun v19 => ?_)
        refine gx_Jci (pc := 153) (gx_hst (as := [gx_i 2, gx_i x1, gx_i v19]) (b := gx_r 17 (some x0))) (gx_runV (as := [gx_i 2, gx_i x1, gx_i v19]) (ci := 16) (ct_X16_message Y x0 2 x1 v19) (by decide) (Or.inl rfl) rfl rfl rfl rfl q2138 q2140 qs57 q117 q2141 rfl dd_X16_message (by decide) (by decide) (Nat.le_of_ble_eq_true rfl) (htX16_asked_0 (153, .invokevirtual 471, 3) (gx_m 93 rfl))) (fun v20 => ?_)
        refine gx_istore (pc := 156) (i := 5) (lv' := [(5, gx_i v20), (0, gx_r 17 (some x0)), (1, gx_i x1), (2, gx_i x2), (4, gx_i j15)]) (by decide) rfl (htX16_asked_0 (156, .istore 5, 2) (gx_m 94 rfl)) ?_
        refine gx_aload_n (pc := 158) (n := 0) (i := 0) rfl 1 rfl (htX16_asked_0 (158, .aload_n 0, 1) (gx_m 95 rfl)) ?_
        refine gx_Jgs (pc := 159) (ci := 16) (kk := 69) (t2 := 100) (by decide) (by decide) rfl rfl rfl q1743 (htX16_asked_0 (159, .getfield 196, 3) (gx_m 96 rfl)) ?_
        refine gx_iload (pc := 162) (i := 5) 0 rfl (htX16_asked_0 (162, .iload 5, 2) (gx_m 97 rfl)) ?_
        refine gx_iload (pc := 164) (i := 4) 4 rfl (htX16_asked_0 (164, .iload 4, 2) (gx_m 98 rfl)) ?_
        refine gx_Jjoin (pcJ := 174) (lvJ := fun (j21 : Int32) => [(0, gx_r 17 (some x0)), (5, gx_i v20)]) (stJ := fun (j21 : Int32) => [gx_i j21, gx_i v20, gx_r 100 (some (69 :: x0))]) (fun (j21 : Int32) => j21 &&& 1 = j21) (fun j21 hj21 => ?_) (fun kk4 hj4 => ?_)
        · refine gx_Jis (pc := 174) (htX16_asked_1 (174, .iastore, 1) (gx_m 3 rfl)) ?_
          refine gx_aload_n (pc := 175) (n := 0) (i := 0) rfl 0 rfl (htX16_asked_1 (175, .aload_n 0, 1) (gx_m 4 rfl)) ?_
          refine gx_iload (pc := 176) (i := 5) 1 rfl (htX16_asked_1 (176, .iload 5, 2) (gx_m 5 rfl)) ?_
          refine gx_Jcv (pc := 178) (gx_hst (as := [gx_i v20]) (b := gx_r 17 (some x0))) (gx_runV (as := [gx_i v20]) (ci := 16) (ct_X16_send Y x0 v20) (by decide) (Or.inl rfl) rfl rfl rfl rfl q2142 q2144 qs58 q117 q2145 rfl dd_X16_send (by decide) (by decide) (Nat.le_of_ble_eq_true rfl) (htX16_asked_1 (178, .invokevirtual 475, 3) (gx_m 6 rfl))) ?_
          exact gx_Jvret (pc := 181) rfl (fun _ => trivial) (fun _ _ => rfl) (htX16_asked_1 (181, .return_, 1) (gx_m 7 rfl))
        · refine gx_if_eq (pc := 166) (y := 0) (tgt := 173) (by decide) (htX16_asked_0 (166, .ifCond .eq 7, 3) (gx_m 99 rfl)) (fun c5 => ?_) (fun c5 => ?_)
          · refine gx_iconst (pc := 173) (v := 0) (by decide) (htX16_asked_1 (173, .iconst 0, 1) (gx_m 2 rfl)) ?_
            refine gx_Jw (lv := [(0, gx_r 17 (some x0)), (5, gx_i v20)]) [1, 0] rfl ?_
            exact hj4 (0 : Int32) gx_b0
          · refine gx_iconst (pc := 169) (v := 1) (by decide) (htX16_asked_1 (169, .iconst 1, 1) (gx_m 0 rfl)) ?_
            refine gx_goto (pc := 170) (tgt := 174) (by decide) (htX16_asked_1 (170, .goto 4, 3) (gx_m 1 rfl)) ?_
            refine gx_Jw (lv := [(0, gx_r 17 (some x0)), (5, gx_i v20)]) [1, 0] rfl ?_
            exact hj4 (1 : Int32) gx_b1
      · refine gx_if_eq (pc := 114) (y := 0) (tgt := 144) (by decide) (htX16_asked_0 (114, .ifCond .eq 30, 3) (gx_m 68 rfl)) (fun c6 => ?_) (fun c6 => ?_)
        · refine gx_Jw (lv := [(0, gx_r 17 (some x0)), (1, gx_i x1), (2, gx_i x2), (4, gx_i j15)]) [1, 2, 3, 0] rfl ?_
          exact hj3 () trivial
        · refine gx_aload_n (pc := 117) (n := 0) (i := 0) rfl 1 rfl (htX16_asked_0 (117, .aload_n 0, 1) (gx_m 69 rfl)) ?_
          refine gx_Jgs (pc := 118) (ci := 16) (kk := 32) (t2 := 100) (by decide) (by decide) rfl rfl rfl q1706 (htX16_asked_0 (118, .getfield 83, 3) (gx_m 70 rfl)) ?_
          refine gx_iload_n (pc := 121) (n := 1) (i := 1) rfl 2 rfl (htX16_asked_0 (121, .iload_n 1, 1) (gx_m 71 rfl)) ?_
          refine gx_Jia (pc := 122) (htX16_asked_0 (122, .iaload, 1) (gx_m 72 rfl)) (fun v16 => ?_)
          refine gx_iconst (pc := 123) (v := (-1)) (by decide) (htX16_asked_0 (123, .iconst (-1), 1) (gx_m 73 rfl)) ?_
          refine gx_icmp_ne (pc := 124) (tgt := 144) (by decide) (htX16_asked_0 (124, .if_icmp .ne 20, 3) (gx_m 74 rfl)) (fun c7 => ?_) (fun c7 => ?_)
          · refine gx_aload_n (pc := 127) (n := 0) (i := 0) rfl 1 rfl (htX16_asked_0 (127, .aload_n 0, 1) (gx_m 75 rfl)) ?_
            refine gx_iload_n (pc := 128) (n := 1) (i := 1) rfl 2 rfl (htX16_asked_0 (128, .iload_n 1, 1) (gx_m 76 rfl)) ?_
            refine gx_aload_n (pc := 129) (n := 0) (i := 0) rfl 1 rfl (htX16_asked_0 (129, .aload_n 0, 1) (gx_m 77 rfl)) ?_
            refine gx_Jgs (pc := 130) (ci := 16) (kk := 31) (t2 := 100) (by decide) (by decide) rfl rfl rfl q1705 (htX16_asked_0 (130, .getfield 80, 3) (gx_m 78 rfl)) ?_
            refine gx_iload_n (pc := 133) (n := 1) (i := 1) rfl 2 rfl (htX16_asked_0 (133, .iload_n 1, 1) (gx_m 79 rfl)) ?_
            refine gx_Jia (pc := 134) (htX16_asked_0 (134, .iaload, 1) (gx_m 80 rfl)) (fun v17 => ?_)
            refine gx_aload_n (pc := 135) (n := 0) (i := 0) rfl 1 rfl (htX16_asked_0 (135, .aload_n 0, 1) (gx_m 81 rfl)) ?_
            refine gx_Jgs (pc := 136) (ci := 16) (kk := 65) (t2 := 100) (by decide) (by decide) rfl rfl rfl q1739 (htX16_asked_0 (136, .getfield 184, 3) (gx_m 82 rfl)) ?_
            refine gx_iload_n (pc := 139) (n := 2) (i := 2) rfl 3 rfl (htX16_asked_0 (139, .iload_n 2, 1) (gx_m 83 rfl)) ?_
            refine gx_Jia (pc := 140) (htX16_asked_0 (140, .iaload, 1) (gx_m 84 rfl)) (fun v18 => ?_)
            refine gx_Jcv (pc := 141) (gx_hst (as := [gx_i x1, gx_i v17, gx_i v18]) (b := gx_r 17 (some x0))) (gx_runV (as := [gx_i x1, gx_i v17, gx_i v18]) (ci := 16) (ct_X16_vote Y x0 x1 v17 v18) (by decide) (Or.inl rfl) rfl rfl rfl rfl q2158 q2160 qs61 q117 q2161 rfl dd_X16_vote (by decide) (by decide) (Nat.le_of_ble_eq_true rfl) (htX16_asked_0 (141, .invokevirtual 482, 3) (gx_m 85 rfl))) ?_
            refine gx_Jw (lv := [(0, gx_r 17 (some x0)), (1, gx_i x1), (2, gx_i x2), (4, gx_i j15)]) [1, 2, 3, 0] rfl ?_
            exact hj3 () trivial
          · refine gx_Jw (lv := [(0, gx_r 17 (some x0)), (1, gx_i x1), (2, gx_i x2), (4, gx_i j15)]) [1, 2, 3, 0] rfl ?_
            exact hj3 () trivial
    · refine gx_icmp_ne (pc := 73) (tgt := 109) (by decide) (htX16_asked_0 (73, .if_icmp .ne 36, 3) (gx_m 45 rfl)) (fun c8 => ?_) (fun c8 => ?_)
      · refine gx_aload_n (pc := 76) (n := 0) (i := 0) rfl 1 rfl (htX16_asked_0 (76, .aload_n 0, 1) (gx_m 46 rfl)) ?_
        refine gx_Jgs (pc := 77) (ci := 16) (kk := 32) (t2 := 100) (by decide) (by decide) rfl rfl rfl q1706 (htX16_asked_0 (77, .getfield 83, 3) (gx_m 47 rfl)) ?_
        refine gx_iload_n (pc := 80) (n := 1) (i := 1) rfl 2 rfl (htX16_asked_0 (80, .iload_n 1, 1) (gx_m 48 rfl)) ?_
        refine gx_Jia (pc := 81) (htX16_asked_0 (81, .iaload, 1) (gx_m 49 rfl)) (fun v12 => ?_)
        refine gx_iconst (pc := 82) (v := (-1)) (by decide) (htX16_asked_0 (82, .iconst (-1), 1) (gx_m 50 rfl)) ?_
        refine gx_icmp_eq (pc := 83) (tgt := 101) (by decide) (htX16_asked_0 (83, .if_icmp .eq 18, 3) (gx_m 51 rfl)) (fun c9 => ?_) (fun c9 => ?_)
        · refine gx_iload_n (pc := 101) (n := 3) (i := 3) rfl 0 rfl (htX16_asked_0 (101, .iload_n 3, 1) (gx_m 61 rfl)) ?_
          refine gx_if_eq (pc := 102) (y := 0) (tgt := 109) (by decide) (htX16_asked_0 (102, .ifCond .eq 7, 3) (gx_m 62 rfl)) (fun c10 => ?_) (fun c10 => ?_)
          · refine gx_iconst (pc := 109) (v := 0) (by decide) (htX16_asked_0 (109, .iconst 0, 1) (gx_m 65 rfl)) ?_
            refine gx_Jw (lv := [(0, gx_r 17 (some x0)), (1, gx_i x1), (2, gx_i x2)]) [1, 2, 3] rfl ?_
            exact hj2 (0 : Int32) gx_b0
          · refine gx_iconst (pc := 105) (v := 1) (by decide) (htX16_asked_0 (105, .iconst 1, 1) (gx_m 63 rfl)) ?_
            refine gx_goto (pc := 106) (tgt := 110) (by decide) (htX16_asked_0 (106, .goto 4, 3) (gx_m 64 rfl)) ?_
            refine gx_Jw (lv := [(0, gx_r 17 (some x0)), (1, gx_i x1), (2, gx_i x2)]) [1, 2, 3] rfl ?_
            exact hj2 (1 : Int32) gx_b1
        · refine gx_aload_n (pc := 86) (n := 0) (i := 0) rfl 1 rfl (htX16_asked_0 (86, .aload_n 0, 1) (gx_m 52 rfl)) ?_
          refine gx_Jgs (pc := 87) (ci := 16) (kk := 32) (t2 := 100) (by decide) (by decide) rfl rfl rfl q1706 (htX16_asked_0 (87, .getfield 83, 3) (gx_m 53 rfl)) ?_
          refine gx_iload_n (pc := 90) (n := 1) (i := 1) rfl 2 rfl (htX16_asked_0 (90, .iload_n 1, 1) (gx_m 54 rfl)) ?_
          refine gx_Jia (pc := 91) (htX16_asked_0 (91, .iaload, 1) (gx_m 55 rfl)) (fun v13 => ?_)
          refine gx_aload_n (pc := 92) (n := 0) (i := 0) rfl 1 rfl (htX16_asked_0 (92, .aload_n 0, 1) (gx_m 56 rfl)) ?_
          refine gx_Jgs (pc := 93) (ci := 16) (kk := 65) (t2 := 100) (by decide) (by decide) rfl rfl rfl q1739 (htX16_asked_0 (93, .getfield 184, 3) (gx_m 57 rfl)) ?_
          refine gx_iload_n (pc := 96) (n := 2) (i := 2) rfl 3 rfl (htX16_asked_0 (96, .iload_n 2, 1) (gx_m 58 rfl)) ?_
          refine gx_Jia (pc := 97) (htX16_asked_0 (97, .iaload, 1) (gx_m 59 rfl)) (fun v14 => ?_)
          refine gx_icmp_ne (pc := 98) (tgt := 109) (by decide) (htX16_asked_0 (98, .if_icmp .ne 11, 3) (gx_m 60 rfl)) (fun c11 => ?_) (fun c11 => ?_)
          · refine gx_iload_n (pc := 101) (n := 3) (i := 3) rfl 0 rfl (htX16_asked_0 (101, .iload_n 3, 1) (gx_m 61 rfl)) ?_
            refine gx_if_eq (pc := 102) (y := 0) (tgt := 109) (by decide) (htX16_asked_0 (102, .ifCond .eq 7, 3) (gx_m 62 rfl)) (fun c12 => ?_) (fun c12 => ?_)
            · refine gx_iconst (pc := 109) (v := 0) (by decide) (htX16_asked_0 (109, .iconst 0, 1) (gx_m 65 rfl)) ?_
              refine gx_Jw (lv := [(0, gx_r 17 (some x0)), (1, gx_i x1), (2, gx_i x2)]) [1, 2, 3] rfl ?_
              exact hj2 (0 : Int32) gx_b0
            · refine gx_iconst (pc := 105) (v := 1) (by decide) (htX16_asked_0 (105, .iconst 1, 1) (gx_m 63 rfl)) ?_
              refine gx_goto (pc := 106) (tgt := 110) (by decide) (htX16_asked_0 (106, .goto 4, 3) (gx_m 64 rfl)) ?_
              refine gx_Jw (lv := [(0, gx_r 17 (some x0)), (1, gx_i x1), (2, gx_i x2)]) [1, 2, 3] rfl ?_
              exact hj2 (1 : Int32) gx_b1
          · refine gx_iconst (pc := 109) (v := 0) (by decide) (htX16_asked_0 (109, .iconst 0, 1) (gx_m 65 rfl)) ?_
            refine gx_Jw (lv := [(0, gx_r 17 (some x0)), (1, gx_i x1), (2, gx_i x2)]) [1, 2, 3] rfl ?_
            exact hj2 (0 : Int32) gx_b0
      · refine gx_iconst (pc := 109) (v := 0) (by decide) (htX16_asked_0 (109, .iconst 0, 1) (gx_m 65 rfl)) ?_
        refine gx_Jw (lv := [(0, gx_r 17 (some x0)), (1, gx_i x1), (2, gx_i x2)]) [1, 2, 3] rfl ?_
        exact hj2 (0 : Int32) gx_b0
  · refine gx_icmp_gt (pc := 17) (tgt := 55) (by decide) (htX16_asked_0 (17, .if_icmp .gt 38, 3) (gx_m 11 rfl)) (fun c13 => ?_) (fun c13 => ?_)
    · refine gx_iconst (pc := 55) (v := 1) (by decide) (htX16_asked_0 (55, .iconst 1, 1) (gx_m 33 rfl)) ?_
      refine gx_goto (pc := 56) (tgt := 60) (by decide) (htX16_asked_0 (56, .goto 4, 3) (gx_m 34 rfl)) ?_
      exact hj1 (1 : Int32) gx_b1
    · refine gx_aload_n (pc := 20) (n := 0) (i := 0) rfl 0 rfl (htX16_asked_0 (20, .aload_n 0, 1) (gx_m 12 rfl)) ?_
      refine gx_Jgs (pc := 21) (ci := 16) (kk := 69) (t2 := 100) (by decide) (by decide) rfl rfl rfl q1743 (htX16_asked_0 (21, .getfield 196, 3) (gx_m 13 rfl)) ?_
      refine gx_iload_n (pc := 24) (n := 2) (i := 2) rfl 2 rfl (htX16_asked_0 (24, .iload_n 2, 1) (gx_m 14 rfl)) ?_
      refine gx_Jia (pc := 25) (htX16_asked_0 (25, .iaload, 1) (gx_m 15 rfl)) (fun v4 => ?_)
      refine gx_aload_n (pc := 26) (n := 0) (i := 0) rfl 0 rfl (htX16_asked_0 (26, .aload_n 0, 1) (gx_m 16 rfl)) ?_
      refine gx_iload_n (pc := 27) (n := 1) (i := 1) rfl 1 rfl (htX16_asked_0 (27, .iload_n 1, 1) (gx_m 17 rfl)) ?_
      refine gx_aload_n (pc := 28) (n := 0) (i := 0) rfl 0 rfl (htX16_asked_0 (28, .aload_n 0, 1) (gx_m 18 rfl)) ?_
      refine gx_Jgs (pc := 29) (ci := 16) (kk := 36) (t2 := 100) (by decide) (by decide) rfl rfl rfl q1710 (htX16_asked_0 (29, .getfield 95, 3) (gx_m 19 rfl)) ?_
      refine gx_iload_n (pc := 32) (n := 1) (i := 1) rfl 1 rfl (htX16_asked_0 (32, .iload_n 1, 1) (gx_m 20 rfl)) ?_
      refine gx_Jia (pc := 33) (htX16_asked_0 (33, .iaload, 1) (gx_m 21 rfl)) (fun v5 => ?_)
      refine gx_Jci (pc := 34) (gx_hst (as := [gx_i x1, gx_i v5]) (b := gx_r 17 (some x0))) (gx_runV (as := [gx_i x1, gx_i v5]) (ci := 16) (ct_X16_termAt Y x0 x1 v5) (by decide) (Or.inl rfl) rfl rfl rfl rfl q2150 q2152 qs60 q117 q2153 rfl dd_X16_termAt (by decide) (by decide) (Nat.le_of_ble_eq_true rfl) (htX16_asked_0 (34, .invokevirtual 461, 3) (gx_m 22 rfl))) (fun v6 => ?_)
      refine gx_icmp_ne (pc := 37) (tgt := 59) (by decide) (htX16_asked_0 (37, .if_icmp .ne 22, 3) (gx_m 23 rfl)) (fun c14 => ?_) (fun c14 => ?_)
      · refine gx_aload_n (pc := 40) (n := 0) (i := 0) rfl 0 rfl (htX16_asked_0 (40, .aload_n 0, 1) (gx_m 24 rfl)) ?_
        refine gx_Jgs (pc := 41) (ci := 16) (kk := 68) (t2 := 100) (by decide) (by decide) rfl rfl rfl q1742 (htX16_asked_0 (41, .getfield 193, 3) (gx_m 25 rfl)) ?_
        refine gx_iload_n (pc := 44) (n := 2) (i := 2) rfl 2 rfl (htX16_asked_0 (44, .iload_n 2, 1) (gx_m 26 rfl)) ?_
        refine gx_Jia (pc := 45) (htX16_asked_0 (45, .iaload, 1) (gx_m 27 rfl)) (fun v7 => ?_)
        refine gx_aload_n (pc := 46) (n := 0) (i := 0) rfl 0 rfl (htX16_asked_0 (46, .aload_n 0, 1) (gx_m 28 rfl)) ?_
        refine gx_Jgs (pc := 47) (ci := 16) (kk := 36) (t2 := 100) (by decide) (by decide) rfl rfl rfl q1710 (htX16_asked_0 (47, .getfield 95, 3) (gx_m 29 rfl)) ?_
        refine gx_iload_n (pc := 50) (n := 1) (i := 1) rfl 1 rfl (htX16_asked_0 (50, .iload_n 1, 1) (gx_m 30 rfl)) ?_
        refine gx_Jia (pc := 51) (htX16_asked_0 (51, .iaload, 1) (gx_m 31 rfl)) (fun v8 => ?_)
        refine gx_icmp_lt (pc := 52) (tgt := 59) (by decide) (htX16_asked_0 (52, .if_icmp .lt 7, 3) (gx_m 32 rfl)) (fun c15 => ?_) (fun c15 => ?_)
        · refine gx_iconst (pc := 59) (v := 0) (by decide) (htX16_asked_0 (59, .iconst 0, 1) (gx_m 35 rfl)) ?_
          exact hj1 (0 : Int32) gx_b0
        · refine gx_iconst (pc := 55) (v := 1) (by decide) (htX16_asked_0 (55, .iconst 1, 1) (gx_m 33 rfl)) ?_
          refine gx_goto (pc := 56) (tgt := 60) (by decide) (htX16_asked_0 (56, .goto 4, 3) (gx_m 34 rfl)) ?_
          exact hj1 (1 : Int32) gx_b1
      · refine gx_iconst (pc := 59) (v := 0) (by decide) (htX16_asked_0 (59, .iconst 0, 1) (gx_m 35 rfl)) ?_
        exact hj1 (0 : Int32) gx_b0
theorem ct_X16_answered (Y : gx_Y) (x0 : gx_Nm) (x1 : Int32) (x2 : Int32) : gx_Ct Y yX16_answered (ws_ yX16_answered cX16_answered 3 none) 6 213 [gx_r 17 (some x0), gx_i x1, gx_i x2] gx_Ov (f_X16_answered x0 x1 x2) := by
  refine gx_start (lv := [(0, gx_r 17 (some x0)), (1, gx_i x1), (2, gx_i x2)]) gx_Ov_r pn_X16 (Nat.le_of_ble_eq_true rfl) rfl ?_
  unfold f_X16_answered
  refine gx_aload_n (pc := 0) (n := 0) (i := 0) rfl 0 rfl (htX16_answered (0, .aload_n 0, 1) (gx_m 0 rfl)) ?_
  refine gx_Jgs (pc := 1) (ci := 16) (kk := 45) (t2 := 100) (by decide) (by decide) rfl rfl rfl q1719 (htX16_answered (1, .getfield 124, 3) (gx_m 1 rfl)) ?_
  refine gx_iload_n (pc := 4) (n := 1) (i := 1) rfl 1 rfl (htX16_answered (4, .iload_n 1, 1) (gx_m 2 rfl)) ?_
  refine gx_Jia (pc := 5) (htX16_answered (5, .iaload, 1) (gx_m 3 rfl)) (fun v1 => ?_)
  refine gx_iconst (pc := 6) (v := 1) (by decide) (htX16_answered (6, .iconst 1, 1) (gx_m 4 rfl)) ?_
  refine gx_icmp_ne (pc := 7) (tgt := 34) (by decide) (htX16_answered (7, .if_icmp .ne 27, 3) (gx_m 5 rfl)) (fun c1 => ?_) (fun c1 => ?_)
  · refine gx_aload_n (pc := 10) (n := 0) (i := 0) rfl 0 rfl (htX16_answered (10, .aload_n 0, 1) (gx_m 6 rfl)) ?_
    refine gx_Jgs (pc := 11) (ci := 16) (kk := 67) (t2 := 100) (by decide) (by decide) rfl rfl rfl q1741 (htX16_answered (11, .getfield 190, 3) (gx_m 7 rfl)) ?_
    refine gx_iload_n (pc := 14) (n := 2) (i := 2) rfl 2 rfl (htX16_answered (14, .iload_n 2, 1) (gx_m 8 rfl)) ?_
    refine gx_Jia (pc := 15) (htX16_answered (15, .iaload, 1) (gx_m 9 rfl)) (fun v2 => ?_)
    refine gx_aload_n (pc := 16) (n := 0) (i := 0) rfl 0 rfl (htX16_answered (16, .aload_n 0, 1) (gx_m 10 rfl)) ?_
    refine gx_Jgs (pc := 17) (ci := 16) (kk := 31) (t2 := 100) (by decide) (by decide) rfl rfl rfl q1705 (htX16_answered (17, .getfield 80, 3) (gx_m 11 rfl)) ?_
    refine gx_iload_n (pc := 20) (n := 1) (i := 1) rfl 1 rfl (htX16_answered (20, .iload_n 1, 1) (gx_m 12 rfl)) ?_
    refine gx_Jia (pc := 21) (htX16_answered (21, .iaload, 1) (gx_m 13 rfl)) (fun v3 => ?_)
    refine gx_icmp_ne (pc := 22) (tgt := 34) (by decide) (htX16_answered (22, .if_icmp .ne 12, 3) (gx_m 14 rfl)) (fun c2 => ?_) (fun c2 => ?_)
    · refine gx_aload_n (pc := 25) (n := 0) (i := 0) rfl 0 rfl (htX16_answered (25, .aload_n 0, 1) (gx_m 15 rfl)) ?_
      refine gx_Jgs (pc := 26) (ci := 16) (kk := 69) (t2 := 100) (by decide) (by decide) rfl rfl rfl q1743 (htX16_answered (26, .getfield 196, 3) (gx_m 16 rfl)) ?_
      refine gx_iload_n (pc := 29) (n := 2) (i := 2) rfl 2 rfl (htX16_answered (29, .iload_n 2, 1) (gx_m 17 rfl)) ?_
      refine gx_Jia (pc := 30) (htX16_answered (30, .iaload, 1) (gx_m 18 rfl)) (fun v4 => ?_)
      refine gx_if_ne (pc := 31) (y := 0) (tgt := 35) (by decide) (htX16_answered (31, .ifCond .ne 4, 3) (gx_m 19 rfl)) (fun c3 => ?_) (fun c3 => ?_)
      · exact gx_Jvret (pc := 34) rfl (fun _ => trivial) (fun _ _ => rfl) (htX16_answered (34, .return_, 1) (gx_m 20 rfl))
      · refine gx_aload_n (pc := 35) (n := 0) (i := 0) rfl 0 rfl (htX16_answered (35, .aload_n 0, 1) (gx_m 21 rfl)) ?_
        refine gx_Jgs (pc := 36) (ci := 16) (kk := 56) (t2 := 106) (by decide) (by decide) rfl rfl rfl q1730 (htX16_answered (36, .getfield 159, 3) (gx_m 22 rfl)) ?_
        refine gx_iload_n (pc := 39) (n := 1) (i := 1) rfl 1 rfl (htX16_answered (39, .iload_n 1, 1) (gx_m 23 rfl)) ?_
        refine gx_Jra (pc := 40) (t := 6) (t2 := 102) (by decide) (by decide) rfl (htX16_answered (40, .aaload, 1) (gx_m 24 rfl)) (fun v5 => ?_)
        refine gx_aload_n (pc := 41) (n := 0) (i := 0) rfl 0 rfl (htX16_answered (41, .aload_n 0, 1) (gx_m 25 rfl)) ?_
        refine gx_Jgs (pc := 42) (ci := 16) (kk := 65) (t2 := 100) (by decide) (by decide) rfl rfl rfl q1739 (htX16_answered (42, .getfield 184, 3) (gx_m 26 rfl)) ?_
        refine gx_iload_n (pc := 45) (n := 2) (i := 2) rfl 2 rfl (htX16_answered (45, .iload_n 2, 1) (gx_m 27 rfl)) ?_
        refine gx_Jia (pc := 46) (htX16_answered (46, .iaload, 1) (gx_m 28 rfl)) (fun v6 => ?_)
        refine gx_iconst (pc := 47) (v := 1) (by decide) (htX16_answered (47, .iconst 1, 1) (gx_m 29 rfl)) ?_
        refine gx_Jzs (pc := 48) (htX16_answered (48, .bastore, 1) (gx_m 30 rfl)) ?_
        refine gx_iconst (pc := 49) (v := 2) (by decide) (htX16_answered (49, .iconst 2, 1) (gx_m 31 rfl)) ?_
        refine gx_aload_n (pc := 50) (n := 0) (i := 0) rfl 0 rfl (htX16_answered (50, .aload_n 0, 1) (gx_m 32 rfl)) ?_
        refine gx_iload_n (pc := 51) (n := 1) (i := 1) rfl 1 rfl (htX16_answered (51, .iload_n 1, 1) (gx_m 33 rfl)) ?_
        refine gx_Jci (pc := 52) (gx_hst (as := [gx_i x1]) (b := gx_r 17 (some x0))) (gx_runV (as := [gx_i x1]) (ci := 16) (ct_X16_grants Y x0 x1) (by decide) (Or.inl rfl) rfl rfl rfl rfl q2217 q2219 qs70 q117 q2220 rfl dd_X16_grants (by decide) (by decide) (Nat.le_of_ble_eq_true rfl) (htX16_answered (52, .invokevirtual 516, 3) (gx_m 34 rfl))) (fun v7 => ?_)
        refine gx_imul (pc := 55) (htX16_answered (55, .imul, 1) (gx_m 35 rfl)) ?_
        refine gx_aload_n (pc := 56) (n := 0) (i := 0) rfl 0 rfl (htX16_answered (56, .aload_n 0, 1) (gx_m 36 rfl)) ?_
        refine gx_Jgi (pc := 57) (ci := 16) (kk := 29) (by decide) (Or.inl rfl) (by decide) (by decide) q1703 (htX16_answered (57, .getfield 315, 3) (gx_m 37 rfl)) (fun v8 hv8 => ?_)
        refine gx_Jjoin (pcJ := 68) (lvJ := fun (j_4 : Unit) => []) (stJ := fun (j_4 : Unit) => []) (fun _ => True) (fun j_4 hj_4 => ?_) (fun kk4 hj4 => ?_)
        · exact gx_Jvret (pc := 68) rfl (fun _ => trivial) (fun _ _ => rfl) (htX16_answered (68, .return_, 1) (gx_m 42 rfl))
        · refine gx_icmp_le (pc := 60) (tgt := 68) (by decide) (htX16_answered (60, .if_icmp .le 8, 3) (gx_m 38 rfl)) (fun c5 => ?_) (fun c5 => ?_)
          · refine gx_Jw (lv := []) [] rfl ?_
            exact hj4 () trivial
          · refine gx_aload_n (pc := 63) (n := 0) (i := 0) rfl 0 rfl (htX16_answered (63, .aload_n 0, 1) (gx_m 39 rfl)) ?_
            refine gx_iload_n (pc := 64) (n := 1) (i := 1) rfl 1 rfl (htX16_answered (64, .iload_n 1, 1) (gx_m 40 rfl)) ?_
            refine gx_Jcv (pc := 65) (gx_hst (as := [gx_i x1]) (b := gx_r 17 (some x0))) (gx_runV (as := [gx_i x1]) (ci := 16) (ct_X16_lead Y x0 x1) (by decide) (Or.inl rfl) rfl rfl rfl rfl q2162 q2164 qs62 q117 q2165 rfl dd_X16_lead (by decide) (by decide) (Nat.le_of_ble_eq_true rfl) (htX16_answered (65, .invokevirtual 519, 3) (gx_m 41 rfl))) ?_
            refine gx_Jw (lv := []) [] rfl ?_
            exact hj4 () trivial
    · exact gx_Jvret (pc := 34) rfl (fun _ => trivial) (fun _ _ => rfl) (htX16_answered (34, .return_, 1) (gx_m 20 rfl))
  · exact gx_Jvret (pc := 34) rfl (fun _ => trivial) (fun _ _ => rfl) (htX16_answered (34, .return_, 1) (gx_m 20 rfl))
theorem ct_X16_taken_2 (Y : gx_Y) (x0 : gx_Nm) (x1 : Int32) (x2 : Int32) (x3 : Int32) (x4 : Int32) (x5 : Int32) : gx_Ct Y yX16_taken_2 (ws_ yX16_taken_2 cX16_taken_2 7 none) 3 144 [gx_r 17 (some x0), gx_i x1, gx_i x2, gx_i x3, gx_i x4, gx_i x5] gx_Ov (f_X16_taken_2 x0 x1 x2 x3 x4 x5) := by
  refine gx_start (lv := [(0, gx_r 17 (some x0)), (1, gx_i x1), (2, gx_i x2), (3, gx_i x3), (4, gx_i x4), (5, gx_i x5)]) gx_Ov_r pn_X16 (Nat.le_of_ble_eq_true rfl) rfl ?_
  unfold f_X16_taken_2
  refine gx_aload_n (pc := 0) (n := 0) (i := 0) rfl 0 rfl (htX16_taken_2 (0, .aload_n 0, 1) (gx_m 0 rfl)) ?_
  refine gx_iconst (pc := 1) (v := 4) (by decide) (htX16_taken_2 (1, .iconst 4, 1) (gx_m 1 rfl)) ?_
  refine gx_iload_n (pc := 2) (n := 1) (i := 1) rfl 1 rfl (htX16_taken_2 (2, .iload_n 1, 1) (gx_m 2 rfl)) ?_
  refine gx_iload_n (pc := 3) (n := 2) (i := 2) rfl 2 rfl (htX16_taken_2 (3, .iload_n 2, 1) (gx_m 3 rfl)) ?_
  refine gx_Jci (pc := 4) (gx_hst (as := [gx_i 4, gx_i x1, gx_i x2]) (b := gx_r 17 (some x0))) (gx_runV (as := [gx_i 4, gx_i x1, gx_i x2]) (ci := 16) (ct_X16_message Y x0 4 x1 x2) (by decide) (Or.inl rfl) rfl rfl rfl rfl q2138 q2140 qs57 q117 q2141 rfl dd_X16_message (by decide) (by decide) (Nat.le_of_ble_eq_true rfl) (htX16_taken_2 (4, .invokevirtual 471, 3) (gx_m 4 rfl))) (fun v1 => ?_)
  refine gx_istore (pc := 7) (i := 6) (lv' := [(6, gx_i v1), (0, gx_r 17 (some x0)), (1, gx_i x1), (2, gx_i x2), (3, gx_i x3), (4, gx_i x4), (5, gx_i x5)]) (by decide) rfl (htX16_taken_2 (7, .istore 6, 2) (gx_m 5 rfl)) ?_
  refine gx_aload_n (pc := 9) (n := 0) (i := 0) rfl 1 rfl (htX16_taken_2 (9, .aload_n 0, 1) (gx_m 6 rfl)) ?_
  refine gx_Jgs (pc := 10) (ci := 16) (kk := 68) (t2 := 100) (by decide) (by decide) rfl rfl rfl q1742 (htX16_taken_2 (10, .getfield 193, 3) (gx_m 7 rfl)) ?_
  refine gx_iload (pc := 13) (i := 6) 0 rfl (htX16_taken_2 (13, .iload 6, 2) (gx_m 8 rfl)) ?_
  refine gx_iload (pc := 15) (i := 4) 5 rfl (htX16_taken_2 (15, .iload 4, 2) (gx_m 9 rfl)) ?_
  refine gx_Jis (pc := 17) (htX16_taken_2 (17, .iastore, 1) (gx_m 10 rfl)) ?_
  refine gx_aload_n (pc := 18) (n := 0) (i := 0) rfl 1 rfl (htX16_taken_2 (18, .aload_n 0, 1) (gx_m 11 rfl)) ?_
  refine gx_Jgs (pc := 19) (ci := 16) (kk := 69) (t2 := 100) (by decide) (by decide) rfl rfl rfl q1743 (htX16_taken_2 (19, .getfield 196, 3) (gx_m 12 rfl)) ?_
  refine gx_iload (pc := 22) (i := 6) 0 rfl (htX16_taken_2 (22, .iload 6, 2) (gx_m 13 rfl)) ?_
  refine gx_iload_n (pc := 24) (n := 3) (i := 3) rfl 4 rfl (htX16_taken_2 (24, .iload_n 3, 1) (gx_m 14 rfl)) ?_
  refine gx_Jjoin (pcJ := 33) (lvJ := fun (j2 : Int32) => [(0, gx_r 17 (some x0)), (5, gx_i x5), (6, gx_i v1)]) (stJ := fun (j2 : Int32) => [gx_i j2, gx_i v1, gx_r 100 (some (69 :: x0))]) (fun (j2 : Int32) => j2 &&& 1 = j2) (fun j2 hj2 => ?_) (fun kk1 hj1 => ?_)
  · refine gx_Jis (pc := 33) (htX16_taken_2 (33, .iastore, 1) (gx_m 19 rfl)) ?_
    refine gx_aload_n (pc := 34) (n := 0) (i := 0) rfl 0 rfl (htX16_taken_2 (34, .aload_n 0, 1) (gx_m 20 rfl)) ?_
    refine gx_Jgs (pc := 35) (ci := 16) (kk := 71) (t2 := 100) (by decide) (by decide) rfl rfl rfl q1745 (htX16_taken_2 (35, .getfield 202, 3) (gx_m 21 rfl)) ?_
    refine gx_iload (pc := 38) (i := 6) 2 rfl (htX16_taken_2 (38, .iload 6, 2) (gx_m 22 rfl)) ?_
    refine gx_iload (pc := 40) (i := 5) 1 rfl (htX16_taken_2 (40, .iload 5, 2) (gx_m 23 rfl)) ?_
    refine gx_Jis (pc := 42) (htX16_taken_2 (42, .iastore, 1) (gx_m 24 rfl)) ?_
    refine gx_aload_n (pc := 43) (n := 0) (i := 0) rfl 0 rfl (htX16_taken_2 (43, .aload_n 0, 1) (gx_m 25 rfl)) ?_
    refine gx_iload (pc := 44) (i := 6) 2 rfl (htX16_taken_2 (44, .iload 6, 2) (gx_m 26 rfl)) ?_
    refine gx_Jcv (pc := 46) (gx_hst (as := [gx_i v1]) (b := gx_r 17 (some x0))) (gx_runV (as := [gx_i v1]) (ci := 16) (ct_X16_send Y x0 v1) (by decide) (Or.inl rfl) rfl rfl rfl rfl q2142 q2144 qs58 q117 q2145 rfl dd_X16_send (by decide) (by decide) (Nat.le_of_ble_eq_true rfl) (htX16_taken_2 (46, .invokevirtual 475, 3) (gx_m 27 rfl))) ?_
    exact gx_Jvret (pc := 49) rfl (fun _ => trivial) (fun _ _ => rfl) (htX16_taken_2 (49, .return_, 1) (gx_m 28 rfl))
  · refine gx_if_eq (pc := 25) (y := 0) (tgt := 32) (by decide) (htX16_taken_2 (25, .ifCond .eq 7, 3) (gx_m 15 rfl)) (fun c2 => ?_) (fun c2 => ?_)
    · refine gx_iconst (pc := 32) (v := 0) (by decide) (htX16_taken_2 (32, .iconst 0, 1) (gx_m 18 rfl)) ?_
      refine gx_Jw (lv := [(0, gx_r 17 (some x0)), (5, gx_i x5), (6, gx_i v1)]) [1, 6, 0] rfl ?_
      exact hj1 (0 : Int32) gx_b0
    · refine gx_iconst (pc := 28) (v := 1) (by decide) (htX16_taken_2 (28, .iconst 1, 1) (gx_m 16 rfl)) ?_
      refine gx_goto (pc := 29) (tgt := 33) (by decide) (htX16_taken_2 (29, .goto 4, 3) (gx_m 17 rfl)) ?_
      refine gx_Jw (lv := [(0, gx_r 17 (some x0)), (5, gx_i x5), (6, gx_i v1)]) [1, 6, 0] rfl ?_
      exact hj1 (1 : Int32) gx_b1
theorem ct_X16_appended (Y : gx_Y) (x0 : gx_Nm) (x1 : Int32) (x2 : Int32) : gx_Ct Y yX16_appended (ws_ yX16_appended cX16_appended 8 none) 4 170 [gx_r 17 (some x0), gx_i x1, gx_i x2] gx_Ov (f_X16_appended x0 x1 x2) := by
  refine gx_start (lv := [(0, gx_r 17 (some x0)), (1, gx_i x1), (2, gx_i x2)]) gx_Ov_r pn_X16 (Nat.le_of_ble_eq_true rfl) rfl ?_
  unfold f_X16_appended
  refine gx_aload_n (pc := 0) (n := 0) (i := 0) rfl 0 rfl (htX16_appended_0 (0, .aload_n 0, 1) (gx_m 0 rfl)) ?_
  refine gx_Jgs (pc := 1) (ci := 16) (kk := 65) (t2 := 100) (by decide) (by decide) rfl rfl rfl q1739 (htX16_appended_0 (1, .getfield 184, 3) (gx_m 1 rfl)) ?_
  refine gx_iload_n (pc := 4) (n := 2) (i := 2) rfl 2 rfl (htX16_appended_0 (4, .iload_n 2, 1) (gx_m 2 rfl)) ?_
  refine gx_Jia (pc := 5) (htX16_appended_0 (5, .iaload, 1) (gx_m 3 rfl)) (fun v1 => ?_)
  refine gx_istore_n (pc := 6) (n := 3) (i := 3) (lv' := [(3, gx_i v1), (0, gx_r 17 (some x0)), (1, gx_i x1), (2, gx_i x2)]) rfl (by decide) rfl (htX16_appended_0 (6, .istore_n 3, 1) (gx_m 4 rfl)) ?_
  refine gx_aload_n (pc := 7) (n := 0) (i := 0) rfl 1 rfl (htX16_appended_0 (7, .aload_n 0, 1) (gx_m 5 rfl)) ?_
  refine gx_Jgs (pc := 8) (ci := 16) (kk := 67) (t2 := 100) (by decide) (by decide) rfl rfl rfl q1741 (htX16_appended_0 (8, .getfield 190, 3) (gx_m 6 rfl)) ?_
  refine gx_iload_n (pc := 11) (n := 2) (i := 2) rfl 3 rfl (htX16_appended_0 (11, .iload_n 2, 1) (gx_m 7 rfl)) ?_
  refine gx_Jia (pc := 12) (htX16_appended_0 (12, .iaload, 1) (gx_m 8 rfl)) (fun v2 => ?_)
  refine gx_aload_n (pc := 13) (n := 0) (i := 0) rfl 1 rfl (htX16_appended_0 (13, .aload_n 0, 1) (gx_m 9 rfl)) ?_
  refine gx_Jgs (pc := 14) (ci := 16) (kk := 31) (t2 := 100) (by decide) (by decide) rfl rfl rfl q1705 (htX16_appended_0 (14, .getfield 80, 3) (gx_m 10 rfl)) ?_
  refine gx_iload_n (pc := 17) (n := 1) (i := 1) rfl 2 rfl (htX16_appended_0 (17, .iload_n 1, 1) (gx_m 11 rfl)) ?_
  refine gx_Jia (pc := 18) (htX16_appended_0 (18, .iaload, 1) (gx_m 12 rfl)) (fun v3 => ?_)
  refine gx_icmp_ge (pc := 19) (tgt := 32) (by decide) (htX16_appended_0 (19, .if_icmp .ge 13, 3) (gx_m 13 rfl)) (fun c1 => ?_) (fun c1 => ?_)
  · refine gx_aload_n (pc := 32) (n := 0) (i := 0) rfl 1 rfl (htX16_appended_0 (32, .aload_n 0, 1) (gx_m 22 rfl)) ?_
    refine gx_iload_n (pc := 33) (n := 1) (i := 1) rfl 2 rfl (htX16_appended_0 (33, .iload_n 1, 1) (gx_m 23 rfl)) ?_
    refine gx_iconst (pc := 34) (v := 0) (by decide) (htX16_appended_0 (34, .iconst 0, 1) (gx_m 24 rfl)) ?_
    refine gx_Jcv (pc := 35) (gx_hst (as := [gx_i x1, gx_i 0]) (b := gx_r 17 (some x0))) (gx_runV (as := [gx_i x1, gx_i 0]) (ci := 16) (ct_X16_leave Y x0 x1 0) (by decide) (Or.inl rfl) rfl rfl rfl rfl q2205 q2207 qs69 q117 q2208 rfl dd_X16_leave (by decide) (by decide) (Nat.le_of_ble_eq_true rfl) (htX16_appended_0 (35, .invokevirtual 484, 3) (gx_m 25 rfl))) ?_
    refine gx_aload_n (pc := 38) (n := 0) (i := 0) rfl 1 rfl (htX16_appended_0 (38, .aload_n 0, 1) (gx_m 26 rfl)) ?_
    refine gx_Jgs (pc := 39) (ci := 16) (kk := 46) (t2 := 100) (by decide) (by decide) rfl rfl rfl q1720 (htX16_appended_0 (39, .getfield 127, 3) (gx_m 27 rfl)) ?_
    refine gx_iload_n (pc := 42) (n := 1) (i := 1) rfl 2 rfl (htX16_appended_0 (42, .iload_n 1, 1) (gx_m 28 rfl)) ?_
    refine gx_iload_n (pc := 43) (n := 3) (i := 3) rfl 0 rfl (htX16_appended_0 (43, .iload_n 3, 1) (gx_m 29 rfl)) ?_
    refine gx_Jis (pc := 44) (htX16_appended_0 (44, .iastore, 1) (gx_m 30 rfl)) ?_
    refine gx_aload_n (pc := 45) (n := 0) (i := 0) rfl 1 rfl (htX16_appended_0 (45, .aload_n 0, 1) (gx_m 31 rfl)) ?_
    refine gx_Jgs (pc := 46) (ci := 16) (kk := 68) (t2 := 100) (by decide) (by decide) rfl rfl rfl q1742 (htX16_appended_0 (46, .getfield 193, 3) (gx_m 32 rfl)) ?_
    refine gx_iload_n (pc := 49) (n := 2) (i := 2) rfl 3 rfl (htX16_appended_0 (49, .iload_n 2, 1) (gx_m 33 rfl)) ?_
    refine gx_Jia (pc := 50) (htX16_appended_0 (50, .iaload, 1) (gx_m 34 rfl)) (fun v4 => ?_)
    refine gx_istore (pc := 51) (i := 4) (lv' := [(4, gx_i v4), (3, gx_i v1), (0, gx_r 17 (some x0)), (1, gx_i x1), (2, gx_i x2)]) (by decide) rfl (htX16_appended_0 (51, .istore 4, 2) (gx_m 35 rfl)) ?_
    refine gx_iload (pc := 53) (i := 4) 0 rfl (htX16_appended_0 (53, .iload 4, 2) (gx_m 36 rfl)) ?_
    refine gx_aload_n (pc := 55) (n := 0) (i := 0) rfl 2 rfl (htX16_appended_0 (55, .aload_n 0, 1) (gx_m 37 rfl)) ?_
    refine gx_Jgs (pc := 56) (ci := 16) (kk := 36) (t2 := 100) (by decide) (by decide) rfl rfl rfl q1710 (htX16_appended_0 (56, .getfield 95, 3) (gx_m 38 rfl)) ?_
    refine gx_iload_n (pc := 59) (n := 1) (i := 1) rfl 3 rfl (htX16_appended_0 (59, .iload_n 1, 1) (gx_m 39 rfl)) ?_
    refine gx_Jia (pc := 60) (htX16_appended_0 (60, .iaload, 1) (gx_m 40 rfl)) (fun v5 => ?_)
    refine gx_Jcond (pcT := 91) (pcE := 118) (lv2 := [(4, gx_i v4), (3, gx_i v1), (0, gx_r 17 (some x0)), (1, gx_i x1), (2, gx_i x2)]) (st2 := []) ?_ ?_ (fun kk2 hT2 hE2 => ?_)
    · refine gx_aload_n (pc := 91) (n := 0) (i := 0) rfl 2 rfl (htX16_appended_0 (91, .aload_n 0, 1) (gx_m 57 rfl)) ?_
      refine gx_iload_n (pc := 92) (n := 1) (i := 1) rfl 3 rfl (htX16_appended_0 (92, .iload_n 1, 1) (gx_m 58 rfl)) ?_
      refine gx_iload_n (pc := 93) (n := 3) (i := 3) rfl 1 rfl (htX16_appended_0 (93, .iload_n 3, 1) (gx_m 59 rfl)) ?_
      refine gx_iconst (pc := 94) (v := 0) (by decide) (htX16_appended_0 (94, .iconst 0, 1) (gx_m 60 rfl)) ?_
      refine gx_iload (pc := 95) (i := 4) 0 rfl (htX16_appended_0 (95, .iload 4, 2) (gx_m 61 rfl)) ?_
      refine gx_iconst (pc := 97) (v := 1) (by decide) (htX16_appended_0 (97, .iconst 1, 1) (gx_m 62 rfl)) ?_
      refine gx_isub (pc := 98) (htX16_appended_0 (98, .isub, 1) (gx_m 63 rfl)) ?_
      refine gx_aload_n (pc := 99) (n := 0) (i := 0) rfl 2 rfl (htX16_appended_0 (99, .aload_n 0, 1) (gx_m 64 rfl)) ?_
      refine gx_Jgs (pc := 100) (ci := 16) (kk := 36) (t2 := 100) (by decide) (by decide) rfl rfl rfl q1710 (htX16_appended_0 (100, .getfield 95, 3) (gx_m 65 rfl)) ?_
      refine gx_iload_n (pc := 103) (n := 1) (i := 1) rfl 3 rfl (htX16_appended_0 (103, .iload_n 1, 1) (gx_m 66 rfl)) ?_
      refine gx_Jia (pc := 104) (htX16_appended_0 (104, .iaload, 1) (gx_m 67 rfl)) (fun v10 => ?_)
      refine gx_Jmin (pc := 105) rfl q2245 q2246 q128 q2247 (by decide) (Nat.le_of_ble_eq_true rfl) (htX16_appended_0 (105, .invokestatic 513, 3) (gx_m 68 rfl)) ?_
      refine gx_aload_n (pc := 108) (n := 0) (i := 0) rfl 2 rfl (htX16_appended_0 (108, .aload_n 0, 1) (gx_m 69 rfl)) ?_
      refine gx_Jgs (pc := 109) (ci := 16) (kk := 71) (t2 := 100) (by decide) (by decide) rfl rfl rfl q1745 (htX16_appended_0 (109, .getfield 202, 3) (gx_m 70 rfl)) ?_
      refine gx_iload_n (pc := 112) (n := 2) (i := 2) rfl 4 rfl (htX16_appended_0 (112, .iload_n 2, 1) (gx_m 71 rfl)) ?_
      refine gx_Jia (pc := 113) (htX16_appended_0 (113, .iaload, 1) (gx_m 72 rfl)) (fun v11 => ?_)
      refine gx_Jcv (pc := 114) (gx_hst (as := [gx_i x1, gx_i v1, gx_i 0, gx_i (gx_min (v4 - 1) v10), gx_i v11]) (b := gx_r 17 (some x0))) (gx_runV (as := [gx_i x1, gx_i v1, gx_i 0, gx_i (gx_min (v4 - 1) v10), gx_i v11]) (ci := 16) (ct_X16_taken_2 Y x0 x1 v1 0 (gx_min (v4 - 1) v10) v11) (by decide) (Or.inl rfl) rfl rfl rfl rfl q2241 q2243 qs76 q117 q2244 rfl dd_X16_taken_2 (by decide) (by decide) (Nat.le_of_ble_eq_true rfl) (htX16_appended_0 (114, .invokevirtual 510, 3) (gx_m 73 rfl))) ?_
      exact gx_Jvret (pc := 117) rfl (fun _ => trivial) (fun _ _ => rfl) (htX16_appended_0 (117, .return_, 1) (gx_m 74 rfl))
    · refine gx_iconst (pc := 118) (v := 0) (by decide) (htX16_appended_0 (118, .iconst 0, 1) (gx_m 75 rfl)) ?_
      refine gx_istore (pc := 119) (i := 5) (lv' := [(5, gx_i 0), (4, gx_i v4), (3, gx_i v1), (0, gx_r 17 (some x0)), (1, gx_i x1), (2, gx_i x2)]) (by decide) rfl (htX16_appended_0 (119, .istore 5, 2) (gx_m 76 rfl)) ?_
      refine gx_Jjoin (pcJ := 218) (lvJ := fun (j_3 : Unit) => [(0, gx_r 17 (some x0)), (1, gx_i x1), (2, gx_i x2), (3, gx_i v1), (4, gx_i v4)]) (stJ := fun (j_3 : Unit) => []) (fun _ => True) (fun j_3 _ => ?_) (fun kk3 hj3 => ?_)
      · refine gx_aload_n (pc := 218) (n := 0) (i := 0) rfl 0 rfl (htX16_appended_1 (218, .aload_n 0, 1) (gx_m 32 rfl)) ?_
        refine gx_iload_n (pc := 219) (n := 1) (i := 1) rfl 1 rfl (htX16_appended_1 (219, .iload_n 1, 1) (gx_m 33 rfl)) ?_
        refine gx_aload_n (pc := 220) (n := 0) (i := 0) rfl 0 rfl (htX16_appended_1 (220, .aload_n 0, 1) (gx_m 34 rfl)) ?_
        refine gx_Jgs (pc := 221) (ci := 16) (kk := 72) (t2 := 100) (by decide) (by decide) rfl rfl rfl q1746 (htX16_appended_1 (221, .getfield 205, 3) (gx_m 35 rfl)) ?_
        refine gx_iload_n (pc := 224) (n := 2) (i := 2) rfl 2 rfl (htX16_appended_1 (224, .iload_n 2, 1) (gx_m 36 rfl)) ?_
        refine gx_Jia (pc := 225) (htX16_appended_1 (225, .iaload, 1) (gx_m 37 rfl)) (fun v22 => ?_)
        refine gx_iload (pc := 226) (i := 4) 4 rfl (htX16_appended_1 (226, .iload 4, 2) (gx_m 38 rfl)) ?_
        refine gx_aload_n (pc := 228) (n := 0) (i := 0) rfl 0 rfl (htX16_appended_1 (228, .aload_n 0, 1) (gx_m 39 rfl)) ?_
        refine gx_Jgs (pc := 229) (ci := 16) (kk := 70) (t2 := 100) (by decide) (by decide) rfl rfl rfl q1744 (htX16_appended_1 (229, .getfield 199, 3) (gx_m 40 rfl)) ?_
        refine gx_iload_n (pc := 232) (n := 2) (i := 2) rfl 2 rfl (htX16_appended_1 (232, .iload_n 2, 1) (gx_m 41 rfl)) ?_
        refine gx_Jia (pc := 233) (htX16_appended_1 (233, .iaload, 1) (gx_m 42 rfl)) (fun v23 => ?_)
        refine gx_iadd (pc := 234) (htX16_appended_1 (234, .iadd, 1) (gx_m 43 rfl)) ?_
        refine gx_Jmin (pc := 235) rfl q2245 q2246 q128 q2247 (by decide) (Nat.le_of_ble_eq_true rfl) (htX16_appended_1 (235, .invokestatic 513, 3) (gx_m 44 rfl)) ?_
        refine gx_Jcv (pc := 238) (gx_hst (as := [gx_i x1, gx_i (gx_min v22 (v4 + v23))]) (b := gx_r 17 (some x0))) (gx_runV (as := [gx_i x1, gx_i (gx_min v22 (v4 + v23))]) (ci := 16) (ct_X16_applyTo Y x0 x1 (gx_min v22 (v4 + v23))) (by decide) (Or.inl rfl) rfl rfl rfl rfl q2190 q2192 qs67 q117 q2193 rfl dd_X16_applyTo (by decide) (by decide) (Nat.le_of_ble_eq_true rfl) (htX16_appended_1 (238, .invokevirtual 504, 3) (gx_m 45 rfl))) ?_
        refine gx_aload_n (pc := 241) (n := 0) (i := 0) rfl 0 rfl (htX16_appended_1 (241, .aload_n 0, 1) (gx_m 46 rfl)) ?_
        refine gx_iload_n (pc := 242) (n := 1) (i := 1) rfl 1 rfl (htX16_appended_1 (242, .iload_n 1, 1) (gx_m 47 rfl)) ?_
        refine gx_iload_n (pc := 243) (n := 3) (i := 3) rfl 3 rfl (htX16_appended_1 (243, .iload_n 3, 1) (gx_m 48 rfl)) ?_
        refine gx_iconst (pc := 244) (v := 1) (by decide) (htX16_appended_1 (244, .iconst 1, 1) (gx_m 49 rfl)) ?_
        refine gx_iload (pc := 245) (i := 4) 4 rfl (htX16_appended_1 (245, .iload 4, 2) (gx_m 50 rfl)) ?_
        refine gx_aload_n (pc := 247) (n := 0) (i := 0) rfl 0 rfl (htX16_appended_1 (247, .aload_n 0, 1) (gx_m 51 rfl)) ?_
        refine gx_Jgs (pc := 248) (ci := 16) (kk := 70) (t2 := 100) (by decide) (by decide) rfl rfl rfl q1744 (htX16_appended_1 (248, .getfield 199, 3) (gx_m 52 rfl)) ?_
        refine gx_iload_n (pc := 251) (n := 2) (i := 2) rfl 2 rfl (htX16_appended_1 (251, .iload_n 2, 1) (gx_m 53 rfl)) ?_
        refine gx_Jia (pc := 252) (htX16_appended_1 (252, .iaload, 1) (gx_m 54 rfl)) (fun v24 => ?_)
        refine gx_iadd (pc := 253) (htX16_appended_1 (253, .iadd, 1) (gx_m 55 rfl)) ?_
        refine gx_aload_n (pc := 254) (n := 0) (i := 0) rfl 0 rfl (htX16_appended_1 (254, .aload_n 0, 1) (gx_m 56 rfl)) ?_
        refine gx_Jgs (pc := 255) (ci := 16) (kk := 71) (t2 := 100) (by decide) (by decide) rfl rfl rfl q1745 (htX16_appended_1 (255, .getfield 202, 3) (gx_m 57 rfl)) ?_
        refine gx_iload_n (pc := 258) (n := 2) (i := 2) rfl 2 rfl (htX16_appended_1 (258, .iload_n 2, 1) (gx_m 58 rfl)) ?_
        refine gx_Jia (pc := 259) (htX16_appended_1 (259, .iaload, 1) (gx_m 59 rfl)) (fun v25 => ?_)
        refine gx_Jcv (pc := 260) (gx_hst (as := [gx_i x1, gx_i v1, gx_i 1, gx_i (v4 + v24), gx_i v25]) (b := gx_r 17 (some x0))) (gx_runV (as := [gx_i x1, gx_i v1, gx_i 1, gx_i (v4 + v24), gx_i v25]) (ci := 16) (ct_X16_taken_2 Y x0 x1 v1 1 (v4 + v24) v25) (by decide) (Or.inl rfl) rfl rfl rfl rfl q2241 q2243 qs76 q117 q2244 rfl dd_X16_taken_2 (by decide) (by decide) (Nat.le_of_ble_eq_true rfl) (htX16_appended_1 (260, .invokevirtual 510, 3) (gx_m 60 rfl))) ?_
        exact gx_Jvret (pc := 263) rfl (fun _ => trivial) (fun _ _ => rfl) (htX16_appended_1 (263, .return_, 1) (gx_m 61 rfl))
      · refine gx_Jw (lv := [(0, gx_r 17 (some x0)), (1, gx_i x1), (2, gx_i x2), (3, gx_i v1), (4, gx_i v4), (5, gx_i 0)]) [3, 4, 5, 2, 1, 0] rfl ?_
        refine gx_Jlp (pc := 121) (lvh := fun (s12 : Int32) => [(0, gx_r 17 (some x0)), (1, gx_i x1), (2, gx_i x2), (3, gx_i v1), (4, gx_i v4), (5, gx_i s12)]) (fun s12 kl3 ha3 hb3 => ?_) _
        unfold lb_X16_appended_1
        refine gx_iload (pc := 121) (i := 5) 5 rfl (htX16_appended_0 (121, .iload 5, 2) (gx_m 77 rfl)) ?_
        refine gx_aload_n (pc := 123) (n := 0) (i := 0) rfl 0 rfl (htX16_appended_0 (123, .aload_n 0, 1) (gx_m 78 rfl)) ?_
        refine gx_Jgs (pc := 124) (ci := 16) (kk := 70) (t2 := 100) (by decide) (by decide) rfl rfl rfl q1744 (htX16_appended_0 (124, .getfield 199, 3) (gx_m 79 rfl)) ?_
        refine gx_iload_n (pc := 127) (n := 2) (i := 2) rfl 2 rfl (htX16_appended_0 (127, .iload_n 2, 1) (gx_m 80 rfl)) ?_
        refine gx_Jia (pc := 128) (htX16_appended_0 (128, .iaload, 1) (gx_m 81 rfl)) (fun v13 => ?_)
        refine gx_icmp_ge (pc := 129) (tgt := 218) (by decide) (htX16_appended_0 (129, .if_icmp .ge 89, 3) (gx_m 82 rfl)) (fun c4 => ?_) (fun c4 => ?_)
        · refine gx_Jw (lv := [(0, gx_r 17 (some x0)), (1, gx_i x1), (2, gx_i x2), (3, gx_i v1), (4, gx_i v4)]) [0, 1, 2, 3, 4] rfl ?_
          exact gx_Jout hb3 (hj3 () trivial)
        · refine gx_iload (pc := 132) (i := 4) 4 rfl (htX16_appended_0 (132, .iload 4, 2) (gx_m 83 rfl)) ?_
          refine gx_iconst (pc := 134) (v := 1) (by decide) (htX16_appended_0 (134, .iconst 1, 1) (gx_m 84 rfl)) ?_
          refine gx_iadd (pc := 135) (htX16_appended_0 (135, .iadd, 1) (gx_m 85 rfl)) ?_
          refine gx_iload (pc := 136) (i := 5) 5 rfl (htX16_appended_0 (136, .iload 5, 2) (gx_m 86 rfl)) ?_
          refine gx_iadd (pc := 138) (htX16_appended_0 (138, .iadd, 1) (gx_m 87 rfl)) ?_
          refine gx_istore (pc := 139) (i := 6) (lv' := [(6, gx_i ((v4 + 1) + s12)), (0, gx_r 17 (some x0)), (1, gx_i x1), (2, gx_i x2), (3, gx_i v1), (4, gx_i v4), (5, gx_i s12)]) (by decide) rfl (htX16_appended_0 (139, .istore 6, 2) (gx_m 88 rfl)) ?_
          refine gx_aload_n (pc := 141) (n := 0) (i := 0) rfl 1 rfl (htX16_appended_0 (141, .aload_n 0, 1) (gx_m 89 rfl)) ?_
          refine gx_Jgs (pc := 142) (ci := 16) (kk := 74) (t2 := 100) (by decide) (by decide) rfl rfl rfl q1748 (htX16_appended_0 (142, .getfield 212, 3) (gx_m 90 rfl)) ?_
          refine gx_iconst (pc := 145) (v := 4) (by decide) (htX16_appended_0 (145, .iconst 4, 1) (gx_m 91 rfl)) ?_
          refine gx_iload_n (pc := 146) (n := 2) (i := 2) rfl 3 rfl (htX16_appended_0 (146, .iload_n 2, 1) (gx_m 92 rfl)) ?_
          refine gx_imul (pc := 147) (htX16_appended_0 (147, .imul, 1) (gx_m 93 rfl)) ?_
          refine gx_iload (pc := 148) (i := 5) 6 rfl (htX16_appended_0 (148, .iload 5, 2) (gx_m 94 rfl)) ?_
          refine gx_iadd (pc := 150) (htX16_appended_0 (150, .iadd, 1) (gx_m 95 rfl)) ?_
          refine gx_Jia (pc := 151) (htX16_appended_0 (151, .iaload, 1) (gx_m 96 rfl)) (fun v14 => ?_)
          refine gx_istore (pc := 152) (i := 7) (lv' := [(7, gx_i v14), (6, gx_i ((v4 + 1) + s12)), (0, gx_r 17 (some x0)), (1, gx_i x1), (2, gx_i x2), (3, gx_i v1), (4, gx_i v4), (5, gx_i s12)]) (by decide) rfl (htX16_appended_0 (152, .istore 7, 2) (gx_m 97 rfl)) ?_
          refine gx_iload (pc := 154) (i := 6) 1 rfl (htX16_appended_0 (154, .iload 6, 2) (gx_m 98 rfl)) ?_
          refine gx_aload_n (pc := 156) (n := 0) (i := 0) rfl 2 rfl (htX16_appended_0 (156, .aload_n 0, 1) (gx_m 99 rfl)) ?_
          refine gx_Jgs (pc := 157) (ci := 16) (kk := 33) (t2 := 100) (by decide) (by decide) rfl rfl rfl q1707 (htX16_appended_1 (157, .getfield 86, 3) (gx_m 0 rfl)) ?_
          refine gx_iload_n (pc := 160) (n := 1) (i := 1) rfl 3 rfl (htX16_appended_1 (160, .iload_n 1, 1) (gx_m 1 rfl)) ?_
          refine gx_Jia (pc := 161) (htX16_appended_1 (161, .iaload, 1) (gx_m 2 rfl)) (fun v15 => ?_)
          refine gx_Jjoin (pcJ := 212) (lvJ := fun (j_5 : Unit) => [(0, gx_r 17 (some x0)), (1, gx_i x1), (2, gx_i x2), (3, gx_i v1), (4, gx_i v4), (5, gx_i s12)]) (stJ := fun (j_5 : Unit) => []) (fun _ => True) (fun j_5 hj_5 => ?_) (fun kk5 hj5 => ?_)
          · refine gx_iinc (pc := 212) (i := 5) (j := 5) (v := (s12 + 1)) (lv' := [(5, gx_i (s12 + 1)), (0, gx_r 17 (some x0)), (1, gx_i x1), (2, gx_i x2), (3, gx_i v1), (4, gx_i v4)]) rfl (gx_iv (by decide)) (by decide) rfl (htX16_appended_1 (212, .iinc 5 1, 3) (gx_m 30 rfl)) ?_
            refine gx_goto (pc := 215) (tgt := 121) (by decide) (htX16_appended_1 (215, .goto (-94), 3) (gx_m 31 rfl)) ?_
            refine gx_Jw (lv := [(0, gx_r 17 (some x0)), (1, gx_i x1), (2, gx_i x2), (3, gx_i v1), (4, gx_i v4), (5, gx_i (s12 + 1))]) [1, 2, 3, 4, 5, 0] rfl ?_
            exact ha3 ((s12 + 1) : Int32)
          · refine gx_icmp_le (pc := 162) (tgt := 212) (by decide) (htX16_appended_1 (162, .if_icmp .le 50, 3) (gx_m 3 rfl)) (fun c6 => ?_) (fun c6 => ?_)
            · refine gx_Jw (lv := [(0, gx_r 17 (some x0)), (1, gx_i x1), (2, gx_i x2), (3, gx_i v1), (4, gx_i v4), (5, gx_i s12)]) [2, 3, 4, 5, 6, 7] rfl ?_
              exact hj5 () trivial
            · refine gx_iload (pc := 165) (i := 6) 1 rfl (htX16_appended_1 (165, .iload 6, 2) (gx_m 4 rfl)) ?_
              refine gx_aload_n (pc := 167) (n := 0) (i := 0) rfl 2 rfl (htX16_appended_1 (167, .aload_n 0, 1) (gx_m 5 rfl)) ?_
              refine gx_Jgs (pc := 168) (ci := 16) (kk := 36) (t2 := 100) (by decide) (by decide) rfl rfl rfl q1710 (htX16_appended_1 (168, .getfield 95, 3) (gx_m 6 rfl)) ?_
              refine gx_iload_n (pc := 171) (n := 1) (i := 1) rfl 3 rfl (htX16_appended_1 (171, .iload_n 1, 1) (gx_m 7 rfl)) ?_
              refine gx_Jia (pc := 172) (htX16_appended_1 (172, .iaload, 1) (gx_m 8 rfl)) (fun v16 => ?_)
              refine gx_Jcond (pcT := 200) (pcE := 203) (lv2 := [(7, gx_i v14), (6, gx_i ((v4 + 1) + s12)), (0, gx_r 17 (some x0)), (1, gx_i x1), (2, gx_i x2), (3, gx_i v1), (4, gx_i v4), (5, gx_i s12)]) (st2 := []) ?_ ?_ (fun kk7 hT7 hE7 => ?_)
              · refine gx_goto (pc := 200) (tgt := 212) (by decide) (htX16_appended_1 (200, .goto 12, 3) (gx_m 24 rfl)) ?_
                refine gx_Jw (lv := [(0, gx_r 17 (some x0)), (1, gx_i x1), (2, gx_i x2), (3, gx_i v1), (4, gx_i v4), (5, gx_i s12)]) [2, 3, 4, 5, 6, 7] rfl ?_
                exact hj5 () trivial
              · refine gx_aload_n (pc := 203) (n := 0) (i := 0) rfl 2 rfl (htX16_appended_1 (203, .aload_n 0, 1) (gx_m 25 rfl)) ?_
                refine gx_iload_n (pc := 204) (n := 1) (i := 1) rfl 3 rfl (htX16_appended_1 (204, .iload_n 1, 1) (gx_m 26 rfl)) ?_
                refine gx_iload (pc := 205) (i := 6) 1 rfl (htX16_appended_1 (205, .iload 6, 2) (gx_m 27 rfl)) ?_
                refine gx_iload (pc := 207) (i := 7) 0 rfl (htX16_appended_1 (207, .iload 7, 2) (gx_m 28 rfl)) ?_
                refine gx_Jcv (pc := 209) (gx_hst (as := [gx_i x1, gx_i ((v4 + 1) + s12), gx_i v14]) (b := gx_r 17 (some x0))) (gx_runV (as := [gx_i x1, gx_i ((v4 + 1) + s12), gx_i v14]) (ci := 16) (ct_X16_add Y x0 x1 ((v4 + 1) + s12) v14) (by decide) (Or.inl rfl) rfl rfl rfl rfl q2122 q2124 qs53 q117 q2125 rfl dd_X16_add (by decide) (by decide) (Nat.le_of_ble_eq_true rfl) (htX16_appended_1 (209, .invokevirtual 498, 3) (gx_m 29 rfl))) ?_
                refine gx_Jw (lv := [(0, gx_r 17 (some x0)), (1, gx_i x1), (2, gx_i x2), (3, gx_i v1), (4, gx_i v4), (5, gx_i s12)]) [2, 3, 4, 5, 6, 7] rfl ?_
                exact hj5 () trivial
              · refine gx_icmp_gt (pc := 173) (tgt := 203) (by decide) (htX16_appended_1 (173, .if_icmp .gt 30, 3) (gx_m 9 rfl)) (fun c8 => ?_) (fun c8 => ?_)
                · exact hE7
                · refine gx_aload_n (pc := 176) (n := 0) (i := 0) rfl 2 rfl (htX16_appended_1 (176, .aload_n 0, 1) (gx_m 10 rfl)) ?_
                  refine gx_Jgs (pc := 177) (ci := 16) (kk := 8) (t2 := 100) (by decide) (by decide) rfl rfl rfl q1682 (htX16_appended_1 (177, .getfield 19, 3) (gx_m 11 rfl)) ?_
                  refine gx_aload_n (pc := 180) (n := 0) (i := 0) rfl 2 rfl (htX16_appended_1 (180, .aload_n 0, 1) (gx_m 12 rfl)) ?_
                  refine gx_Jgs (pc := 181) (ci := 16) (kk := 37) (t2 := 105) (by decide) (by decide) rfl rfl rfl q1711 (htX16_appended_1 (181, .getfield 100, 3) (gx_m 13 rfl)) ?_
                  refine gx_iload_n (pc := 184) (n := 1) (i := 1) rfl 3 rfl (htX16_appended_1 (184, .iload_n 1, 1) (gx_m 14 rfl)) ?_
                  refine gx_Jra (pc := 185) (t := 5) (t2 := 100) (by decide) (by decide) rfl (htX16_appended_1 (185, .aaload, 1) (gx_m 15 rfl)) (fun v17 => ?_)
                  refine gx_iload (pc := 186) (i := 6) 1 rfl (htX16_appended_1 (186, .iload 6, 2) (gx_m 16 rfl)) ?_
                  refine gx_Jia (pc := 188) (htX16_appended_1 (188, .iaload, 1) (gx_m 17 rfl)) (fun v18 => ?_)
                  refine gx_Jia (pc := 189) (htX16_appended_1 (189, .iaload, 1) (gx_m 18 rfl)) (fun v19 => ?_)
                  refine gx_aload_n (pc := 190) (n := 0) (i := 0) rfl 2 rfl (htX16_appended_1 (190, .aload_n 0, 1) (gx_m 19 rfl)) ?_
                  refine gx_Jgs (pc := 191) (ci := 16) (kk := 8) (t2 := 100) (by decide) (by decide) rfl rfl rfl q1682 (htX16_appended_1 (191, .getfield 19, 3) (gx_m 20 rfl)) ?_
                  refine gx_iload (pc := 194) (i := 7) 0 rfl (htX16_appended_1 (194, .iload 7, 2) (gx_m 21 rfl)) ?_
                  refine gx_Jia (pc := 196) (htX16_appended_1 (196, .iaload, 1) (gx_m 22 rfl)) (fun v20 => ?_)
                  refine gx_icmp_ne (pc := 197) (tgt := 203) (by decide) (htX16_appended_1 (197, .if_icmp .ne 6, 3) (gx_m 23 rfl)) (fun c9 => ?_) (fun c9 => ?_)
                  · exact hT7
                  · exact hE7
    · refine gx_icmp_gt (pc := 61) (tgt := 91) (by decide) (htX16_appended_0 (61, .if_icmp .gt 30, 3) (gx_m 41 rfl)) (fun c10 => ?_) (fun c10 => ?_)
      · exact hT2
      · refine gx_iload (pc := 64) (i := 4) 0 rfl (htX16_appended_0 (64, .iload 4, 2) (gx_m 42 rfl)) ?_
        refine gx_aload_n (pc := 66) (n := 0) (i := 0) rfl 2 rfl (htX16_appended_0 (66, .aload_n 0, 1) (gx_m 43 rfl)) ?_
        refine gx_Jgs (pc := 67) (ci := 16) (kk := 33) (t2 := 100) (by decide) (by decide) rfl rfl rfl q1707 (htX16_appended_0 (67, .getfield 86, 3) (gx_m 44 rfl)) ?_
        refine gx_iload_n (pc := 70) (n := 1) (i := 1) rfl 3 rfl (htX16_appended_0 (70, .iload_n 1, 1) (gx_m 45 rfl)) ?_
        refine gx_Jia (pc := 71) (htX16_appended_0 (71, .iaload, 1) (gx_m 46 rfl)) (fun v6 => ?_)
        refine gx_icmp_lt (pc := 72) (tgt := 118) (by decide) (htX16_appended_0 (72, .if_icmp .lt 46, 3) (gx_m 47 rfl)) (fun c11 => ?_) (fun c11 => ?_)
        · exact hE2
        · refine gx_aload_n (pc := 75) (n := 0) (i := 0) rfl 2 rfl (htX16_appended_0 (75, .aload_n 0, 1) (gx_m 48 rfl)) ?_
          refine gx_iload_n (pc := 76) (n := 1) (i := 1) rfl 3 rfl (htX16_appended_0 (76, .iload_n 1, 1) (gx_m 49 rfl)) ?_
          refine gx_iload (pc := 77) (i := 4) 0 rfl (htX16_appended_0 (77, .iload 4, 2) (gx_m 50 rfl)) ?_
          refine gx_Jci (pc := 79) (gx_hst (as := [gx_i x1, gx_i v4]) (b := gx_r 17 (some x0))) (gx_runV (as := [gx_i x1, gx_i v4]) (ci := 16) (ct_X16_termAt Y x0 x1 v4) (by decide) (Or.inl rfl) rfl rfl rfl rfl q2150 q2152 qs60 q117 q2153 rfl dd_X16_termAt (by decide) (by decide) (Nat.le_of_ble_eq_true rfl) (htX16_appended_0 (79, .invokevirtual 461, 3) (gx_m 51 rfl))) (fun v7 => ?_)
          refine gx_aload_n (pc := 82) (n := 0) (i := 0) rfl 2 rfl (htX16_appended_0 (82, .aload_n 0, 1) (gx_m 52 rfl)) ?_
          refine gx_Jgs (pc := 83) (ci := 16) (kk := 69) (t2 := 100) (by decide) (by decide) rfl rfl rfl q1743 (htX16_appended_0 (83, .getfield 196, 3) (gx_m 53 rfl)) ?_
          refine gx_iload_n (pc := 86) (n := 2) (i := 2) rfl 4 rfl (htX16_appended_0 (86, .iload_n 2, 1) (gx_m 54 rfl)) ?_
          refine gx_Jia (pc := 87) (htX16_appended_0 (87, .iaload, 1) (gx_m 55 rfl)) (fun v8 => ?_)
          refine gx_icmp_eq (pc := 88) (tgt := 118) (by decide) (htX16_appended_0 (88, .if_icmp .eq 30, 3) (gx_m 56 rfl)) (fun c12 => ?_) (fun c12 => ?_)
          · exact hE2
          · exact hT2
  · refine gx_aload_n (pc := 22) (n := 0) (i := 0) rfl 1 rfl (htX16_appended_0 (22, .aload_n 0, 1) (gx_m 14 rfl)) ?_
    refine gx_iload_n (pc := 23) (n := 1) (i := 1) rfl 2 rfl (htX16_appended_0 (23, .iload_n 1, 1) (gx_m 15 rfl)) ?_
    refine gx_iload_n (pc := 24) (n := 3) (i := 3) rfl 0 rfl (htX16_appended_0 (24, .iload_n 3, 1) (gx_m 16 rfl)) ?_
    refine gx_iconst (pc := 25) (v := 0) (by decide) (htX16_appended_0 (25, .iconst 0, 1) (gx_m 17 rfl)) ?_
    refine gx_iconst (pc := 26) (v := 0) (by decide) (htX16_appended_0 (26, .iconst 0, 1) (gx_m 18 rfl)) ?_
    refine gx_iconst (pc := 27) (v := 0) (by decide) (htX16_appended_0 (27, .iconst 0, 1) (gx_m 19 rfl)) ?_
    refine gx_Jcv (pc := 28) (gx_hst (as := [gx_i x1, gx_i v1, gx_i 0, gx_i 0, gx_i 0]) (b := gx_r 17 (some x0))) (gx_runV (as := [gx_i x1, gx_i v1, gx_i 0, gx_i 0, gx_i 0]) (ci := 16) (ct_X16_taken_2 Y x0 x1 v1 0 0 0) (by decide) (Or.inl rfl) rfl rfl rfl rfl q2241 q2243 qs76 q117 q2244 rfl dd_X16_taken_2 (by decide) (by decide) (Nat.le_of_ble_eq_true rfl) (htX16_appended_0 (28, .invokevirtual 510, 3) (gx_m 20 rfl))) ?_
    exact gx_Jvret (pc := 31) rfl (fun _ => trivial) (fun _ _ => rfl) (htX16_appended_0 (31, .return_, 1) (gx_m 21 rfl))
theorem ct_X16_field (Y : gx_Y) (x0 : gx_Nm) (x1 : Int32) : gx_Ct Y yX16_field (ws_ yX16_field cX16_field 2 (some (.array .int))) 1 100 [gx_r 17 (some x0), gx_i x1] (gx_Or Y 100) (f_X16_field x0 x1) := by
  refine gx_start (lv := [(0, gx_r 17 (some x0)), (1, gx_i x1)]) gx_Or_r pn_X16 (Nat.le_of_ble_eq_true rfl) rfl ?_
  unfold f_X16_field
  refine gx_iload_n (pc := 0) (n := 1) (i := 1) rfl 1 rfl (htX16_field (0, .iload_n 1, 1) (gx_m 0 rfl)) ?_
  refine gx_Jite (fun c1 => ?_) (fun c1 => ?_)
  · refine gx_Jtab (pc := 1) (tgt := 44) (htX16_field (1, .tableswitch 78 0 6 #[43, 48, 53, 58, 63, 68, 73], 43) (gx_m 1 rfl)) (by decide) (gx_tD c1 (by decide)) (gx_tI c1 (by decide)) ?_
    refine gx_aload_n (pc := 44) (n := 0) (i := 0) rfl 0 rfl (htX16_field (44, .aload_n 0, 1) (gx_m 2 rfl)) ?_
    refine gx_Jgs (pc := 45) (ci := 16) (kk := 97) (t2 := 100) (by decide) (by decide) rfl rfl rfl q1771 (htX16_field (45, .getfield 264, 3) (gx_m 3 rfl)) ?_
    exact gx_Jaret (pc := 48) rfl (Or.inr ⟨_, rfl⟩) (fun _ h => h) (fun _ _ => rfl) (htX16_field (48, .areturn, 1) (gx_m 4 rfl))
  · refine gx_Jite (fun c2 => ?_) (fun c2 => ?_)
    · refine gx_Jtab (pc := 1) (tgt := 49) (htX16_field (1, .tableswitch 78 0 6 #[43, 48, 53, 58, 63, 68, 73], 43) (gx_m 1 rfl)) (by decide) (gx_tD c2 (by decide)) (gx_tI c2 (by decide)) ?_
      refine gx_aload_n (pc := 49) (n := 0) (i := 0) rfl 0 rfl (htX16_field (49, .aload_n 0, 1) (gx_m 5 rfl)) ?_
      refine gx_Jgs (pc := 50) (ci := 16) (kk := 98) (t2 := 100) (by decide) (by decide) rfl rfl rfl q1772 (htX16_field (50, .getfield 267, 3) (gx_m 6 rfl)) ?_
      exact gx_Jaret (pc := 53) rfl (Or.inr ⟨_, rfl⟩) (fun _ h => h) (fun _ _ => rfl) (htX16_field (53, .areturn, 1) (gx_m 7 rfl))
    · refine gx_Jite (fun c3 => ?_) (fun c3 => ?_)
      · refine gx_Jtab (pc := 1) (tgt := 54) (htX16_field (1, .tableswitch 78 0 6 #[43, 48, 53, 58, 63, 68, 73], 43) (gx_m 1 rfl)) (by decide) (gx_tD c3 (by decide)) (gx_tI c3 (by decide)) ?_
        refine gx_aload_n (pc := 54) (n := 0) (i := 0) rfl 0 rfl (htX16_field (54, .aload_n 0, 1) (gx_m 8 rfl)) ?_
        refine gx_Jgs (pc := 55) (ci := 16) (kk := 99) (t2 := 100) (by decide) (by decide) rfl rfl rfl q1773 (htX16_field (55, .getfield 270, 3) (gx_m 9 rfl)) ?_
        exact gx_Jaret (pc := 58) rfl (Or.inr ⟨_, rfl⟩) (fun _ h => h) (fun _ _ => rfl) (htX16_field (58, .areturn, 1) (gx_m 10 rfl))
      · refine gx_Jite (fun c4 => ?_) (fun c4 => ?_)
        · refine gx_Jtab (pc := 1) (tgt := 59) (htX16_field (1, .tableswitch 78 0 6 #[43, 48, 53, 58, 63, 68, 73], 43) (gx_m 1 rfl)) (by decide) (gx_tD c4 (by decide)) (gx_tI c4 (by decide)) ?_
          refine gx_aload_n (pc := 59) (n := 0) (i := 0) rfl 0 rfl (htX16_field (59, .aload_n 0, 1) (gx_m 11 rfl)) ?_
          refine gx_Jgs (pc := 60) (ci := 16) (kk := 100) (t2 := 100) (by decide) (by decide) rfl rfl rfl q1774 (htX16_field (60, .getfield 273, 3) (gx_m 12 rfl)) ?_
          exact gx_Jaret (pc := 63) rfl (Or.inr ⟨_, rfl⟩) (fun _ h => h) (fun _ _ => rfl) (htX16_field (63, .areturn, 1) (gx_m 13 rfl))
        · refine gx_Jite (fun c5 => ?_) (fun c5 => ?_)
          · refine gx_Jtab (pc := 1) (tgt := 64) (htX16_field (1, .tableswitch 78 0 6 #[43, 48, 53, 58, 63, 68, 73], 43) (gx_m 1 rfl)) (by decide) (gx_tD c5 (by decide)) (gx_tI c5 (by decide)) ?_
            refine gx_aload_n (pc := 64) (n := 0) (i := 0) rfl 0 rfl (htX16_field (64, .aload_n 0, 1) (gx_m 14 rfl)) ?_
            refine gx_Jgs (pc := 65) (ci := 16) (kk := 101) (t2 := 100) (by decide) (by decide) rfl rfl rfl q1775 (htX16_field (65, .getfield 276, 3) (gx_m 15 rfl)) ?_
            exact gx_Jaret (pc := 68) rfl (Or.inr ⟨_, rfl⟩) (fun _ h => h) (fun _ _ => rfl) (htX16_field (68, .areturn, 1) (gx_m 16 rfl))
          · refine gx_Jite (fun c6 => ?_) (fun c6 => ?_)
            · refine gx_Jtab (pc := 1) (tgt := 69) (htX16_field (1, .tableswitch 78 0 6 #[43, 48, 53, 58, 63, 68, 73], 43) (gx_m 1 rfl)) (by decide) (gx_tD c6 (by decide)) (gx_tI c6 (by decide)) ?_
              refine gx_aload_n (pc := 69) (n := 0) (i := 0) rfl 0 rfl (htX16_field (69, .aload_n 0, 1) (gx_m 17 rfl)) ?_
              refine gx_Jgs (pc := 70) (ci := 16) (kk := 102) (t2 := 100) (by decide) (by decide) rfl rfl rfl q1776 (htX16_field (70, .getfield 279, 3) (gx_m 18 rfl)) ?_
              exact gx_Jaret (pc := 73) rfl (Or.inr ⟨_, rfl⟩) (fun _ h => h) (fun _ _ => rfl) (htX16_field (73, .areturn, 1) (gx_m 19 rfl))
            · refine gx_Jite (fun c7 => ?_) (fun c7 => ?_)
              · refine gx_Jtab (pc := 1) (tgt := 74) (htX16_field (1, .tableswitch 78 0 6 #[43, 48, 53, 58, 63, 68, 73], 43) (gx_m 1 rfl)) (by decide) (gx_tD c7 (by decide)) (gx_tI c7 (by decide)) ?_
                refine gx_aload_n (pc := 74) (n := 0) (i := 0) rfl 0 rfl (htX16_field (74, .aload_n 0, 1) (gx_m 20 rfl)) ?_
                refine gx_Jgs (pc := 75) (ci := 16) (kk := 103) (t2 := 100) (by decide) (by decide) rfl rfl rfl q1777 (htX16_field (75, .getfield 282, 3) (gx_m 21 rfl)) ?_
                exact gx_Jaret (pc := 78) rfl (Or.inr ⟨_, rfl⟩) (fun _ h => h) (fun _ _ => rfl) (htX16_field (78, .areturn, 1) (gx_m 22 rfl))
              · refine gx_Jtab (pc := 1) (tgt := 79) (htX16_field (1, .tableswitch 78 0 6 #[43, 48, 53, 58, 63, 68, 73], 43) (gx_m 1 rfl)) (by decide) (fun _ => by decide) (gx_tN (ks := [0, 1, 2, 3, 4, 5, 6]) (by simp only [List.mem_cons, List.not_mem_nil, or_false, not_or]; exact ⟨c1, c2, c3, c4, c5, c6, c7⟩) (by decide)) ?_
                refine gx_aload_n (pc := 79) (n := 0) (i := 0) rfl 0 rfl (htX16_field (79, .aload_n 0, 1) (gx_m 23 rfl)) ?_
                refine gx_Jgs (pc := 80) (ci := 16) (kk := 104) (t2 := 100) (by decide) (by decide) rfl rfl rfl q1778 (htX16_field (80, .getfield 285, 3) (gx_m 24 rfl)) ?_
                exact gx_Jaret (pc := 83) rfl (Or.inr ⟨_, rfl⟩) (fun _ h => h) (fun _ _ => rfl) (htX16_field (83, .areturn, 1) (gx_m 25 rfl))
theorem ct_X16_remember (Y : gx_Y) (x0 : gx_Nm) : gx_Ct Y yX16_remember (ws_ yX16_remember cX16_remember 3 none) 2 121 [gx_r 17 (some x0)] gx_Ov (f_X16_remember x0) := by
  refine gx_start (lv := [(0, gx_r 17 (some x0))]) gx_Ov_r pn_X16 (Nat.le_of_ble_eq_true rfl) rfl ?_
  unfold f_X16_remember
  refine gx_iconst (pc := 0) (v := 0) (by decide) (htX16_remember (0, .iconst 0, 1) (gx_m 0 rfl)) ?_
  refine gx_istore_n (pc := 1) (n := 1) (i := 1) (lv' := [(1, gx_i 0), (0, gx_r 17 (some x0))]) rfl (by decide) rfl (htX16_remember (1, .istore_n 1, 1) (gx_m 1 rfl)) ?_
  refine gx_Jjoin (pcJ := 45) (lvJ := fun (j_1 : Unit) => [(0, gx_r 17 (some x0))]) (stJ := fun (j_1 : Unit) => []) (fun _ => True) (fun j_1 _ => ?_) (fun kk1 hj1 => ?_)
  · refine gx_aload_n (pc := 45) (n := 0) (i := 0) rfl 0 rfl (htX16_remember (45, .aload_n 0, 1) (gx_m 26 rfl)) ?_
    refine gx_aload_n (pc := 46) (n := 0) (i := 0) rfl 0 rfl (htX16_remember (46, .aload_n 0, 1) (gx_m 27 rfl)) ?_
    refine gx_Jgi (pc := 47) (ci := 16) (kk := 107) (by decide) (Or.inl rfl) (by decide) (by decide) q1781 (htX16_remember (47, .getfield 394, 3) (gx_m 28 rfl)) (fun v7 hv7 => ?_)
    refine gx_Jpi (pc := 50) (ci := 16) (kk := 110) (by decide) (Or.inl rfl) (by decide) rfl rfl q1784 (Or.inl rfl) (htX16_remember (50, .putfield 405, 3) (gx_m 29 rfl)) ?_
    refine gx_iconst (pc := 53) (v := 0) (by decide) (htX16_remember (53, .iconst 0, 1) (gx_m 30 rfl)) ?_
    refine gx_istore_n (pc := 54) (n := 1) (i := 1) (lv' := [(1, gx_i 0), (0, gx_r 17 (some x0))]) rfl (by decide) rfl (htX16_remember (54, .istore_n 1, 1) (gx_m 31 rfl)) ?_
    refine gx_Jjoin (pcJ := 79) (lvJ := fun (j_2 : Unit) => []) (stJ := fun (j_2 : Unit) => []) (fun _ => True) (fun j_2 _ => ?_) (fun kk2 hj2 => ?_)
    · exact gx_Jvret (pc := 79) rfl (fun _ => trivial) (fun _ _ => rfl) (htX16_remember (79, .return_, 1) (gx_m 45 rfl))
    · refine gx_Jw (lv := [(0, gx_r 17 (some x0)), (1, gx_i 0)]) [1, 0] rfl ?_
      refine gx_Jlp (pc := 55) (lvh := fun (s8 : Int32) => [(0, gx_r 17 (some x0)), (1, gx_i s8)]) (fun s8 kl2 ha2 hb2 => ?_) _
      unfold lb_X16_remember_3
      refine gx_iload_n (pc := 55) (n := 1) (i := 1) rfl 1 rfl (htX16_remember (55, .iload_n 1, 1) (gx_m 32 rfl)) ?_
      refine gx_bipush (pc := 56) (v := 100) (by decide) (htX16_remember (56, .bipush 100, 2) (gx_m 33 rfl)) ?_
      refine gx_icmp_ge (pc := 58) (tgt := 79) (by decide) (htX16_remember (58, .if_icmp .ge 21, 3) (gx_m 34 rfl)) (fun c3 => ?_) (fun c3 => ?_)
      · refine gx_Jw (lv := []) [] rfl ?_
        exact gx_Jout hb2 (hj2 () trivial)
      · refine gx_aload_n (pc := 61) (n := 0) (i := 0) rfl 0 rfl (htX16_remember (61, .aload_n 0, 1) (gx_m 35 rfl)) ?_
        refine gx_Jgs (pc := 62) (ci := 16) (kk := 106) (t2 := 102) (by decide) (by decide) rfl rfl rfl q1780 (htX16_remember (62, .getfield 291, 3) (gx_m 36 rfl)) ?_
        refine gx_iload_n (pc := 65) (n := 1) (i := 1) rfl 1 rfl (htX16_remember (65, .iload_n 1, 1) (gx_m 37 rfl)) ?_
        refine gx_aload_n (pc := 66) (n := 0) (i := 0) rfl 0 rfl (htX16_remember (66, .aload_n 0, 1) (gx_m 38 rfl)) ?_
        refine gx_Jgs (pc := 67) (ci := 16) (kk := 105) (t2 := 102) (by decide) (by decide) rfl rfl rfl q1779 (htX16_remember (67, .getfield 288, 3) (gx_m 39 rfl)) ?_
        refine gx_iload_n (pc := 70) (n := 1) (i := 1) rfl 1 rfl (htX16_remember (70, .iload_n 1, 1) (gx_m 40 rfl)) ?_
        refine gx_Jza (pc := 71) (htX16_remember (71, .baload, 1) (gx_m 41 rfl)) (fun v9 => ?_)
        refine gx_Jzs (pc := 72) (htX16_remember (72, .bastore, 1) (gx_m 42 rfl)) ?_
        refine gx_iinc (pc := 73) (i := 1) (j := 1) (v := (s8 + 1)) (lv' := [(1, gx_i (s8 + 1)), (0, gx_r 17 (some x0))]) rfl (gx_iv (by decide)) (by decide) rfl (htX16_remember (73, .iinc 1 1, 3) (gx_m 43 rfl)) ?_
        refine gx_goto (pc := 76) (tgt := 55) (by decide) (htX16_remember (76, .goto (-21), 3) (gx_m 44 rfl)) ?_
        refine gx_Jw (lv := [(0, gx_r 17 (some x0)), (1, gx_i (s8 + 1))]) [1, 0] rfl ?_
        exact ha2 ((s8 + 1) : Int32)
  · refine gx_Jw (lv := [(0, gx_r 17 (some x0)), (1, gx_i 0)]) [1, 0] rfl ?_
    refine gx_Jlp (pc := 2) (lvh := fun (s1 : Int32) => [(0, gx_r 17 (some x0)), (1, gx_i s1)]) (fun s1 kl1 ha1 hb1 => ?_) _
    unfold lb_X16_remember_2
    refine gx_iload_n (pc := 2) (n := 1) (i := 1) rfl 1 rfl (htX16_remember (2, .iload_n 1, 1) (gx_m 2 rfl)) ?_
    refine gx_bipush (pc := 3) (v := 8) (by decide) (htX16_remember (3, .bipush 8, 2) (gx_m 3 rfl)) ?_
    refine gx_icmp_ge (pc := 5) (tgt := 45) (by decide) (htX16_remember (5, .if_icmp .ge 40, 3) (gx_m 4 rfl)) (fun c4 => ?_) (fun c4 => ?_)
    · refine gx_Jw (lv := [(0, gx_r 17 (some x0))]) [0] rfl ?_
      exact gx_Jout hb1 (hj1 () trivial)
    · refine gx_iconst (pc := 8) (v := 0) (by decide) (htX16_remember (8, .iconst 0, 1) (gx_m 5 rfl)) ?_
      refine gx_istore_n (pc := 9) (n := 2) (i := 2) (lv' := [(2, gx_i 0), (0, gx_r 17 (some x0)), (1, gx_i s1)]) rfl (by decide) rfl (htX16_remember (9, .istore_n 2, 1) (gx_m 6 rfl)) ?_
      refine gx_Jjoin (pcJ := 39) (lvJ := fun (j_5 : Unit) => [(0, gx_r 17 (some x0)), (1, gx_i s1)]) (stJ := fun (j_5 : Unit) => []) (fun _ => True) (fun j_5 _ => ?_) (fun kk5 hj5 => ?_)
      · refine gx_iinc (pc := 39) (i := 1) (j := 1) (v := (s1 + 1)) (lv' := [(1, gx_i (s1 + 1)), (0, gx_r 17 (some x0))]) rfl (gx_iv (by decide)) (by decide) rfl (htX16_remember (39, .iinc 1 1, 3) (gx_m 24 rfl)) ?_
        refine gx_goto (pc := 42) (tgt := 2) (by decide) (htX16_remember (42, .goto (-40), 3) (gx_m 25 rfl)) ?_
        refine gx_Jw (lv := [(0, gx_r 17 (some x0)), (1, gx_i (s1 + 1))]) [1, 0] rfl ?_
        exact ha1 ((s1 + 1) : Int32)
      · refine gx_Jw (lv := [(0, gx_r 17 (some x0)), (1, gx_i s1), (2, gx_i 0)]) [1, 2, 0] rfl ?_
        refine gx_Jlp (pc := 10) (lvh := fun (s2 : Int32) => [(0, gx_r 17 (some x0)), (1, gx_i s1), (2, gx_i s2)]) (fun s2 kl5 ha5 hb5 => ?_) _
        unfold lb_X16_remember_1
        refine gx_iload_n (pc := 10) (n := 2) (i := 2) rfl 2 rfl (htX16_remember (10, .iload_n 2, 1) (gx_m 7 rfl)) ?_
        refine gx_aload_n (pc := 11) (n := 0) (i := 0) rfl 0 rfl (htX16_remember (11, .aload_n 0, 1) (gx_m 8 rfl)) ?_
        refine gx_Jgi (pc := 12) (ci := 16) (kk := 107) (by decide) (Or.inl rfl) (by decide) (by decide) q1781 (htX16_remember (12, .getfield 394, 3) (gx_m 9 rfl)) (fun v3 hv3 => ?_)
        refine gx_icmp_ge (pc := 15) (tgt := 39) (by decide) (htX16_remember (15, .if_icmp .ge 24, 3) (gx_m 10 rfl)) (fun c6 => ?_) (fun c6 => ?_)
        · refine gx_Jw (lv := [(0, gx_r 17 (some x0)), (1, gx_i s1)]) [0, 1] rfl ?_
          exact gx_Jout hb5 (hj5 () trivial)
        · refine gx_aload_n (pc := 18) (n := 0) (i := 0) rfl 0 rfl (htX16_remember (18, .aload_n 0, 1) (gx_m 11 rfl)) ?_
          refine gx_Jgs (pc := 19) (ci := 16) (kk := 109) (t2 := 105) (by decide) (by decide) rfl rfl rfl q1783 (htX16_remember (19, .getfield 294, 3) (gx_m 12 rfl)) ?_
          refine gx_iload_n (pc := 22) (n := 1) (i := 1) rfl 1 rfl (htX16_remember (22, .iload_n 1, 1) (gx_m 13 rfl)) ?_
          refine gx_Jra (pc := 23) (t := 5) (t2 := 100) (by decide) (by decide) rfl (htX16_remember (23, .aaload, 1) (gx_m 14 rfl)) (fun v4 => ?_)
          refine gx_iload_n (pc := 24) (n := 2) (i := 2) rfl 2 rfl (htX16_remember (24, .iload_n 2, 1) (gx_m 15 rfl)) ?_
          refine gx_aload_n (pc := 25) (n := 0) (i := 0) rfl 0 rfl (htX16_remember (25, .aload_n 0, 1) (gx_m 16 rfl)) ?_
          refine gx_iload_n (pc := 26) (n := 1) (i := 1) rfl 1 rfl (htX16_remember (26, .iload_n 1, 1) (gx_m 17 rfl)) ?_
          refine gx_Jcr (pc := 27) (t2 := 100) (gx_hst (as := [gx_i s1]) (b := gx_r 17 (some x0))) (gx_runV (as := [gx_i s1]) (ci := 16) (ct_X16_field Y x0 s1) (by decide) (Or.inl rfl) rfl rfl rfl rfl q2268 q2270 qs82 q117 q2271 rfl dd_X16_field (by decide) (by decide) (Nat.le_of_ble_eq_true rfl) (htX16_remember (27, .invokevirtual 401, 3) (gx_m 18 rfl))) (fun v5 => ?_)
          refine gx_iload_n (pc := 30) (n := 2) (i := 2) rfl 2 rfl (htX16_remember (30, .iload_n 2, 1) (gx_m 19 rfl)) ?_
          refine gx_Jia (pc := 31) (htX16_remember (31, .iaload, 1) (gx_m 20 rfl)) (fun v6 => ?_)
          refine gx_Jis (pc := 32) (htX16_remember (32, .iastore, 1) (gx_m 21 rfl)) ?_
          refine gx_iinc (pc := 33) (i := 2) (j := 2) (v := (s2 + 1)) (lv' := [(2, gx_i (s2 + 1)), (0, gx_r 17 (some x0)), (1, gx_i s1)]) rfl (gx_iv (by decide)) (by decide) rfl (htX16_remember (33, .iinc 2 1, 3) (gx_m 22 rfl)) ?_
          refine gx_goto (pc := 36) (tgt := 10) (by decide) (htX16_remember (36, .goto (-26), 3) (gx_m 23 rfl)) ?_
          refine gx_Jw (lv := [(0, gx_r 17 (some x0)), (1, gx_i s1), (2, gx_i (s2 + 1))]) [1, 2, 0] rfl ?_
          exact ha5 ((s2 + 1) : Int32)
theorem ct_X16_compare (Y : gx_Y) (x0 : gx_Nm) (x1 : Int32) (x2 : Int32) (x3 : gx_Nm) (x4 : Int32) (x5 : Int32) : gx_Ct Y yX16_compare (ws_ yX16_compare cX16_compare 9 (some .int)) 1 100 [gx_r 101 (some x0), gx_i x1, gx_i x2, gx_r 101 (some x3), gx_i x4, gx_i x5] gx_Oi (f_X16_compare x0 x1 x2 x3 x4 x5) := by
  refine gx_start (lv := [(0, gx_r 101 (some x0)), (1, gx_i x1), (2, gx_i x2), (3, gx_r 101 (some x3)), (4, gx_i x4), (5, gx_i x5)]) gx_Oi_r pn_X16 (Nat.le_of_ble_eq_true rfl) rfl ?_
  unfold f_X16_compare
  refine gx_iconst (pc := 0) (v := 0) (by decide) (htX16_compare (0, .iconst 0, 1) (gx_m 0 rfl)) ?_
  refine gx_istore (pc := 1) (i := 6) (lv' := [(6, gx_i 0), (0, gx_r 101 (some x0)), (1, gx_i x1), (2, gx_i x2), (3, gx_r 101 (some x3)), (4, gx_i x4), (5, gx_i x5)]) (by decide) rfl (htX16_compare (1, .istore 6, 2) (gx_m 1 rfl)) ?_
  refine gx_JjoinE (pcJ := 60) (lvJ := fun (j_1 : Unit) => [(2, gx_i x2), (5, gx_i x5)]) (stJ := fun (j_1 : Unit) => []) (gr := fun r => gx_rt r) (fun _ => rfl) (fun _ => rfl) (fun j_1 => ?_) (fun kk1 hj1 he1 => ?_)
  · refine gx_iload_n (pc := 60) (n := 2) (i := 2) rfl 0 rfl (htX16_compare (60, .iload_n 2, 1) (gx_m 33 rfl)) ?_
    refine gx_iload (pc := 61) (i := 5) 1 rfl (htX16_compare (61, .iload 5, 2) (gx_m 34 rfl)) ?_
    refine gx_isub (pc := 63) (htX16_compare (63, .isub, 1) (gx_m 35 rfl)) ?_
    exact gx_Jiret (pc := 64) rfl (fun _ => trivial) (fun _ _ => rfl) (htX16_compare (64, .ireturn, 1) (gx_m 36 rfl))
  · refine gx_Jw (lv := [(0, gx_r 101 (some x0)), (1, gx_i x1), (2, gx_i x2), (3, gx_r 101 (some x3)), (4, gx_i x4), (5, gx_i x5), (6, gx_i 0)]) [1, 2, 3, 4, 5, 6, 0] rfl ?_
    refine gx_Jlp (pc := 3) (lvh := fun (s1 : Int32) => [(0, gx_r 101 (some x0)), (1, gx_i x1), (2, gx_i x2), (3, gx_r 101 (some x3)), (4, gx_i x4), (5, gx_i x5), (6, gx_i s1)]) (fun s1 kl1 ha1 hb1 => ?_) _
    unfold lb_X16_compare_1
    refine gx_iload (pc := 3) (i := 6) 6 rfl (htX16_compare (3, .iload 6, 2) (gx_m 2 rfl)) ?_
    refine gx_iload_n (pc := 5) (n := 2) (i := 2) rfl 2 rfl (htX16_compare (5, .iload_n 2, 1) (gx_m 3 rfl)) ?_
    refine gx_icmp_ge (pc := 6) (tgt := 60) (by decide) (htX16_compare (6, .if_icmp .ge 54, 3) (gx_m 4 rfl)) (fun c2 => ?_) (fun c2 => ?_)
    · refine gx_Jw (lv := [(2, gx_i x2), (5, gx_i x5)]) [2, 5] rfl ?_
      exact gx_Jout hb1 (hj1 ())
    · refine gx_iload (pc := 9) (i := 6) 6 rfl (htX16_compare (9, .iload 6, 2) (gx_m 5 rfl)) ?_
      refine gx_iload (pc := 11) (i := 5) 5 rfl (htX16_compare (11, .iload 5, 2) (gx_m 6 rfl)) ?_
      refine gx_icmp_ge (pc := 13) (tgt := 60) (by decide) (htX16_compare (13, .if_icmp .ge 47, 3) (gx_m 7 rfl)) (fun c3 => ?_) (fun c3 => ?_)
      · refine gx_Jw (lv := [(2, gx_i x2), (5, gx_i x5)]) [2, 5] rfl ?_
        exact gx_Jout hb1 (hj1 ())
      · refine gx_aload_n (pc := 16) (n := 0) (i := 0) rfl 0 rfl (htX16_compare (16, .aload_n 0, 1) (gx_m 8 rfl)) ?_
        refine gx_iload_n (pc := 17) (n := 1) (i := 1) rfl 1 rfl (htX16_compare (17, .iload_n 1, 1) (gx_m 9 rfl)) ?_
        refine gx_iload (pc := 18) (i := 6) 6 rfl (htX16_compare (18, .iload 6, 2) (gx_m 10 rfl)) ?_
        refine gx_iadd (pc := 20) (htX16_compare (20, .iadd, 1) (gx_m 11 rfl)) ?_
        refine gx_Jba (pc := 21) (htX16_compare (21, .baload, 1) (gx_m 12 rfl)) (fun v2 => ?_)
        refine gx_sipush (pc := 22) (v := 255) (by decide) (htX16_compare (22, .sipush 255, 3) (gx_m 13 rfl)) ?_
        refine gx_iand (pc := 25) (htX16_compare (25, .iand, 1) (gx_m 14 rfl)) ?_
        refine gx_istore (pc := 26) (i := 7) (lv' := [(7, gx_i (v2 &&& 255)), (0, gx_r 101 (some x0)), (1, gx_i x1), (2, gx_i x2), (3, gx_r 101 (some x3)), (4, gx_i x4), (5, gx_i x5), (6, gx_i s1)]) (by decide) rfl (htX16_compare (26, .istore 7, 2) (gx_m 15 rfl)) ?_
        refine gx_aload_n (pc := 28) (n := 3) (i := 3) rfl 4 rfl (htX16_compare (28, .aload_n 3, 1) (gx_m 16 rfl)) ?_
        refine gx_iload (pc := 29) (i := 4) 5 rfl (htX16_compare (29, .iload 4, 2) (gx_m 17 rfl)) ?_
        refine gx_iload (pc := 31) (i := 6) 7 rfl (htX16_compare (31, .iload 6, 2) (gx_m 18 rfl)) ?_
        refine gx_iadd (pc := 33) (htX16_compare (33, .iadd, 1) (gx_m 19 rfl)) ?_
        refine gx_Jba (pc := 34) (htX16_compare (34, .baload, 1) (gx_m 20 rfl)) (fun v3 => ?_)
        refine gx_sipush (pc := 35) (v := 255) (by decide) (htX16_compare (35, .sipush 255, 3) (gx_m 21 rfl)) ?_
        refine gx_iand (pc := 38) (htX16_compare (38, .iand, 1) (gx_m 22 rfl)) ?_
        refine gx_istore (pc := 39) (i := 8) (lv' := [(8, gx_i (v3 &&& 255)), (7, gx_i (v2 &&& 255)), (0, gx_r 101 (some x0)), (1, gx_i x1), (2, gx_i x2), (3, gx_r 101 (some x3)), (4, gx_i x4), (5, gx_i x5), (6, gx_i s1)]) (by decide) rfl (htX16_compare (39, .istore 8, 2) (gx_m 23 rfl)) ?_
        refine gx_iload (pc := 41) (i := 7) 1 rfl (htX16_compare (41, .iload 7, 2) (gx_m 24 rfl)) ?_
        refine gx_iload (pc := 43) (i := 8) 0 rfl (htX16_compare (43, .iload 8, 2) (gx_m 25 rfl)) ?_
        refine gx_icmp_eq (pc := 45) (tgt := 54) (by decide) (htX16_compare (45, .if_icmp .eq 9, 3) (gx_m 26 rfl)) (fun c4 => ?_) (fun c4 => ?_)
        · refine gx_iinc (pc := 54) (i := 6) (j := 8) (v := (s1 + 1)) (lv' := [(6, gx_i (s1 + 1)), (8, gx_i (v3 &&& 255)), (7, gx_i (v2 &&& 255)), (0, gx_r 101 (some x0)), (1, gx_i x1), (2, gx_i x2), (3, gx_r 101 (some x3)), (4, gx_i x4), (5, gx_i x5)]) rfl (gx_iv (by decide)) (by decide) rfl (htX16_compare (54, .iinc 6 1, 3) (gx_m 31 rfl)) ?_
          refine gx_goto (pc := 57) (tgt := 3) (by decide) (htX16_compare (57, .goto (-54), 3) (gx_m 32 rfl)) ?_
          refine gx_Jw (lv := [(0, gx_r 101 (some x0)), (1, gx_i x1), (2, gx_i x2), (3, gx_r 101 (some x3)), (4, gx_i x4), (5, gx_i x5), (6, gx_i (s1 + 1))]) [3, 4, 5, 6, 7, 8, 0] rfl ?_
          exact ha1 ((s1 + 1) : Int32)
        · refine gx_iload (pc := 48) (i := 7) 1 rfl (htX16_compare (48, .iload 7, 2) (gx_m 27 rfl)) ?_
          refine gx_iload (pc := 50) (i := 8) 0 rfl (htX16_compare (50, .iload 8, 2) (gx_m 28 rfl)) ?_
          refine gx_isub (pc := 52) (htX16_compare (52, .isub, 1) (gx_m 29 rfl)) ?_
          refine gx_Jret ((hb1 _).trans (he1 _)) ?_
          exact gx_Jiret (pc := 53) rfl (fun _ => trivial) (fun _ _ => rfl) (htX16_compare (53, .ireturn, 1) (gx_m 30 rfl))
theorem ct_X16_findPair (Y : gx_Y) (x0 : gx_Nm) (x1 : gx_Nm) (x2 : Int32) (x3 : Int32) : gx_Ct Y yX16_findPair (ws_ yX16_findPair cX16_findPair 5 (some .int)) 2 128 [gx_r 17 (some x0), gx_r 101 (some x1), gx_i x2, gx_i x3] gx_Oi (f_X16_findPair x0 x1 x2 x3) := by
  refine gx_start (lv := [(0, gx_r 17 (some x0)), (1, gx_r 101 (some x1)), (2, gx_i x2), (3, gx_i x3)]) gx_Oi_r pn_X16 (Nat.le_of_ble_eq_true rfl) rfl ?_
  unfold f_X16_findPair
  refine gx_iconst (pc := 0) (v := 0) (by decide) (htX16_findPair (0, .iconst 0, 1) (gx_m 0 rfl)) ?_
  refine gx_istore (pc := 1) (i := 4) (lv' := [(4, gx_i 0), (0, gx_r 17 (some x0)), (1, gx_r 101 (some x1)), (2, gx_i x2), (3, gx_i x3)]) (by decide) rfl (htX16_findPair (1, .istore 4, 2) (gx_m 1 rfl)) ?_
  refine gx_JjoinE (pcJ := 48) (lvJ := fun (j_1 : Unit) => []) (stJ := fun (j_1 : Unit) => []) (gr := fun r => gx_rt r) (fun _ => rfl) (fun _ => rfl) (fun j_1 => ?_) (fun kk1 hj1 he1 => ?_)
  · refine gx_iconst (pc := 48) (v := (-1)) (by decide) (htX16_findPair (48, .iconst (-1), 1) (gx_m 25 rfl)) ?_
    exact gx_Jiret (pc := 49) rfl (fun _ => trivial) (fun _ _ => rfl) (htX16_findPair (49, .ireturn, 1) (gx_m 26 rfl))
  · refine gx_Jw (lv := [(0, gx_r 17 (some x0)), (1, gx_r 101 (some x1)), (2, gx_i x2), (3, gx_i x3), (4, gx_i 0)]) [1, 2, 3, 4, 0] rfl ?_
    refine gx_Jlp (pc := 3) (lvh := fun (s1 : Int32) => [(0, gx_r 17 (some x0)), (1, gx_r 101 (some x1)), (2, gx_i x2), (3, gx_i x3), (4, gx_i s1)]) (fun s1 kl1 ha1 hb1 => ?_) _
    unfold lb_X16_findPair_1
    refine gx_iload (pc := 3) (i := 4) 4 rfl (htX16_findPair (3, .iload 4, 2) (gx_m 2 rfl)) ?_
    refine gx_aload_n (pc := 5) (n := 0) (i := 0) rfl 0 rfl (htX16_findPair (5, .aload_n 0, 1) (gx_m 3 rfl)) ?_
    refine gx_Jgi (pc := 6) (ci := 16) (kk := 107) (by decide) (Or.inl rfl) (by decide) (by decide) q1781 (htX16_findPair (6, .getfield 394, 3) (gx_m 4 rfl)) (fun v2 hv2 => ?_)
    refine gx_icmp_ge (pc := 9) (tgt := 48) (by decide) (htX16_findPair (9, .if_icmp .ge 39, 3) (gx_m 5 rfl)) (fun c2 => ?_) (fun c2 => ?_)
    · refine gx_Jw (lv := []) [] rfl ?_
      exact gx_Jout hb1 (hj1 ())
    · refine gx_aload_n (pc := 12) (n := 0) (i := 0) rfl 0 rfl (htX16_findPair (12, .aload_n 0, 1) (gx_m 6 rfl)) ?_
      refine gx_Jgs (pc := 13) (ci := 16) (kk := 19) (t2 := 101) (by decide) (by decide) rfl rfl rfl q1693 (htX16_findPair (13, .getfield 54, 3) (gx_m 7 rfl)) ?_
      refine gx_aload_n (pc := 16) (n := 0) (i := 0) rfl 0 rfl (htX16_findPair (16, .aload_n 0, 1) (gx_m 8 rfl)) ?_
      refine gx_Jgs (pc := 17) (ci := 16) (kk := 97) (t2 := 100) (by decide) (by decide) rfl rfl rfl q1771 (htX16_findPair (17, .getfield 264, 3) (gx_m 9 rfl)) ?_
      refine gx_iload (pc := 20) (i := 4) 4 rfl (htX16_findPair (20, .iload 4, 2) (gx_m 10 rfl)) ?_
      refine gx_Jia (pc := 22) (htX16_findPair (22, .iaload, 1) (gx_m 11 rfl)) (fun v3 => ?_)
      refine gx_aload_n (pc := 23) (n := 0) (i := 0) rfl 0 rfl (htX16_findPair (23, .aload_n 0, 1) (gx_m 12 rfl)) ?_
      refine gx_Jgs (pc := 24) (ci := 16) (kk := 98) (t2 := 100) (by decide) (by decide) rfl rfl rfl q1772 (htX16_findPair (24, .getfield 267, 3) (gx_m 13 rfl)) ?_
      refine gx_iload (pc := 27) (i := 4) 4 rfl (htX16_findPair (27, .iload 4, 2) (gx_m 14 rfl)) ?_
      refine gx_Jia (pc := 29) (htX16_findPair (29, .iaload, 1) (gx_m 15 rfl)) (fun v4 => ?_)
      refine gx_aload_n (pc := 30) (n := 1) (i := 1) rfl 1 rfl (htX16_findPair (30, .aload_n 1, 1) (gx_m 16 rfl)) ?_
      refine gx_iload_n (pc := 31) (n := 2) (i := 2) rfl 2 rfl (htX16_findPair (31, .iload_n 2, 1) (gx_m 17 rfl)) ?_
      refine gx_iload_n (pc := 32) (n := 3) (i := 3) rfl 3 rfl (htX16_findPair (32, .iload_n 3, 1) (gx_m 18 rfl)) ?_
      refine gx_Jci (pc := 33) (gx_hstS (as := [gx_r 101 (some (19 :: x0)), gx_i v3, gx_i v4, gx_r 101 (some x1), gx_i x2, gx_i x3])) (gx_runS (as := [gx_r 101 (some (19 :: x0)), gx_i v3, gx_i v4, gx_r 101 (some x1), gx_i x2, gx_i x3]) (ct_X16_compare Y (19 :: x0) v3 v4 x1 x2 x3) rfl rfl rfl q2284 q2285 q117 q2286 rfl dd_X16_compare (by decide) (by decide) (Nat.le_of_ble_eq_true rfl) (htX16_findPair (33, .invokestatic 397, 3) (gx_m 19 rfl))) (fun v5 => ?_)
      refine gx_if_ne (pc := 36) (y := 0) (tgt := 42) (by decide) (htX16_findPair (36, .ifCond .ne 6, 3) (gx_m 20 rfl)) (fun c3 => ?_) (fun c3 => ?_)
      · refine gx_iload (pc := 39) (i := 4) 4 rfl (htX16_findPair (39, .iload 4, 2) (gx_m 21 rfl)) ?_
        refine gx_Jret ((hb1 _).trans (he1 _)) ?_
        exact gx_Jiret (pc := 41) rfl (fun _ => trivial) (fun _ _ => rfl) (htX16_findPair (41, .ireturn, 1) (gx_m 22 rfl))
      · refine gx_iinc (pc := 42) (i := 4) (j := 4) (v := (s1 + 1)) (lv' := [(4, gx_i (s1 + 1)), (0, gx_r 17 (some x0)), (1, gx_r 101 (some x1)), (2, gx_i x2), (3, gx_i x3)]) rfl (gx_iv (by decide)) (by decide) rfl (htX16_findPair (42, .iinc 4 1, 3) (gx_m 23 rfl)) ?_
        refine gx_goto (pc := 45) (tgt := 3) (by decide) (htX16_findPair (45, .goto (-42), 3) (gx_m 24 rfl)) ?_
        refine gx_Jw (lv := [(0, gx_r 17 (some x0)), (1, gx_r 101 (some x1)), (2, gx_i x2), (3, gx_i x3), (4, gx_i (s1 + 1))]) [1, 2, 3, 4, 0] rfl ?_
        exact ha1 ((s1 + 1) : Int32)
theorem ct_X16_holds (Y : gx_Y) (x0 : gx_Nm) (x1 : Int32) : gx_Ct Y yX16_holds (ws_ yX16_holds cX16_holds 4 (some .boolean)) 3 152 [gx_r 17 (some x0), gx_i x1] gx_Oz (f_X16_holds x0 x1) := by
  refine gx_start (lv := [(0, gx_r 17 (some x0)), (1, gx_i x1)]) gx_Oz_r pn_X16 (Nat.le_of_ble_eq_true rfl) rfl ?_
  unfold f_X16_holds
  refine gx_aload_n (pc := 0) (n := 0) (i := 0) rfl 0 rfl (htX16_holds (0, .aload_n 0, 1) (gx_m 0 rfl)) ?_
  refine gx_aload_n (pc := 1) (n := 0) (i := 0) rfl 0 rfl (htX16_holds (1, .aload_n 0, 1) (gx_m 1 rfl)) ?_
  refine gx_Jgs (pc := 2) (ci := 16) (kk := 19) (t2 := 101) (by decide) (by decide) rfl rfl rfl q1693 (htX16_holds (2, .getfield 54, 3) (gx_m 2 rfl)) ?_
  refine gx_aload_n (pc := 5) (n := 0) (i := 0) rfl 0 rfl (htX16_holds (5, .aload_n 0, 1) (gx_m 3 rfl)) ?_
  refine gx_Jgs (pc := 6) (ci := 16) (kk := 15) (t2 := 100) (by decide) (by decide) rfl rfl rfl q1689 (htX16_holds (6, .getfield 41, 3) (gx_m 4 rfl)) ?_
  refine gx_iload_n (pc := 9) (n := 1) (i := 1) rfl 1 rfl (htX16_holds (9, .iload_n 1, 1) (gx_m 5 rfl)) ?_
  refine gx_Jia (pc := 10) (htX16_holds (10, .iaload, 1) (gx_m 6 rfl)) (fun v1 => ?_)
  refine gx_aload_n (pc := 11) (n := 0) (i := 0) rfl 0 rfl (htX16_holds (11, .aload_n 0, 1) (gx_m 7 rfl)) ?_
  refine gx_Jgs (pc := 12) (ci := 16) (kk := 16) (t2 := 100) (by decide) (by decide) rfl rfl rfl q1690 (htX16_holds (12, .getfield 44, 3) (gx_m 8 rfl)) ?_
  refine gx_iload_n (pc := 15) (n := 1) (i := 1) rfl 1 rfl (htX16_holds (15, .iload_n 1, 1) (gx_m 9 rfl)) ?_
  refine gx_Jia (pc := 16) (htX16_holds (16, .iaload, 1) (gx_m 10 rfl)) (fun v2 => ?_)
  refine gx_Jci (pc := 17) (gx_hst (as := [gx_r 101 (some (19 :: x0)), gx_i v1, gx_i v2]) (b := gx_r 17 (some x0))) (gx_runV (as := [gx_r 101 (some (19 :: x0)), gx_i v1, gx_i v2]) (ci := 16) (ct_X16_findPair Y x0 (19 :: x0) v1 v2) (by decide) (Or.inl rfl) rfl rfl rfl rfl q2280 q2282 qs85 q117 q2283 rfl dd_X16_findPair (by decide) (by decide) (Nat.le_of_ble_eq_true rfl) (htX16_holds (17, .invokevirtual 408, 3) (gx_m 11 rfl))) (fun v3 => ?_)
  refine gx_istore_n (pc := 20) (n := 2) (i := 2) (lv' := [(2, gx_i v3), (0, gx_r 17 (some x0)), (1, gx_i x1)]) rfl (by decide) rfl (htX16_holds (20, .istore_n 2, 1) (gx_m 12 rfl)) ?_
  refine gx_iload_n (pc := 21) (n := 2) (i := 2) rfl 0 rfl (htX16_holds (21, .iload_n 2, 1) (gx_m 13 rfl)) ?_
  refine gx_Jjoin (pcJ := 91) (lvJ := fun (j11 : Int32) => [(0, gx_r 17 (some x0)), (1, gx_i x1)]) (stJ := fun (j11 : Int32) => [gx_i j11]) (fun _ => True) (fun j11 hj11 => ?_) (fun kk1 hj1 => ?_)
  · refine gx_istore_n (pc := 91) (n := 3) (i := 3) (lv' := [(3, gx_i j11), (0, gx_r 17 (some x0)), (1, gx_i x1)]) rfl (by decide) rfl (htX16_holds (91, .istore_n 3, 1) (gx_m 53 rfl)) ?_
    refine gx_aload_n (pc := 92) (n := 0) (i := 0) rfl 1 rfl (htX16_holds (92, .aload_n 0, 1) (gx_m 54 rfl)) ?_
    refine gx_Jgs (pc := 93) (ci := 16) (kk := 13) (t2 := 100) (by decide) (by decide) rfl rfl rfl q1687 (htX16_holds (93, .getfield 35, 3) (gx_m 55 rfl)) ?_
    refine gx_iload_n (pc := 96) (n := 1) (i := 1) rfl 2 rfl (htX16_holds (96, .iload_n 1, 1) (gx_m 56 rfl)) ?_
    refine gx_Jia (pc := 97) (htX16_holds (97, .iaload, 1) (gx_m 57 rfl)) (fun v12 => ?_)
    refine gx_Jite (fun c2 => ?_) (fun c2 => ?_)
    · refine gx_Jtab (pc := 98) (tgt := 124) (htX16_holds (98, .tableswitch 74 0 2 #[26, 42, 58], 26) (gx_m 58 rfl)) (by decide) (gx_tD c2 (by decide)) (gx_tI c2 (by decide)) ?_
      refine gx_iload_n (pc := 124) (n := 3) (i := 3) rfl 0 rfl (htX16_holds (124, .iload_n 3, 1) (gx_m 59 rfl)) ?_
      refine gx_aload_n (pc := 125) (n := 0) (i := 0) rfl 1 rfl (htX16_holds (125, .aload_n 0, 1) (gx_m 60 rfl)) ?_
      refine gx_Jgs (pc := 126) (ci := 16) (kk := 14) (t2 := 100) (by decide) (by decide) rfl rfl rfl q1688 (htX16_holds (126, .getfield 38, 3) (gx_m 61 rfl)) ?_
      refine gx_iload_n (pc := 129) (n := 1) (i := 1) rfl 2 rfl (htX16_holds (129, .iload_n 1, 1) (gx_m 62 rfl)) ?_
      refine gx_Jia (pc := 130) (htX16_holds (130, .iaload, 1) (gx_m 63 rfl)) (fun v13 => ?_)
      refine gx_Jjoin (pcJ := 139) (lvJ := fun (j14 : Int32) => []) (stJ := fun (j14 : Int32) => [gx_i j14]) (fun (j14 : Int32) => j14 &&& 1 = j14) (fun j14 hj14 => ?_) (fun kk3 hj3 => ?_)
      · exact gx_Jzret (pc := 139) rfl hj14 (fun _ => hj14) (fun _ _ => rfl) (htX16_holds (139, .ireturn, 1) (gx_m 68 rfl))
      · refine gx_icmp_ne (pc := 131) (tgt := 138) (by decide) (htX16_holds (131, .if_icmp .ne 7, 3) (gx_m 64 rfl)) (fun c4 => ?_) (fun c4 => ?_)
        · refine gx_iconst (pc := 134) (v := 1) (by decide) (htX16_holds (134, .iconst 1, 1) (gx_m 65 rfl)) ?_
          refine gx_goto (pc := 135) (tgt := 139) (by decide) (htX16_holds (135, .goto 4, 3) (gx_m 66 rfl)) ?_
          refine gx_Jw (lv := []) [] rfl ?_
          exact hj3 (1 : Int32) gx_b1
        · refine gx_iconst (pc := 138) (v := 0) (by decide) (htX16_holds (138, .iconst 0, 1) (gx_m 67 rfl)) ?_
          refine gx_Jw (lv := []) [] rfl ?_
          exact hj3 (0 : Int32) gx_b0
    · refine gx_Jite (fun c5 => ?_) (fun c5 => ?_)
      · refine gx_Jtab (pc := 98) (tgt := 140) (htX16_holds (98, .tableswitch 74 0 2 #[26, 42, 58], 26) (gx_m 58 rfl)) (by decide) (gx_tD c5 (by decide)) (gx_tI c5 (by decide)) ?_
        refine gx_iload_n (pc := 140) (n := 3) (i := 3) rfl 0 rfl (htX16_holds (140, .iload_n 3, 1) (gx_m 69 rfl)) ?_
        refine gx_aload_n (pc := 141) (n := 0) (i := 0) rfl 1 rfl (htX16_holds (141, .aload_n 0, 1) (gx_m 70 rfl)) ?_
        refine gx_Jgs (pc := 142) (ci := 16) (kk := 14) (t2 := 100) (by decide) (by decide) rfl rfl rfl q1688 (htX16_holds (142, .getfield 38, 3) (gx_m 71 rfl)) ?_
        refine gx_iload_n (pc := 145) (n := 1) (i := 1) rfl 2 rfl (htX16_holds (145, .iload_n 1, 1) (gx_m 72 rfl)) ?_
        refine gx_Jia (pc := 146) (htX16_holds (146, .iaload, 1) (gx_m 73 rfl)) (fun v15 => ?_)
        refine gx_Jjoin (pcJ := 155) (lvJ := fun (j16 : Int32) => []) (stJ := fun (j16 : Int32) => [gx_i j16]) (fun (j16 : Int32) => j16 &&& 1 = j16) (fun j16 hj16 => ?_) (fun kk6 hj6 => ?_)
        · exact gx_Jzret (pc := 155) rfl hj16 (fun _ => hj16) (fun _ _ => rfl) (htX16_holds (155, .ireturn, 1) (gx_m 78 rfl))
        · refine gx_icmp_eq (pc := 147) (tgt := 154) (by decide) (htX16_holds (147, .if_icmp .eq 7, 3) (gx_m 74 rfl)) (fun c7 => ?_) (fun c7 => ?_)
          · refine gx_iconst (pc := 154) (v := 0) (by decide) (htX16_holds (154, .iconst 0, 1) (gx_m 77 rfl)) ?_
            refine gx_Jw (lv := []) [] rfl ?_
            exact hj6 (0 : Int32) gx_b0
          · refine gx_iconst (pc := 150) (v := 1) (by decide) (htX16_holds (150, .iconst 1, 1) (gx_m 75 rfl)) ?_
            refine gx_goto (pc := 151) (tgt := 155) (by decide) (htX16_holds (151, .goto 4, 3) (gx_m 76 rfl)) ?_
            refine gx_Jw (lv := []) [] rfl ?_
            exact hj6 (1 : Int32) gx_b1
      · refine gx_Jite (fun c8 => ?_) (fun c8 => ?_)
        · refine gx_Jtab (pc := 98) (tgt := 156) (htX16_holds (98, .tableswitch 74 0 2 #[26, 42, 58], 26) (gx_m 58 rfl)) (by decide) (gx_tD c8 (by decide)) (gx_tI c8 (by decide)) ?_
          refine gx_iload_n (pc := 156) (n := 3) (i := 3) rfl 0 rfl (htX16_holds (156, .iload_n 3, 1) (gx_m 79 rfl)) ?_
          refine gx_aload_n (pc := 157) (n := 0) (i := 0) rfl 1 rfl (htX16_holds (157, .aload_n 0, 1) (gx_m 80 rfl)) ?_
          refine gx_Jgs (pc := 158) (ci := 16) (kk := 14) (t2 := 100) (by decide) (by decide) rfl rfl rfl q1688 (htX16_holds (158, .getfield 38, 3) (gx_m 81 rfl)) ?_
          refine gx_iload_n (pc := 161) (n := 1) (i := 1) rfl 2 rfl (htX16_holds (161, .iload_n 1, 1) (gx_m 82 rfl)) ?_
          refine gx_Jia (pc := 162) (htX16_holds (162, .iaload, 1) (gx_m 83 rfl)) (fun v17 => ?_)
          refine gx_Jjoin (pcJ := 171) (lvJ := fun (j18 : Int32) => []) (stJ := fun (j18 : Int32) => [gx_i j18]) (fun (j18 : Int32) => j18 &&& 1 = j18) (fun j18 hj18 => ?_) (fun kk9 hj9 => ?_)
          · exact gx_Jzret (pc := 171) rfl hj18 (fun _ => hj18) (fun _ _ => rfl) (htX16_holds (171, .ireturn, 1) (gx_m 88 rfl))
          · refine gx_icmp_ge (pc := 163) (tgt := 170) (by decide) (htX16_holds (163, .if_icmp .ge 7, 3) (gx_m 84 rfl)) (fun c10 => ?_) (fun c10 => ?_)
            · refine gx_iconst (pc := 170) (v := 0) (by decide) (htX16_holds (170, .iconst 0, 1) (gx_m 87 rfl)) ?_
              refine gx_Jw (lv := []) [] rfl ?_
              exact hj9 (0 : Int32) gx_b0
            · refine gx_iconst (pc := 166) (v := 1) (by decide) (htX16_holds (166, .iconst 1, 1) (gx_m 85 rfl)) ?_
              refine gx_goto (pc := 167) (tgt := 171) (by decide) (htX16_holds (167, .goto 4, 3) (gx_m 86 rfl)) ?_
              refine gx_Jw (lv := []) [] rfl ?_
              exact hj9 (1 : Int32) gx_b1
        · refine gx_Jtab (pc := 98) (tgt := 172) (htX16_holds (98, .tableswitch 74 0 2 #[26, 42, 58], 26) (gx_m 58 rfl)) (by decide) (fun _ => by decide) (gx_tN (ks := [0, 1, 2]) (by simp only [List.mem_cons, List.not_mem_nil, or_false, not_or]; exact ⟨c2, c5, c8⟩) (by decide)) ?_
          refine gx_iload_n (pc := 172) (n := 3) (i := 3) rfl 0 rfl (htX16_holds (172, .iload_n 3, 1) (gx_m 89 rfl)) ?_
          refine gx_aload_n (pc := 173) (n := 0) (i := 0) rfl 1 rfl (htX16_holds (173, .aload_n 0, 1) (gx_m 90 rfl)) ?_
          refine gx_Jgs (pc := 174) (ci := 16) (kk := 14) (t2 := 100) (by decide) (by decide) rfl rfl rfl q1688 (htX16_holds (174, .getfield 38, 3) (gx_m 91 rfl)) ?_
          refine gx_iload_n (pc := 177) (n := 1) (i := 1) rfl 2 rfl (htX16_holds (177, .iload_n 1, 1) (gx_m 92 rfl)) ?_
          refine gx_Jia (pc := 178) (htX16_holds (178, .iaload, 1) (gx_m 93 rfl)) (fun v19 => ?_)
          refine gx_Jjoin (pcJ := 187) (lvJ := fun (j20 : Int32) => []) (stJ := fun (j20 : Int32) => [gx_i j20]) (fun (j20 : Int32) => j20 &&& 1 = j20) (fun j20 hj20 => ?_) (fun kk11 hj11 => ?_)
          · exact gx_Jzret (pc := 187) rfl hj20 (fun _ => hj20) (fun _ _ => rfl) (htX16_holds (187, .ireturn, 1) (gx_m 98 rfl))
          · refine gx_icmp_le (pc := 179) (tgt := 186) (by decide) (htX16_holds (179, .if_icmp .le 7, 3) (gx_m 94 rfl)) (fun c12 => ?_) (fun c12 => ?_)
            · refine gx_iconst (pc := 186) (v := 0) (by decide) (htX16_holds (186, .iconst 0, 1) (gx_m 97 rfl)) ?_
              refine gx_Jw (lv := []) [] rfl ?_
              exact hj11 (0 : Int32) gx_b0
            · refine gx_iconst (pc := 182) (v := 1) (by decide) (htX16_holds (182, .iconst 1, 1) (gx_m 95 rfl)) ?_
              refine gx_goto (pc := 183) (tgt := 187) (by decide) (htX16_holds (183, .goto 4, 3) (gx_m 96 rfl)) ?_
              refine gx_Jw (lv := []) [] rfl ?_
              exact hj11 (1 : Int32) gx_b1
  · refine gx_if_ge (pc := 22) (y := 0) (tgt := 29) (by decide) (htX16_holds (22, .ifCond .ge 7, 3) (gx_m 14 rfl)) (fun c13 => ?_) (fun c13 => ?_)
    · refine gx_aload_n (pc := 29) (n := 0) (i := 0) rfl 1 rfl (htX16_holds (29, .aload_n 0, 1) (gx_m 17 rfl)) ?_
      refine gx_Jgs (pc := 30) (ci := 16) (kk := 12) (t2 := 100) (by decide) (by decide) rfl rfl rfl q1686 (htX16_holds (30, .getfield 32, 3) (gx_m 18 rfl)) ?_
      refine gx_iload_n (pc := 33) (n := 1) (i := 1) rfl 2 rfl (htX16_holds (33, .iload_n 1, 1) (gx_m 19 rfl)) ?_
      refine gx_Jia (pc := 34) (htX16_holds (34, .iaload, 1) (gx_m 20 rfl)) (fun v4 => ?_)
      refine gx_if_ne (pc := 35) (y := 0) (tgt := 47) (by decide) (htX16_holds (35, .ifCond .ne 12, 3) (gx_m 21 rfl)) (fun c14 => ?_) (fun c14 => ?_)
      · refine gx_aload_n (pc := 38) (n := 0) (i := 0) rfl 1 rfl (htX16_holds (38, .aload_n 0, 1) (gx_m 22 rfl)) ?_
        refine gx_Jgs (pc := 39) (ci := 16) (kk := 101) (t2 := 100) (by decide) (by decide) rfl rfl rfl q1775 (htX16_holds (39, .getfield 276, 3) (gx_m 23 rfl)) ?_
        refine gx_iload_n (pc := 42) (n := 2) (i := 2) rfl 0 rfl (htX16_holds (42, .iload_n 2, 1) (gx_m 24 rfl)) ?_
        refine gx_Jia (pc := 43) (htX16_holds (43, .iaload, 1) (gx_m 25 rfl)) (fun v5 => ?_)
        refine gx_goto (pc := 44) (tgt := 91) (by decide) (htX16_holds (44, .goto 47, 3) (gx_m 26 rfl)) ?_
        refine gx_Jw (lv := [(0, gx_r 17 (some x0)), (1, gx_i x1)]) [1, 2] rfl ?_
        exact hj1 (v5 : Int32) trivial
      · refine gx_aload_n (pc := 47) (n := 0) (i := 0) rfl 1 rfl (htX16_holds (47, .aload_n 0, 1) (gx_m 27 rfl)) ?_
        refine gx_Jgs (pc := 48) (ci := 16) (kk := 12) (t2 := 100) (by decide) (by decide) rfl rfl rfl q1686 (htX16_holds (48, .getfield 32, 3) (gx_m 28 rfl)) ?_
        refine gx_iload_n (pc := 51) (n := 1) (i := 1) rfl 2 rfl (htX16_holds (51, .iload_n 1, 1) (gx_m 29 rfl)) ?_
        refine gx_Jia (pc := 52) (htX16_holds (52, .iaload, 1) (gx_m 30 rfl)) (fun v6 => ?_)
        refine gx_iconst (pc := 53) (v := 1) (by decide) (htX16_holds (53, .iconst 1, 1) (gx_m 31 rfl)) ?_
        refine gx_icmp_ne (pc := 54) (tgt := 66) (by decide) (htX16_holds (54, .if_icmp .ne 12, 3) (gx_m 32 rfl)) (fun c15 => ?_) (fun c15 => ?_)
        · refine gx_aload_n (pc := 57) (n := 0) (i := 0) rfl 1 rfl (htX16_holds (57, .aload_n 0, 1) (gx_m 33 rfl)) ?_
          refine gx_Jgs (pc := 58) (ci := 16) (kk := 102) (t2 := 100) (by decide) (by decide) rfl rfl rfl q1776 (htX16_holds (58, .getfield 279, 3) (gx_m 34 rfl)) ?_
          refine gx_iload_n (pc := 61) (n := 2) (i := 2) rfl 0 rfl (htX16_holds (61, .iload_n 2, 1) (gx_m 35 rfl)) ?_
          refine gx_Jia (pc := 62) (htX16_holds (62, .iaload, 1) (gx_m 36 rfl)) (fun v7 => ?_)
          refine gx_goto (pc := 63) (tgt := 91) (by decide) (htX16_holds (63, .goto 28, 3) (gx_m 37 rfl)) ?_
          refine gx_Jw (lv := [(0, gx_r 17 (some x0)), (1, gx_i x1)]) [1, 2] rfl ?_
          exact hj1 (v7 : Int32) trivial
        · refine gx_aload_n (pc := 66) (n := 0) (i := 0) rfl 1 rfl (htX16_holds (66, .aload_n 0, 1) (gx_m 38 rfl)) ?_
          refine gx_Jgs (pc := 67) (ci := 16) (kk := 12) (t2 := 100) (by decide) (by decide) rfl rfl rfl q1686 (htX16_holds (67, .getfield 32, 3) (gx_m 39 rfl)) ?_
          refine gx_iload_n (pc := 70) (n := 1) (i := 1) rfl 2 rfl (htX16_holds (70, .iload_n 1, 1) (gx_m 40 rfl)) ?_
          refine gx_Jia (pc := 71) (htX16_holds (71, .iaload, 1) (gx_m 41 rfl)) (fun v8 => ?_)
          refine gx_iconst (pc := 72) (v := 2) (by decide) (htX16_holds (72, .iconst 2, 1) (gx_m 42 rfl)) ?_
          refine gx_icmp_ne (pc := 73) (tgt := 85) (by decide) (htX16_holds (73, .if_icmp .ne 12, 3) (gx_m 43 rfl)) (fun c16 => ?_) (fun c16 => ?_)
          · refine gx_aload_n (pc := 76) (n := 0) (i := 0) rfl 1 rfl (htX16_holds (76, .aload_n 0, 1) (gx_m 44 rfl)) ?_
            refine gx_Jgs (pc := 77) (ci := 16) (kk := 103) (t2 := 100) (by decide) (by decide) rfl rfl rfl q1777 (htX16_holds (77, .getfield 282, 3) (gx_m 45 rfl)) ?_
            refine gx_iload_n (pc := 80) (n := 2) (i := 2) rfl 0 rfl (htX16_holds (80, .iload_n 2, 1) (gx_m 46 rfl)) ?_
            refine gx_Jia (pc := 81) (htX16_holds (81, .iaload, 1) (gx_m 47 rfl)) (fun v9 => ?_)
            refine gx_goto (pc := 82) (tgt := 91) (by decide) (htX16_holds (82, .goto 9, 3) (gx_m 48 rfl)) ?_
            refine gx_Jw (lv := [(0, gx_r 17 (some x0)), (1, gx_i x1)]) [1, 2] rfl ?_
            exact hj1 (v9 : Int32) trivial
          · refine gx_aload_n (pc := 85) (n := 0) (i := 0) rfl 1 rfl (htX16_holds (85, .aload_n 0, 1) (gx_m 49 rfl)) ?_
            refine gx_Jgs (pc := 86) (ci := 16) (kk := 104) (t2 := 100) (by decide) (by decide) rfl rfl rfl q1778 (htX16_holds (86, .getfield 285, 3) (gx_m 50 rfl)) ?_
            refine gx_iload_n (pc := 89) (n := 2) (i := 2) rfl 0 rfl (htX16_holds (89, .iload_n 2, 1) (gx_m 51 rfl)) ?_
            refine gx_Jia (pc := 90) (htX16_holds (90, .iaload, 1) (gx_m 52 rfl)) (fun v10 => ?_)
            refine gx_Jw (lv := [(0, gx_r 17 (some x0)), (1, gx_i x1)]) [1, 2] rfl ?_
            exact hj1 (v10 : Int32) trivial
    · refine gx_iconst (pc := 25) (v := 0) (by decide) (htX16_holds (25, .iconst 0, 1) (gx_m 15 rfl)) ?_
      refine gx_goto (pc := 26) (tgt := 91) (by decide) (htX16_holds (26, .goto 65, 3) (gx_m 16 rfl)) ?_
      refine gx_Jw (lv := [(0, gx_r 17 (some x0)), (1, gx_i x1)]) [1, 2] rfl ?_
      exact hj1 (0 : Int32) trivial
theorem ct_X16_puts (Y : gx_Y) (x0 : gx_Nm) (x1 : Int32) (x2 : Int32) : gx_Ct Y yX16_puts (ws_ yX16_puts cX16_puts 6 (some .boolean)) 3 152 [gx_r 17 (some x0), gx_i x1, gx_i x2] gx_Oz (f_X16_puts x0 x1 x2) := by
  refine gx_start (lv := [(0, gx_r 17 (some x0)), (1, gx_i x1), (2, gx_i x2)]) gx_Oz_r pn_X16 (Nat.le_of_ble_eq_true rfl) rfl ?_
  unfold f_X16_puts
  refine gx_aload_n (pc := 0) (n := 0) (i := 0) rfl 0 rfl (htX16_puts_0 (0, .aload_n 0, 1) (gx_m 0 rfl)) ?_
  refine gx_aload_n (pc := 1) (n := 0) (i := 0) rfl 0 rfl (htX16_puts_0 (1, .aload_n 0, 1) (gx_m 1 rfl)) ?_
  refine gx_Jgs (pc := 2) (ci := 16) (kk := 19) (t2 := 101) (by decide) (by decide) rfl rfl rfl q1693 (htX16_puts_0 (2, .getfield 54, 3) (gx_m 2 rfl)) ?_
  refine gx_aload_n (pc := 5) (n := 0) (i := 0) rfl 0 rfl (htX16_puts_0 (5, .aload_n 0, 1) (gx_m 3 rfl)) ?_
  refine gx_Jgs (pc := 6) (ci := 16) (kk := 15) (t2 := 100) (by decide) (by decide) rfl rfl rfl q1689 (htX16_puts_0 (6, .getfield 41, 3) (gx_m 4 rfl)) ?_
  refine gx_iload_n (pc := 9) (n := 1) (i := 1) rfl 1 rfl (htX16_puts_0 (9, .iload_n 1, 1) (gx_m 5 rfl)) ?_
  refine gx_Jia (pc := 10) (htX16_puts_0 (10, .iaload, 1) (gx_m 6 rfl)) (fun v1 => ?_)
  refine gx_aload_n (pc := 11) (n := 0) (i := 0) rfl 0 rfl (htX16_puts_0 (11, .aload_n 0, 1) (gx_m 7 rfl)) ?_
  refine gx_Jgs (pc := 12) (ci := 16) (kk := 16) (t2 := 100) (by decide) (by decide) rfl rfl rfl q1690 (htX16_puts_0 (12, .getfield 44, 3) (gx_m 8 rfl)) ?_
  refine gx_iload_n (pc := 15) (n := 1) (i := 1) rfl 1 rfl (htX16_puts_0 (15, .iload_n 1, 1) (gx_m 9 rfl)) ?_
  refine gx_Jia (pc := 16) (htX16_puts_0 (16, .iaload, 1) (gx_m 10 rfl)) (fun v2 => ?_)
  refine gx_Jci (pc := 17) (gx_hst (as := [gx_r 101 (some (19 :: x0)), gx_i v1, gx_i v2]) (b := gx_r 17 (some x0))) (gx_runV (as := [gx_r 101 (some (19 :: x0)), gx_i v1, gx_i v2]) (ci := 16) (ct_X16_findPair Y x0 (19 :: x0) v1 v2) (by decide) (Or.inl rfl) rfl rfl rfl rfl q2280 q2282 qs85 q117 q2283 rfl dd_X16_findPair (by decide) (by decide) (Nat.le_of_ble_eq_true rfl) (htX16_puts_0 (17, .invokevirtual 408, 3) (gx_m 11 rfl))) (fun v3 => ?_)
  refine gx_istore_n (pc := 20) (n := 3) (i := 3) (lv' := [(3, gx_i v3), (0, gx_r 17 (some x0)), (1, gx_i x1), (2, gx_i x2)]) rfl (by decide) rfl (htX16_puts_0 (20, .istore_n 3, 1) (gx_m 12 rfl)) ?_
  refine gx_iload_n (pc := 21) (n := 3) (i := 3) rfl 0 rfl (htX16_puts_0 (21, .iload_n 3, 1) (gx_m 13 rfl)) ?_
  refine gx_Jjoin (pcJ := 189) (lvJ := fun (j22 : Int32) => [(0, gx_r 17 (some x0)), (1, gx_i x1), (2, gx_i x2), (3, gx_i j22)]) (stJ := fun (j22 : Int32) => []) (fun _ => True) (fun j22 hj22 => ?_) (fun kk1 hj1 => ?_)
  · refine gx_aload_n (pc := 189) (n := 0) (i := 0) rfl 0 rfl (htX16_puts_1 (189, .aload_n 0, 1) (gx_m 10 rfl)) ?_
    refine gx_Jgs (pc := 190) (ci := 16) (kk := 99) (t2 := 100) (by decide) (by decide) rfl rfl rfl q1773 (htX16_puts_1 (190, .getfield 270, 3) (gx_m 11 rfl)) ?_
    refine gx_iload_n (pc := 193) (n := 3) (i := 3) rfl 3 rfl (htX16_puts_1 (193, .iload_n 3, 1) (gx_m 12 rfl)) ?_
    refine gx_aload_n (pc := 194) (n := 0) (i := 0) rfl 0 rfl (htX16_puts_1 (194, .aload_n 0, 1) (gx_m 13 rfl)) ?_
    refine gx_Jgs (pc := 195) (ci := 16) (kk := 17) (t2 := 100) (by decide) (by decide) rfl rfl rfl q1691 (htX16_puts_1 (195, .getfield 47, 3) (gx_m 14 rfl)) ?_
    refine gx_iload_n (pc := 198) (n := 1) (i := 1) rfl 1 rfl (htX16_puts_1 (198, .iload_n 1, 1) (gx_m 15 rfl)) ?_
    refine gx_Jia (pc := 199) (htX16_puts_1 (199, .iaload, 1) (gx_m 16 rfl)) (fun v23 => ?_)
    refine gx_Jis (pc := 200) (htX16_puts_1 (200, .iastore, 1) (gx_m 17 rfl)) ?_
    refine gx_aload_n (pc := 201) (n := 0) (i := 0) rfl 0 rfl (htX16_puts_1 (201, .aload_n 0, 1) (gx_m 18 rfl)) ?_
    refine gx_Jgs (pc := 202) (ci := 16) (kk := 100) (t2 := 100) (by decide) (by decide) rfl rfl rfl q1774 (htX16_puts_1 (202, .getfield 273, 3) (gx_m 19 rfl)) ?_
    refine gx_iload_n (pc := 205) (n := 3) (i := 3) rfl 3 rfl (htX16_puts_1 (205, .iload_n 3, 1) (gx_m 20 rfl)) ?_
    refine gx_aload_n (pc := 206) (n := 0) (i := 0) rfl 0 rfl (htX16_puts_1 (206, .aload_n 0, 1) (gx_m 21 rfl)) ?_
    refine gx_Jgs (pc := 207) (ci := 16) (kk := 18) (t2 := 100) (by decide) (by decide) rfl rfl rfl q1692 (htX16_puts_1 (207, .getfield 50, 3) (gx_m 22 rfl)) ?_
    refine gx_iload_n (pc := 210) (n := 1) (i := 1) rfl 1 rfl (htX16_puts_1 (210, .iload_n 1, 1) (gx_m 23 rfl)) ?_
    refine gx_Jia (pc := 211) (htX16_puts_1 (211, .iaload, 1) (gx_m 24 rfl)) (fun v24 => ?_)
    refine gx_Jis (pc := 212) (htX16_puts_1 (212, .iastore, 1) (gx_m 25 rfl)) ?_
    refine gx_aload_n (pc := 213) (n := 0) (i := 0) rfl 0 rfl (htX16_puts_1 (213, .aload_n 0, 1) (gx_m 26 rfl)) ?_
    refine gx_Jgs (pc := 214) (ci := 16) (kk := 102) (t2 := 100) (by decide) (by decide) rfl rfl rfl q1776 (htX16_puts_1 (214, .getfield 279, 3) (gx_m 27 rfl)) ?_
    refine gx_iload_n (pc := 217) (n := 3) (i := 3) rfl 3 rfl (htX16_puts_1 (217, .iload_n 3, 1) (gx_m 28 rfl)) ?_
    refine gx_aload_n (pc := 218) (n := 0) (i := 0) rfl 0 rfl (htX16_puts_1 (218, .aload_n 0, 1) (gx_m 29 rfl)) ?_
    refine gx_Jgi (pc := 219) (ci := 16) (kk := 108) (by decide) (Or.inl rfl) (by decide) (by decide) q1782 (htX16_puts_1 (219, .getfield 433, 3) (gx_m 30 rfl)) (fun v25 hv25 => ?_)
    refine gx_iconst (pc := 222) (v := 1) (by decide) (htX16_puts_1 (222, .iconst 1, 1) (gx_m 31 rfl)) ?_
    refine gx_iadd (pc := 223) (htX16_puts_1 (223, .iadd, 1) (gx_m 32 rfl)) ?_
    refine gx_Jis (pc := 224) (htX16_puts_1 (224, .iastore, 1) (gx_m 33 rfl)) ?_
    refine gx_aload_n (pc := 225) (n := 0) (i := 0) rfl 0 rfl (htX16_puts_1 (225, .aload_n 0, 1) (gx_m 34 rfl)) ?_
    refine gx_Jgs (pc := 226) (ci := 16) (kk := 103) (t2 := 100) (by decide) (by decide) rfl rfl rfl q1777 (htX16_puts_1 (226, .getfield 282, 3) (gx_m 35 rfl)) ?_
    refine gx_iload_n (pc := 229) (n := 3) (i := 3) rfl 3 rfl (htX16_puts_1 (229, .iload_n 3, 1) (gx_m 36 rfl)) ?_
    refine gx_dup2 (pc := 230) rfl rfl (htX16_puts_1 (230, .dup2, 1) (gx_m 37 rfl)) ?_
    refine gx_Jia (pc := 231) (htX16_puts_1 (231, .iaload, 1) (gx_m 38 rfl)) (fun v26 => ?_)
    refine gx_iconst (pc := 232) (v := 1) (by decide) (htX16_puts_1 (232, .iconst 1, 1) (gx_m 39 rfl)) ?_
    refine gx_iadd (pc := 233) (htX16_puts_1 (233, .iadd, 1) (gx_m 40 rfl)) ?_
    refine gx_Jis (pc := 234) (htX16_puts_1 (234, .iastore, 1) (gx_m 41 rfl)) ?_
    refine gx_aload_n (pc := 235) (n := 0) (i := 0) rfl 0 rfl (htX16_puts_1 (235, .aload_n 0, 1) (gx_m 42 rfl)) ?_
    refine gx_Jgs (pc := 236) (ci := 16) (kk := 104) (t2 := 100) (by decide) (by decide) rfl rfl rfl q1778 (htX16_puts_1 (236, .getfield 285, 3) (gx_m 43 rfl)) ?_
    refine gx_iload_n (pc := 239) (n := 3) (i := 3) rfl 3 rfl (htX16_puts_1 (239, .iload_n 3, 1) (gx_m 44 rfl)) ?_
    refine gx_iload_n (pc := 240) (n := 2) (i := 2) rfl 2 rfl (htX16_puts_1 (240, .iload_n 2, 1) (gx_m 45 rfl)) ?_
    refine gx_Jis (pc := 241) (htX16_puts_1 (241, .iastore, 1) (gx_m 46 rfl)) ?_
    refine gx_iconst (pc := 242) (v := 1) (by decide) (htX16_puts_1 (242, .iconst 1, 1) (gx_m 47 rfl)) ?_
    exact gx_Jzret (pc := 243) rfl gx_b1 (fun _ => gx_b1) (fun _ _ => rfl) (htX16_puts_1 (243, .ireturn, 1) (gx_m 48 rfl))
  · refine gx_if_ge (pc := 22) (y := 0) (tgt := 189) (by decide) (htX16_puts_0 (22, .ifCond .ge 167, 3) (gx_m 14 rfl)) (fun c2 => ?_) (fun c2 => ?_)
    · refine gx_Jw (lv := [(0, gx_r 17 (some x0)), (1, gx_i x1), (2, gx_i x2), (3, gx_i v3)]) [1, 2, 3, 0] rfl ?_
      exact hj1 (v3 : Int32) trivial
    · refine gx_aload_n (pc := 25) (n := 0) (i := 0) rfl 1 rfl (htX16_puts_0 (25, .aload_n 0, 1) (gx_m 15 rfl)) ?_
      refine gx_Jgi (pc := 26) (ci := 16) (kk := 107) (by decide) (Or.inl rfl) (by decide) (by decide) q1781 (htX16_puts_0 (26, .getfield 394, 3) (gx_m 16 rfl)) (fun v4 hv4 => ?_)
      refine gx_istore_n (pc := 29) (n := 3) (i := 3) (lv' := [(3, gx_i v4), (0, gx_r 17 (some x0)), (1, gx_i x1), (2, gx_i x2)]) rfl (by decide) rfl (htX16_puts_0 (29, .istore_n 3, 1) (gx_m 17 rfl)) ?_
      refine gx_Jjoin (pcJ := 82) (lvJ := fun (j11 : Int32) => [(0, gx_r 17 (some x0)), (1, gx_i x1), (2, gx_i x2), (3, gx_i j11)]) (stJ := fun (j11 : Int32) => []) (fun _ => True) (fun j11 _ => ?_) (fun kk3 hj3 => ?_)
      · refine gx_iconst (pc := 82) (v := 0) (by decide) (htX16_puts_0 (82, .iconst 0, 1) (gx_m 48 rfl)) ?_
        refine gx_istore (pc := 83) (i := 4) (lv' := [(4, gx_i 0), (0, gx_r 17 (some x0)), (1, gx_i x1), (2, gx_i x2), (3, gx_i j11)]) (by decide) rfl (htX16_puts_0 (83, .istore 4, 2) (gx_m 49 rfl)) ?_
        refine gx_Jjoin (pcJ := 136) (lvJ := fun (j_4 : Unit) => [(0, gx_r 17 (some x0)), (1, gx_i x1), (2, gx_i x2), (3, gx_i j11)]) (stJ := fun (j_4 : Unit) => []) (fun _ => True) (fun j_4 _ => ?_) (fun kk4 hj4 => ?_)
        · refine gx_aload_n (pc := 136) (n := 0) (i := 0) rfl 0 rfl (htX16_puts_0 (136, .aload_n 0, 1) (gx_m 75 rfl)) ?_
          refine gx_dup (pc := 137) rfl (htX16_puts_0 (137, .dup, 1) (gx_m 76 rfl)) ?_
          refine gx_Jgi (pc := 138) (ci := 16) (kk := 107) (by decide) (Or.inl rfl) (by decide) (by decide) q1781 (htX16_puts_0 (138, .getfield 394, 3) (gx_m 77 rfl)) (fun v18 hv18 => ?_)
          refine gx_iconst (pc := 141) (v := 1) (by decide) (htX16_puts_0 (141, .iconst 1, 1) (gx_m 78 rfl)) ?_
          refine gx_iadd (pc := 142) (htX16_puts_0 (142, .iadd, 1) (gx_m 79 rfl)) ?_
          refine gx_Jpi (pc := 143) (ci := 16) (kk := 107) (by decide) (Or.inl rfl) (by decide) rfl rfl q1781 (Or.inl rfl) (htX16_puts_0 (143, .putfield 394, 3) (gx_m 80 rfl)) ?_
          refine gx_aload_n (pc := 146) (n := 0) (i := 0) rfl 0 rfl (htX16_puts_0 (146, .aload_n 0, 1) (gx_m 81 rfl)) ?_
          refine gx_Jgs (pc := 147) (ci := 16) (kk := 97) (t2 := 100) (by decide) (by decide) rfl rfl rfl q1771 (htX16_puts_0 (147, .getfield 264, 3) (gx_m 82 rfl)) ?_
          refine gx_iload_n (pc := 150) (n := 3) (i := 3) rfl 3 rfl (htX16_puts_0 (150, .iload_n 3, 1) (gx_m 83 rfl)) ?_
          refine gx_aload_n (pc := 151) (n := 0) (i := 0) rfl 0 rfl (htX16_puts_0 (151, .aload_n 0, 1) (gx_m 84 rfl)) ?_
          refine gx_Jgs (pc := 152) (ci := 16) (kk := 15) (t2 := 100) (by decide) (by decide) rfl rfl rfl q1689 (htX16_puts_0 (152, .getfield 41, 3) (gx_m 85 rfl)) ?_
          refine gx_iload_n (pc := 155) (n := 1) (i := 1) rfl 1 rfl (htX16_puts_0 (155, .iload_n 1, 1) (gx_m 86 rfl)) ?_
          refine gx_Jia (pc := 156) (htX16_puts_0 (156, .iaload, 1) (gx_m 87 rfl)) (fun v19 => ?_)
          refine gx_Jis (pc := 157) (htX16_puts_0 (157, .iastore, 1) (gx_m 88 rfl)) ?_
          refine gx_aload_n (pc := 158) (n := 0) (i := 0) rfl 0 rfl (htX16_puts_0 (158, .aload_n 0, 1) (gx_m 89 rfl)) ?_
          refine gx_Jgs (pc := 159) (ci := 16) (kk := 98) (t2 := 100) (by decide) (by decide) rfl rfl rfl q1772 (htX16_puts_0 (159, .getfield 267, 3) (gx_m 90 rfl)) ?_
          refine gx_iload_n (pc := 162) (n := 3) (i := 3) rfl 3 rfl (htX16_puts_0 (162, .iload_n 3, 1) (gx_m 91 rfl)) ?_
          refine gx_aload_n (pc := 163) (n := 0) (i := 0) rfl 0 rfl (htX16_puts_0 (163, .aload_n 0, 1) (gx_m 92 rfl)) ?_
          refine gx_Jgs (pc := 164) (ci := 16) (kk := 16) (t2 := 100) (by decide) (by decide) rfl rfl rfl q1690 (htX16_puts_0 (164, .getfield 44, 3) (gx_m 93 rfl)) ?_
          refine gx_iload_n (pc := 167) (n := 1) (i := 1) rfl 1 rfl (htX16_puts_0 (167, .iload_n 1, 1) (gx_m 94 rfl)) ?_
          refine gx_Jia (pc := 168) (htX16_puts_0 (168, .iaload, 1) (gx_m 95 rfl)) (fun v20 => ?_)
          refine gx_Jis (pc := 169) (htX16_puts_0 (169, .iastore, 1) (gx_m 96 rfl)) ?_
          refine gx_aload_n (pc := 170) (n := 0) (i := 0) rfl 0 rfl (htX16_puts_0 (170, .aload_n 0, 1) (gx_m 97 rfl)) ?_
          refine gx_Jgs (pc := 171) (ci := 16) (kk := 101) (t2 := 100) (by decide) (by decide) rfl rfl rfl q1775 (htX16_puts_0 (171, .getfield 276, 3) (gx_m 98 rfl)) ?_
          refine gx_iload_n (pc := 174) (n := 3) (i := 3) rfl 3 rfl (htX16_puts_0 (174, .iload_n 3, 1) (gx_m 99 rfl)) ?_
          refine gx_aload_n (pc := 175) (n := 0) (i := 0) rfl 0 rfl (htX16_puts_1 (175, .aload_n 0, 1) (gx_m 0 rfl)) ?_
          refine gx_Jgi (pc := 176) (ci := 16) (kk := 108) (by decide) (Or.inl rfl) (by decide) (by decide) q1782 (htX16_puts_1 (176, .getfield 433, 3) (gx_m 1 rfl)) (fun v21 hv21 => ?_)
          refine gx_iconst (pc := 179) (v := 1) (by decide) (htX16_puts_1 (179, .iconst 1, 1) (gx_m 2 rfl)) ?_
          refine gx_iadd (pc := 180) (htX16_puts_1 (180, .iadd, 1) (gx_m 3 rfl)) ?_
          refine gx_Jis (pc := 181) (htX16_puts_1 (181, .iastore, 1) (gx_m 4 rfl)) ?_
          refine gx_aload_n (pc := 182) (n := 0) (i := 0) rfl 0 rfl (htX16_puts_1 (182, .aload_n 0, 1) (gx_m 5 rfl)) ?_
          refine gx_Jgs (pc := 183) (ci := 16) (kk := 103) (t2 := 100) (by decide) (by decide) rfl rfl rfl q1777 (htX16_puts_1 (183, .getfield 282, 3) (gx_m 6 rfl)) ?_
          refine gx_iload_n (pc := 186) (n := 3) (i := 3) rfl 3 rfl (htX16_puts_1 (186, .iload_n 3, 1) (gx_m 7 rfl)) ?_
          refine gx_iconst (pc := 187) (v := 0) (by decide) (htX16_puts_1 (187, .iconst 0, 1) (gx_m 8 rfl)) ?_
          refine gx_Jis (pc := 188) (htX16_puts_1 (188, .iastore, 1) (gx_m 9 rfl)) ?_
          exact hj1 (j11 : Int32) trivial
        · refine gx_Jw (lv := [(0, gx_r 17 (some x0)), (1, gx_i x1), (2, gx_i x2), (3, gx_i j11), (4, gx_i 0)]) [1, 2, 3, 4, 0] rfl ?_
          refine gx_Jlp (pc := 85) (lvh := fun (s12 : Int32) => [(0, gx_r 17 (some x0)), (1, gx_i x1), (2, gx_i x2), (3, gx_i j11), (4, gx_i s12)]) (fun s12 kl4 ha4 hb4 => ?_) _
          unfold lb_X16_puts_3
          refine gx_iload (pc := 85) (i := 4) 4 rfl (htX16_puts_0 (85, .iload 4, 2) (gx_m 50 rfl)) ?_
          refine gx_bipush (pc := 87) (v := 8) (by decide) (htX16_puts_0 (87, .bipush 8, 2) (gx_m 51 rfl)) ?_
          refine gx_icmp_ge (pc := 89) (tgt := 136) (by decide) (htX16_puts_0 (89, .if_icmp .ge 47, 3) (gx_m 52 rfl)) (fun c5 => ?_) (fun c5 => ?_)
          · refine gx_Jw (lv := [(0, gx_r 17 (some x0)), (1, gx_i x1), (2, gx_i x2), (3, gx_i j11)]) [0, 1, 2, 3] rfl ?_
            exact gx_Jout hb4 (hj4 () trivial)
          · refine gx_aload_n (pc := 92) (n := 0) (i := 0) rfl 0 rfl (htX16_puts_0 (92, .aload_n 0, 1) (gx_m 53 rfl)) ?_
            refine gx_Jgi (pc := 93) (ci := 16) (kk := 107) (by decide) (Or.inl rfl) (by decide) (by decide) q1781 (htX16_puts_0 (93, .getfield 394, 3) (gx_m 54 rfl)) (fun v13 hv13 => ?_)
            refine gx_istore (pc := 96) (i := 5) (lv' := [(5, gx_i v13), (0, gx_r 17 (some x0)), (1, gx_i x1), (2, gx_i x2), (3, gx_i j11), (4, gx_i s12)]) (by decide) rfl (htX16_puts_0 (96, .istore 5, 2) (gx_m 55 rfl)) ?_
            refine gx_Jjoin (pcJ := 130) (lvJ := fun (j_6 : Unit) => [(0, gx_r 17 (some x0)), (1, gx_i x1), (2, gx_i x2), (3, gx_i j11), (4, gx_i s12)]) (stJ := fun (j_6 : Unit) => []) (fun _ => True) (fun j_6 _ => ?_) (fun kk6 hj6 => ?_)
            · refine gx_iinc (pc := 130) (i := 4) (j := 4) (v := (s12 + 1)) (lv' := [(4, gx_i (s12 + 1)), (0, gx_r 17 (some x0)), (1, gx_i x1), (2, gx_i x2), (3, gx_i j11)]) rfl (gx_iv (by decide)) (by decide) rfl (htX16_puts_0 (130, .iinc 4 1, 3) (gx_m 73 rfl)) ?_
              refine gx_goto (pc := 133) (tgt := 85) (by decide) (htX16_puts_0 (133, .goto (-48), 3) (gx_m 74 rfl)) ?_
              refine gx_Jw (lv := [(0, gx_r 17 (some x0)), (1, gx_i x1), (2, gx_i x2), (3, gx_i j11), (4, gx_i (s12 + 1))]) [1, 2, 3, 4, 0] rfl ?_
              exact ha4 ((s12 + 1) : Int32)
            · refine gx_Jw (lv := [(0, gx_r 17 (some x0)), (1, gx_i x1), (2, gx_i x2), (3, gx_i j11), (4, gx_i s12), (5, gx_i v13)]) [1, 2, 3, 4, 5, 0] rfl ?_
              refine gx_Jlp (pc := 98) (lvh := fun (s14 : Int32) => [(0, gx_r 17 (some x0)), (1, gx_i x1), (2, gx_i x2), (3, gx_i j11), (4, gx_i s12), (5, gx_i s14)]) (fun s14 kl6 ha6 hb6 => ?_) _
              unfold lb_X16_puts_2
              refine gx_iload (pc := 98) (i := 5) 5 rfl (htX16_puts_0 (98, .iload 5, 2) (gx_m 56 rfl)) ?_
              refine gx_iload_n (pc := 100) (n := 3) (i := 3) rfl 3 rfl (htX16_puts_0 (100, .iload_n 3, 1) (gx_m 57 rfl)) ?_
              refine gx_icmp_le (pc := 101) (tgt := 130) (by decide) (htX16_puts_0 (101, .if_icmp .le 29, 3) (gx_m 58 rfl)) (fun c7 => ?_) (fun c7 => ?_)
              · refine gx_Jw (lv := [(0, gx_r 17 (some x0)), (1, gx_i x1), (2, gx_i x2), (3, gx_i j11), (4, gx_i s12)]) [0, 1, 2, 3, 4] rfl ?_
                exact gx_Jout hb6 (hj6 () trivial)
              · refine gx_aload_n (pc := 104) (n := 0) (i := 0) rfl 0 rfl (htX16_puts_0 (104, .aload_n 0, 1) (gx_m 59 rfl)) ?_
                refine gx_iload (pc := 105) (i := 4) 4 rfl (htX16_puts_0 (105, .iload 4, 2) (gx_m 60 rfl)) ?_
                refine gx_Jcr (pc := 107) (t2 := 100) (gx_hst (as := [gx_i s12]) (b := gx_r 17 (some x0))) (gx_runV (as := [gx_i s12]) (ci := 16) (ct_X16_field Y x0 s12) (by decide) (Or.inl rfl) rfl rfl rfl rfl q2268 q2270 qs82 q117 q2271 rfl dd_X16_field (by decide) (by decide) (Nat.le_of_ble_eq_true rfl) (htX16_puts_0 (107, .invokevirtual 401, 3) (gx_m 61 rfl))) (fun v15 => ?_)
                refine gx_iload (pc := 110) (i := 5) 5 rfl (htX16_puts_0 (110, .iload 5, 2) (gx_m 62 rfl)) ?_
                refine gx_aload_n (pc := 112) (n := 0) (i := 0) rfl 0 rfl (htX16_puts_0 (112, .aload_n 0, 1) (gx_m 63 rfl)) ?_
                refine gx_iload (pc := 113) (i := 4) 4 rfl (htX16_puts_0 (113, .iload 4, 2) (gx_m 64 rfl)) ?_
                refine gx_Jcr (pc := 115) (t2 := 100) (gx_hst (as := [gx_i s12]) (b := gx_r 17 (some x0))) (gx_runV (as := [gx_i s12]) (ci := 16) (ct_X16_field Y x0 s12) (by decide) (Or.inl rfl) rfl rfl rfl rfl q2268 q2270 qs82 q117 q2271 rfl dd_X16_field (by decide) (by decide) (Nat.le_of_ble_eq_true rfl) (htX16_puts_0 (115, .invokevirtual 401, 3) (gx_m 65 rfl))) (fun v16 => ?_)
                refine gx_iload (pc := 118) (i := 5) 5 rfl (htX16_puts_0 (118, .iload 5, 2) (gx_m 66 rfl)) ?_
                refine gx_iconst (pc := 120) (v := 1) (by decide) (htX16_puts_0 (120, .iconst 1, 1) (gx_m 67 rfl)) ?_
                refine gx_isub (pc := 121) (htX16_puts_0 (121, .isub, 1) (gx_m 68 rfl)) ?_
                refine gx_Jia (pc := 122) (htX16_puts_0 (122, .iaload, 1) (gx_m 69 rfl)) (fun v17 => ?_)
                refine gx_Jis (pc := 123) (htX16_puts_0 (123, .iastore, 1) (gx_m 70 rfl)) ?_
                refine gx_iinc (pc := 124) (i := 5) (j := 5) (v := (s14 + (-1))) (lv' := [(5, gx_i (s14 + (-1))), (0, gx_r 17 (some x0)), (1, gx_i x1), (2, gx_i x2), (3, gx_i j11), (4, gx_i s12)]) rfl (gx_iv (by decide)) (by decide) rfl (htX16_puts_0 (124, .iinc 5 (-1), 3) (gx_m 71 rfl)) ?_
                refine gx_goto (pc := 127) (tgt := 98) (by decide) (htX16_puts_0 (127, .goto (-29), 3) (gx_m 72 rfl)) ?_
                refine gx_Jw (lv := [(0, gx_r 17 (some x0)), (1, gx_i x1), (2, gx_i x2), (3, gx_i j11), (4, gx_i s12), (5, gx_i (s14 + (-1)))]) [1, 2, 3, 4, 5, 0] rfl ?_
                exact ha6 ((s14 + (-1)) : Int32)
      · refine gx_Jw (lv := [(0, gx_r 17 (some x0)), (1, gx_i x1), (2, gx_i x2), (3, gx_i v4)]) [1, 2, 3, 0] rfl ?_
        refine gx_Jlp (pc := 30) (lvh := fun (s5 : Int32) => [(0, gx_r 17 (some x0)), (1, gx_i x1), (2, gx_i x2), (3, gx_i s5)]) (fun s5 kl3 ha3 hb3 => ?_) _
        unfold lb_X16_puts_1
        refine gx_iload_n (pc := 30) (n := 3) (i := 3) rfl 3 rfl (htX16_puts_0 (30, .iload_n 3, 1) (gx_m 18 rfl)) ?_
        refine gx_if_le (pc := 31) (y := 0) (tgt := 82) (by decide) (htX16_puts_0 (31, .ifCond .le 51, 3) (gx_m 19 rfl)) (fun c8 => ?_) (fun c8 => ?_)
        · exact gx_Jout hb3 (hj3 (s5 : Int32) trivial)
        · refine gx_aload_n (pc := 34) (n := 0) (i := 0) rfl 0 rfl (htX16_puts_0 (34, .aload_n 0, 1) (gx_m 20 rfl)) ?_
          refine gx_Jgs (pc := 35) (ci := 16) (kk := 19) (t2 := 101) (by decide) (by decide) rfl rfl rfl q1693 (htX16_puts_0 (35, .getfield 54, 3) (gx_m 21 rfl)) ?_
          refine gx_aload_n (pc := 38) (n := 0) (i := 0) rfl 0 rfl (htX16_puts_0 (38, .aload_n 0, 1) (gx_m 22 rfl)) ?_
          refine gx_Jgs (pc := 39) (ci := 16) (kk := 97) (t2 := 100) (by decide) (by decide) rfl rfl rfl q1771 (htX16_puts_0 (39, .getfield 264, 3) (gx_m 23 rfl)) ?_
          refine gx_iload_n (pc := 42) (n := 3) (i := 3) rfl 3 rfl (htX16_puts_0 (42, .iload_n 3, 1) (gx_m 24 rfl)) ?_
          refine gx_iconst (pc := 43) (v := 1) (by decide) (htX16_puts_0 (43, .iconst 1, 1) (gx_m 25 rfl)) ?_
          refine gx_isub (pc := 44) (htX16_puts_0 (44, .isub, 1) (gx_m 26 rfl)) ?_
          refine gx_Jia (pc := 45) (htX16_puts_0 (45, .iaload, 1) (gx_m 27 rfl)) (fun v6 => ?_)
          refine gx_aload_n (pc := 46) (n := 0) (i := 0) rfl 0 rfl (htX16_puts_0 (46, .aload_n 0, 1) (gx_m 28 rfl)) ?_
          refine gx_Jgs (pc := 47) (ci := 16) (kk := 98) (t2 := 100) (by decide) (by decide) rfl rfl rfl q1772 (htX16_puts_0 (47, .getfield 267, 3) (gx_m 29 rfl)) ?_
          refine gx_iload_n (pc := 50) (n := 3) (i := 3) rfl 3 rfl (htX16_puts_0 (50, .iload_n 3, 1) (gx_m 30 rfl)) ?_
          refine gx_iconst (pc := 51) (v := 1) (by decide) (htX16_puts_0 (51, .iconst 1, 1) (gx_m 31 rfl)) ?_
          refine gx_isub (pc := 52) (htX16_puts_0 (52, .isub, 1) (gx_m 32 rfl)) ?_
          refine gx_Jia (pc := 53) (htX16_puts_0 (53, .iaload, 1) (gx_m 33 rfl)) (fun v7 => ?_)
          refine gx_aload_n (pc := 54) (n := 0) (i := 0) rfl 0 rfl (htX16_puts_0 (54, .aload_n 0, 1) (gx_m 34 rfl)) ?_
          refine gx_Jgs (pc := 55) (ci := 16) (kk := 19) (t2 := 101) (by decide) (by decide) rfl rfl rfl q1693 (htX16_puts_0 (55, .getfield 54, 3) (gx_m 35 rfl)) ?_
          refine gx_aload_n (pc := 58) (n := 0) (i := 0) rfl 0 rfl (htX16_puts_0 (58, .aload_n 0, 1) (gx_m 36 rfl)) ?_
          refine gx_Jgs (pc := 59) (ci := 16) (kk := 15) (t2 := 100) (by decide) (by decide) rfl rfl rfl q1689 (htX16_puts_0 (59, .getfield 41, 3) (gx_m 37 rfl)) ?_
          refine gx_iload_n (pc := 62) (n := 1) (i := 1) rfl 1 rfl (htX16_puts_0 (62, .iload_n 1, 1) (gx_m 38 rfl)) ?_
          refine gx_Jia (pc := 63) (htX16_puts_0 (63, .iaload, 1) (gx_m 39 rfl)) (fun v8 => ?_)
          refine gx_aload_n (pc := 64) (n := 0) (i := 0) rfl 0 rfl (htX16_puts_0 (64, .aload_n 0, 1) (gx_m 40 rfl)) ?_
          refine gx_Jgs (pc := 65) (ci := 16) (kk := 16) (t2 := 100) (by decide) (by decide) rfl rfl rfl q1690 (htX16_puts_0 (65, .getfield 44, 3) (gx_m 41 rfl)) ?_
          refine gx_iload_n (pc := 68) (n := 1) (i := 1) rfl 1 rfl (htX16_puts_0 (68, .iload_n 1, 1) (gx_m 42 rfl)) ?_
          refine gx_Jia (pc := 69) (htX16_puts_0 (69, .iaload, 1) (gx_m 43 rfl)) (fun v9 => ?_)
          refine gx_Jci (pc := 70) (gx_hstS (as := [gx_r 101 (some (19 :: x0)), gx_i v6, gx_i v7, gx_r 101 (some (19 :: x0)), gx_i v8, gx_i v9])) (gx_runS (as := [gx_r 101 (some (19 :: x0)), gx_i v6, gx_i v7, gx_r 101 (some (19 :: x0)), gx_i v8, gx_i v9]) (ct_X16_compare Y (19 :: x0) v6 v7 (19 :: x0) v8 v9) rfl rfl rfl q2284 q2285 q117 q2286 rfl dd_X16_compare (by decide) (by decide) (Nat.le_of_ble_eq_true rfl) (htX16_puts_0 (70, .invokestatic 397, 3) (gx_m 44 rfl))) (fun v10 => ?_)
          refine gx_if_le (pc := 73) (y := 0) (tgt := 82) (by decide) (htX16_puts_0 (73, .ifCond .le 9, 3) (gx_m 45 rfl)) (fun c9 => ?_) (fun c9 => ?_)
          · exact gx_Jout hb3 (hj3 (s5 : Int32) trivial)
          · refine gx_iinc (pc := 76) (i := 3) (j := 3) (v := (s5 + (-1))) (lv' := [(3, gx_i (s5 + (-1))), (0, gx_r 17 (some x0)), (1, gx_i x1), (2, gx_i x2)]) rfl (gx_iv (by decide)) (by decide) rfl (htX16_puts_0 (76, .iinc 3 (-1), 3) (gx_m 46 rfl)) ?_
            refine gx_goto (pc := 79) (tgt := 30) (by decide) (htX16_puts_0 (79, .goto (-49), 3) (gx_m 47 rfl)) ?_
            refine gx_Jw (lv := [(0, gx_r 17 (some x0)), (1, gx_i x1), (2, gx_i x2), (3, gx_i (s5 + (-1)))]) [1, 2, 3, 0] rfl ?_
            exact ha3 ((s5 + (-1)) : Int32)
theorem ct_X16_inRange (Y : gx_Y) (x0 : gx_Nm) (x1 : Int32) (x2 : gx_Nm) (x3 : Int32) (x4 : Int32) (x5 : gx_Nm) (x6 : Int32) (x7 : Int32) : gx_Ct Y yX16_inRange (ws_ yX16_inRange cX16_inRange 9 (some .boolean)) 2 128 [gx_r 17 (some x0), gx_i x1, gx_r 101 (some x2), gx_i x3, gx_i x4, gx_r 101 (some x5), gx_i x6, gx_i x7] gx_Oz (f_X16_inRange x0 x1 x2 x3 x4 x5 x6 x7) := by
  refine gx_start (lv := [(0, gx_r 17 (some x0)), (1, gx_i x1), (2, gx_r 101 (some x2)), (3, gx_i x3), (4, gx_i x4), (5, gx_r 101 (some x5)), (6, gx_i x6), (7, gx_i x7)]) gx_Oz_r pn_X16 (Nat.le_of_ble_eq_true rfl) rfl ?_
  unfold f_X16_inRange
  refine gx_aload_n (pc := 0) (n := 0) (i := 0) rfl 0 rfl (htX16_inRange (0, .aload_n 0, 1) (gx_m 0 rfl)) ?_
  refine gx_Jgs (pc := 1) (ci := 16) (kk := 19) (t2 := 101) (by decide) (by decide) rfl rfl rfl q1693 (htX16_inRange (1, .getfield 54, 3) (gx_m 1 rfl)) ?_
  refine gx_aload_n (pc := 4) (n := 0) (i := 0) rfl 0 rfl (htX16_inRange (4, .aload_n 0, 1) (gx_m 2 rfl)) ?_
  refine gx_Jgs (pc := 5) (ci := 16) (kk := 97) (t2 := 100) (by decide) (by decide) rfl rfl rfl q1771 (htX16_inRange (5, .getfield 264, 3) (gx_m 3 rfl)) ?_
  refine gx_iload_n (pc := 8) (n := 1) (i := 1) rfl 1 rfl (htX16_inRange (8, .iload_n 1, 1) (gx_m 4 rfl)) ?_
  refine gx_Jia (pc := 9) (htX16_inRange (9, .iaload, 1) (gx_m 5 rfl)) (fun v1 => ?_)
  refine gx_aload_n (pc := 10) (n := 0) (i := 0) rfl 0 rfl (htX16_inRange (10, .aload_n 0, 1) (gx_m 6 rfl)) ?_
  refine gx_Jgs (pc := 11) (ci := 16) (kk := 98) (t2 := 100) (by decide) (by decide) rfl rfl rfl q1772 (htX16_inRange (11, .getfield 267, 3) (gx_m 7 rfl)) ?_
  refine gx_iload_n (pc := 14) (n := 1) (i := 1) rfl 1 rfl (htX16_inRange (14, .iload_n 1, 1) (gx_m 8 rfl)) ?_
  refine gx_Jia (pc := 15) (htX16_inRange (15, .iaload, 1) (gx_m 9 rfl)) (fun v2 => ?_)
  refine gx_aload_n (pc := 16) (n := 2) (i := 2) rfl 2 rfl (htX16_inRange (16, .aload_n 2, 1) (gx_m 10 rfl)) ?_
  refine gx_iload_n (pc := 17) (n := 3) (i := 3) rfl 3 rfl (htX16_inRange (17, .iload_n 3, 1) (gx_m 11 rfl)) ?_
  refine gx_iload (pc := 18) (i := 4) 4 rfl (htX16_inRange (18, .iload 4, 2) (gx_m 12 rfl)) ?_
  refine gx_Jci (pc := 20) (gx_hstS (as := [gx_r 101 (some (19 :: x0)), gx_i v1, gx_i v2, gx_r 101 (some x2), gx_i x3, gx_i x4])) (gx_runS (as := [gx_r 101 (some (19 :: x0)), gx_i v1, gx_i v2, gx_r 101 (some x2), gx_i x3, gx_i x4]) (ct_X16_compare Y (19 :: x0) v1 v2 x2 x3 x4) rfl rfl rfl q2284 q2285 q117 q2286 rfl dd_X16_compare (by decide) (by decide) (Nat.le_of_ble_eq_true rfl) (htX16_inRange (20, .invokestatic 397, 3) (gx_m 13 rfl))) (fun v3 => ?_)
  refine gx_istore (pc := 23) (i := 8) (lv' := [(8, gx_i v3), (0, gx_r 17 (some x0)), (1, gx_i x1), (2, gx_r 101 (some x2)), (3, gx_i x3), (4, gx_i x4), (5, gx_r 101 (some x5)), (6, gx_i x6), (7, gx_i x7)]) (by decide) rfl (htX16_inRange (23, .istore 8, 2) (gx_m 14 rfl)) ?_
  refine gx_iload (pc := 25) (i := 7) 8 rfl (htX16_inRange (25, .iload 7, 2) (gx_m 15 rfl)) ?_
  refine gx_if_ne (pc := 27) (y := 0) (tgt := 41) (by decide) (htX16_inRange (27, .ifCond .ne 14, 3) (gx_m 16 rfl)) (fun c1 => ?_) (fun c1 => ?_)
  · refine gx_iload (pc := 30) (i := 8) 0 rfl (htX16_inRange (30, .iload 8, 2) (gx_m 17 rfl)) ?_
    refine gx_Jjoin (pcJ := 40) (lvJ := fun (j4 : Int32) => []) (stJ := fun (j4 : Int32) => [gx_i j4]) (fun (j4 : Int32) => j4 &&& 1 = j4) (fun j4 hj4 => ?_) (fun kk2 hj2 => ?_)
    · exact gx_Jzret (pc := 40) rfl hj4 (fun _ => hj4) (fun _ _ => rfl) (htX16_inRange (40, .ireturn, 1) (gx_m 22 rfl))
    · refine gx_if_ne (pc := 32) (y := 0) (tgt := 39) (by decide) (htX16_inRange (32, .ifCond .ne 7, 3) (gx_m 18 rfl)) (fun c3 => ?_) (fun c3 => ?_)
      · refine gx_iconst (pc := 35) (v := 1) (by decide) (htX16_inRange (35, .iconst 1, 1) (gx_m 19 rfl)) ?_
        refine gx_goto (pc := 36) (tgt := 40) (by decide) (htX16_inRange (36, .goto 4, 3) (gx_m 20 rfl)) ?_
        refine gx_Jw (lv := []) [] rfl ?_
        exact hj2 (1 : Int32) gx_b1
      · refine gx_iconst (pc := 39) (v := 0) (by decide) (htX16_inRange (39, .iconst 0, 1) (gx_m 21 rfl)) ?_
        refine gx_Jw (lv := []) [] rfl ?_
        exact hj2 (0 : Int32) gx_b0
  · refine gx_iload (pc := 41) (i := 8) 0 rfl (htX16_inRange (41, .iload 8, 2) (gx_m 23 rfl)) ?_
    refine gx_if_ge (pc := 43) (y := 0) (tgt := 48) (by decide) (htX16_inRange (43, .ifCond .ge 5, 3) (gx_m 24 rfl)) (fun c4 => ?_) (fun c4 => ?_)
    · refine gx_iload (pc := 48) (i := 7) 8 rfl (htX16_inRange (48, .iload 7, 2) (gx_m 27 rfl)) ?_
      refine gx_iconst (pc := 50) (v := 1) (by decide) (htX16_inRange (50, .iconst 1, 1) (gx_m 28 rfl)) ?_
      refine gx_Jjoin (pcJ := 95) (lvJ := fun (j12 : Int32) => []) (stJ := fun (j12 : Int32) => [gx_i j12]) (fun (j12 : Int32) => j12 &&& 1 = j12) (fun j12 hj12 => ?_) (fun kk5 hj5 => ?_)
      · exact gx_Jzret (pc := 95) rfl hj12 (fun _ => hj12) (fun _ _ => rfl) (htX16_inRange (95, .ireturn, 1) (gx_m 52 rfl))
      · refine gx_icmp_ne (pc := 51) (tgt := 62) (by decide) (htX16_inRange (51, .if_icmp .ne 11, 3) (gx_m 29 rfl)) (fun c6 => ?_) (fun c6 => ?_)
        · refine gx_aload (pc := 54) (i := 5) 6 rfl (htX16_inRange (54, .aload 5, 2) (gx_m 30 rfl)) ?_
          refine gx_iload (pc := 56) (i := 6) 7 rfl (htX16_inRange (56, .iload 6, 2) (gx_m 31 rfl)) ?_
          refine gx_Jba (pc := 58) (htX16_inRange (58, .baload, 1) (gx_m 32 rfl)) (fun v5 => ?_)
          refine gx_if_eq (pc := 59) (y := 0) (tgt := 90) (by decide) (htX16_inRange (59, .ifCond .eq 31, 3) (gx_m 33 rfl)) (fun c7 => ?_) (fun c7 => ?_)
          · refine gx_iconst (pc := 90) (v := 1) (by decide) (htX16_inRange (90, .iconst 1, 1) (gx_m 49 rfl)) ?_
            refine gx_goto (pc := 91) (tgt := 95) (by decide) (htX16_inRange (91, .goto 4, 3) (gx_m 50 rfl)) ?_
            refine gx_Jw (lv := []) [] rfl ?_
            exact hj5 (1 : Int32) gx_b1
          · refine gx_aload_n (pc := 62) (n := 0) (i := 0) rfl 1 rfl (htX16_inRange (62, .aload_n 0, 1) (gx_m 34 rfl)) ?_
            refine gx_Jgs (pc := 63) (ci := 16) (kk := 19) (t2 := 101) (by decide) (by decide) rfl rfl rfl q1693 (htX16_inRange (63, .getfield 54, 3) (gx_m 35 rfl)) ?_
            refine gx_aload_n (pc := 66) (n := 0) (i := 0) rfl 1 rfl (htX16_inRange (66, .aload_n 0, 1) (gx_m 36 rfl)) ?_
            refine gx_Jgs (pc := 67) (ci := 16) (kk := 97) (t2 := 100) (by decide) (by decide) rfl rfl rfl q1771 (htX16_inRange (67, .getfield 264, 3) (gx_m 37 rfl)) ?_
            refine gx_iload_n (pc := 70) (n := 1) (i := 1) rfl 2 rfl (htX16_inRange (70, .iload_n 1, 1) (gx_m 38 rfl)) ?_
            refine gx_Jia (pc := 71) (htX16_inRange (71, .iaload, 1) (gx_m 39 rfl)) (fun v6 => ?_)
            refine gx_aload_n (pc := 72) (n := 0) (i := 0) rfl 1 rfl (htX16_inRange (72, .aload_n 0, 1) (gx_m 40 rfl)) ?_
            refine gx_Jgs (pc := 73) (ci := 16) (kk := 98) (t2 := 100) (by decide) (by decide) rfl rfl rfl q1772 (htX16_inRange (73, .getfield 267, 3) (gx_m 41 rfl)) ?_
            refine gx_iload_n (pc := 76) (n := 1) (i := 1) rfl 2 rfl (htX16_inRange (76, .iload_n 1, 1) (gx_m 42 rfl)) ?_
            refine gx_Jia (pc := 77) (htX16_inRange (77, .iaload, 1) (gx_m 43 rfl)) (fun v7 => ?_)
            refine gx_aload (pc := 78) (i := 5) 6 rfl (htX16_inRange (78, .aload 5, 2) (gx_m 44 rfl)) ?_
            refine gx_iload (pc := 80) (i := 6) 7 rfl (htX16_inRange (80, .iload 6, 2) (gx_m 45 rfl)) ?_
            refine gx_iload (pc := 82) (i := 7) 8 rfl (htX16_inRange (82, .iload 7, 2) (gx_m 46 rfl)) ?_
            refine gx_Jci (pc := 84) (gx_hstS (as := [gx_r 101 (some (19 :: x0)), gx_i v6, gx_i v7, gx_r 101 (some x5), gx_i x6, gx_i x7])) (gx_runS (as := [gx_r 101 (some (19 :: x0)), gx_i v6, gx_i v7, gx_r 101 (some x5), gx_i x6, gx_i x7]) (ct_X16_compare Y (19 :: x0) v6 v7 x5 x6 x7) rfl rfl rfl q2284 q2285 q117 q2286 rfl dd_X16_compare (by decide) (by decide) (Nat.le_of_ble_eq_true rfl) (htX16_inRange (84, .invokestatic 397, 3) (gx_m 47 rfl))) (fun v8 => ?_)
            refine gx_if_ge (pc := 87) (y := 0) (tgt := 94) (by decide) (htX16_inRange (87, .ifCond .ge 7, 3) (gx_m 48 rfl)) (fun c8 => ?_) (fun c8 => ?_)
            · refine gx_iconst (pc := 94) (v := 0) (by decide) (htX16_inRange (94, .iconst 0, 1) (gx_m 51 rfl)) ?_
              refine gx_Jw (lv := []) [] rfl ?_
              exact hj5 (0 : Int32) gx_b0
            · refine gx_iconst (pc := 90) (v := 1) (by decide) (htX16_inRange (90, .iconst 1, 1) (gx_m 49 rfl)) ?_
              refine gx_goto (pc := 91) (tgt := 95) (by decide) (htX16_inRange (91, .goto 4, 3) (gx_m 50 rfl)) ?_
              refine gx_Jw (lv := []) [] rfl ?_
              exact hj5 (1 : Int32) gx_b1
        · refine gx_aload_n (pc := 62) (n := 0) (i := 0) rfl 1 rfl (htX16_inRange (62, .aload_n 0, 1) (gx_m 34 rfl)) ?_
          refine gx_Jgs (pc := 63) (ci := 16) (kk := 19) (t2 := 101) (by decide) (by decide) rfl rfl rfl q1693 (htX16_inRange (63, .getfield 54, 3) (gx_m 35 rfl)) ?_
          refine gx_aload_n (pc := 66) (n := 0) (i := 0) rfl 1 rfl (htX16_inRange (66, .aload_n 0, 1) (gx_m 36 rfl)) ?_
          refine gx_Jgs (pc := 67) (ci := 16) (kk := 97) (t2 := 100) (by decide) (by decide) rfl rfl rfl q1771 (htX16_inRange (67, .getfield 264, 3) (gx_m 37 rfl)) ?_
          refine gx_iload_n (pc := 70) (n := 1) (i := 1) rfl 2 rfl (htX16_inRange (70, .iload_n 1, 1) (gx_m 38 rfl)) ?_
          refine gx_Jia (pc := 71) (htX16_inRange (71, .iaload, 1) (gx_m 39 rfl)) (fun v9 => ?_)
          refine gx_aload_n (pc := 72) (n := 0) (i := 0) rfl 1 rfl (htX16_inRange (72, .aload_n 0, 1) (gx_m 40 rfl)) ?_
          refine gx_Jgs (pc := 73) (ci := 16) (kk := 98) (t2 := 100) (by decide) (by decide) rfl rfl rfl q1772 (htX16_inRange (73, .getfield 267, 3) (gx_m 41 rfl)) ?_
          refine gx_iload_n (pc := 76) (n := 1) (i := 1) rfl 2 rfl (htX16_inRange (76, .iload_n 1, 1) (gx_m 42 rfl)) ?_
          refine gx_Jia (pc := 77) (htX16_inRange (77, .iaload, 1) (gx_m 43 rfl)) (fun v10 => ?_)
          refine gx_aload (pc := 78) (i := 5) 6 rfl (htX16_inRange (78, .aload 5, 2) (gx_m 44 rfl)) ?_
          refine gx_iload (pc := 80) (i := 6) 7 rfl (htX16_inRange (80, .iload 6, 2) (gx_m 45 rfl)) ?_
          refine gx_iload (pc := 82) (i := 7) 8 rfl (htX16_inRange (82, .iload 7, 2) (gx_m 46 rfl)) ?_
          refine gx_Jci (pc := 84) (gx_hstS (as := [gx_r 101 (some (19 :: x0)), gx_i v9, gx_i v10, gx_r 101 (some x5), gx_i x6, gx_i x7])) (gx_runS (as := [gx_r 101 (some (19 :: x0)), gx_i v9, gx_i v10, gx_r 101 (some x5), gx_i x6, gx_i x7]) (ct_X16_compare Y (19 :: x0) v9 v10 x5 x6 x7) rfl rfl rfl q2284 q2285 q117 q2286 rfl dd_X16_compare (by decide) (by decide) (Nat.le_of_ble_eq_true rfl) (htX16_inRange (84, .invokestatic 397, 3) (gx_m 47 rfl))) (fun v11 => ?_)
          refine gx_if_ge (pc := 87) (y := 0) (tgt := 94) (by decide) (htX16_inRange (87, .ifCond .ge 7, 3) (gx_m 48 rfl)) (fun c9 => ?_) (fun c9 => ?_)
          · refine gx_iconst (pc := 94) (v := 0) (by decide) (htX16_inRange (94, .iconst 0, 1) (gx_m 51 rfl)) ?_
            refine gx_Jw (lv := []) [] rfl ?_
            exact hj5 (0 : Int32) gx_b0
          · refine gx_iconst (pc := 90) (v := 1) (by decide) (htX16_inRange (90, .iconst 1, 1) (gx_m 49 rfl)) ?_
            refine gx_goto (pc := 91) (tgt := 95) (by decide) (htX16_inRange (91, .goto 4, 3) (gx_m 50 rfl)) ?_
            refine gx_Jw (lv := []) [] rfl ?_
            exact hj5 (1 : Int32) gx_b1
    · refine gx_iconst (pc := 46) (v := 0) (by decide) (htX16_inRange (46, .iconst 0, 1) (gx_m 25 rfl)) ?_
      exact gx_Jzret (pc := 47) rfl gx_b0 (fun _ => gx_b0) (fun _ _ => rfl) (htX16_inRange (47, .ireturn, 1) (gx_m 26 rfl))
theorem ct_X16_remove (Y : gx_Y) (x0 : gx_Nm) (x1 : Int32) : gx_Ct Y yX16_remove (ws_ yX16_remove cX16_remove 4 none) 2 121 [gx_r 17 (some x0), gx_i x1] gx_Ov (f_X16_remove x0 x1) := by
  refine gx_start (lv := [(0, gx_r 17 (some x0)), (1, gx_i x1)]) gx_Ov_r pn_X16 (Nat.le_of_ble_eq_true rfl) rfl ?_
  unfold f_X16_remove
  refine gx_iconst (pc := 0) (v := 0) (by decide) (htX16_remove (0, .iconst 0, 1) (gx_m 0 rfl)) ?_
  refine gx_istore_n (pc := 1) (n := 2) (i := 2) (lv' := [(2, gx_i 0), (0, gx_r 17 (some x0)), (1, gx_i x1)]) rfl (by decide) rfl (htX16_remove (1, .istore_n 2, 1) (gx_m 1 rfl)) ?_
  refine gx_Jjoin (pcJ := 48) (lvJ := fun (j_1 : Unit) => [(0, gx_r 17 (some x0))]) (stJ := fun (j_1 : Unit) => []) (fun _ => True) (fun j_1 _ => ?_) (fun kk1 hj1 => ?_)
  · refine gx_aload_n (pc := 48) (n := 0) (i := 0) rfl 0 rfl (htX16_remove (48, .aload_n 0, 1) (gx_m 29 rfl)) ?_
    refine gx_dup (pc := 49) rfl (htX16_remove (49, .dup, 1) (gx_m 30 rfl)) ?_
    refine gx_Jgi (pc := 50) (ci := 16) (kk := 107) (by decide) (Or.inl rfl) (by decide) (by decide) q1781 (htX16_remove (50, .getfield 394, 3) (gx_m 31 rfl)) (fun v7 hv7 => ?_)
    refine gx_iconst (pc := 53) (v := 1) (by decide) (htX16_remove (53, .iconst 1, 1) (gx_m 32 rfl)) ?_
    refine gx_isub (pc := 54) (htX16_remove (54, .isub, 1) (gx_m 33 rfl)) ?_
    refine gx_Jpi (pc := 55) (ci := 16) (kk := 107) (by decide) (Or.inl rfl) (by decide) rfl rfl q1781 (Or.inl rfl) (htX16_remove (55, .putfield 394, 3) (gx_m 34 rfl)) ?_
    exact gx_Jvret (pc := 58) rfl (fun _ => trivial) (fun _ _ => rfl) (htX16_remove (58, .return_, 1) (gx_m 35 rfl))
  · refine gx_Jw (lv := [(0, gx_r 17 (some x0)), (1, gx_i x1), (2, gx_i 0)]) [1, 2, 0] rfl ?_
    refine gx_Jlp (pc := 2) (lvh := fun (s1 : Int32) => [(0, gx_r 17 (some x0)), (1, gx_i x1), (2, gx_i s1)]) (fun s1 kl1 ha1 hb1 => ?_) _
    unfold lb_X16_remove_2
    refine gx_iload_n (pc := 2) (n := 2) (i := 2) rfl 2 rfl (htX16_remove (2, .iload_n 2, 1) (gx_m 2 rfl)) ?_
    refine gx_bipush (pc := 3) (v := 8) (by decide) (htX16_remove (3, .bipush 8, 2) (gx_m 3 rfl)) ?_
    refine gx_icmp_ge (pc := 5) (tgt := 48) (by decide) (htX16_remove (5, .if_icmp .ge 43, 3) (gx_m 4 rfl)) (fun c2 => ?_) (fun c2 => ?_)
    · refine gx_Jw (lv := [(0, gx_r 17 (some x0))]) [0] rfl ?_
      exact gx_Jout hb1 (hj1 () trivial)
    · refine gx_iload_n (pc := 8) (n := 1) (i := 1) rfl 1 rfl (htX16_remove (8, .iload_n 1, 1) (gx_m 5 rfl)) ?_
      refine gx_istore_n (pc := 9) (n := 3) (i := 3) (lv' := [(3, gx_i x1), (0, gx_r 17 (some x0)), (1, gx_i x1), (2, gx_i s1)]) rfl (by decide) rfl (htX16_remove (9, .istore_n 3, 1) (gx_m 6 rfl)) ?_
      refine gx_Jjoin (pcJ := 42) (lvJ := fun (j_3 : Unit) => [(0, gx_r 17 (some x0)), (1, gx_i x1), (2, gx_i s1)]) (stJ := fun (j_3 : Unit) => []) (fun _ => True) (fun j_3 _ => ?_) (fun kk3 hj3 => ?_)
      · refine gx_iinc (pc := 42) (i := 2) (j := 2) (v := (s1 + 1)) (lv' := [(2, gx_i (s1 + 1)), (0, gx_r 17 (some x0)), (1, gx_i x1)]) rfl (gx_iv (by decide)) (by decide) rfl (htX16_remove (42, .iinc 2 1, 3) (gx_m 27 rfl)) ?_
        refine gx_goto (pc := 45) (tgt := 2) (by decide) (htX16_remove (45, .goto (-43), 3) (gx_m 28 rfl)) ?_
        refine gx_Jw (lv := [(0, gx_r 17 (some x0)), (1, gx_i x1), (2, gx_i (s1 + 1))]) [1, 2, 0] rfl ?_
        exact ha1 ((s1 + 1) : Int32)
      · refine gx_Jw (lv := [(0, gx_r 17 (some x0)), (1, gx_i x1), (2, gx_i s1), (3, gx_i x1)]) [1, 2, 3, 0] rfl ?_
        refine gx_Jlp (pc := 10) (lvh := fun (s2 : Int32) => [(0, gx_r 17 (some x0)), (1, gx_i x1), (2, gx_i s1), (3, gx_i s2)]) (fun s2 kl3 ha3 hb3 => ?_) _
        unfold lb_X16_remove_1
        refine gx_iload_n (pc := 10) (n := 3) (i := 3) rfl 3 rfl (htX16_remove (10, .iload_n 3, 1) (gx_m 7 rfl)) ?_
        refine gx_aload_n (pc := 11) (n := 0) (i := 0) rfl 0 rfl (htX16_remove (11, .aload_n 0, 1) (gx_m 8 rfl)) ?_
        refine gx_Jgi (pc := 12) (ci := 16) (kk := 107) (by decide) (Or.inl rfl) (by decide) (by decide) q1781 (htX16_remove (12, .getfield 394, 3) (gx_m 9 rfl)) (fun v3 hv3 => ?_)
        refine gx_iconst (pc := 15) (v := 1) (by decide) (htX16_remove (15, .iconst 1, 1) (gx_m 10 rfl)) ?_
        refine gx_isub (pc := 16) (htX16_remove (16, .isub, 1) (gx_m 11 rfl)) ?_
        refine gx_icmp_ge (pc := 17) (tgt := 42) (by decide) (htX16_remove (17, .if_icmp .ge 25, 3) (gx_m 12 rfl)) (fun c4 => ?_) (fun c4 => ?_)
        · refine gx_Jw (lv := [(0, gx_r 17 (some x0)), (1, gx_i x1), (2, gx_i s1)]) [0, 1, 2] rfl ?_
          exact gx_Jout hb3 (hj3 () trivial)
        · refine gx_aload_n (pc := 20) (n := 0) (i := 0) rfl 0 rfl (htX16_remove (20, .aload_n 0, 1) (gx_m 13 rfl)) ?_
          refine gx_iload_n (pc := 21) (n := 2) (i := 2) rfl 2 rfl (htX16_remove (21, .iload_n 2, 1) (gx_m 14 rfl)) ?_
          refine gx_Jcr (pc := 22) (t2 := 100) (gx_hst (as := [gx_i s1]) (b := gx_r 17 (some x0))) (gx_runV (as := [gx_i s1]) (ci := 16) (ct_X16_field Y x0 s1) (by decide) (Or.inl rfl) rfl rfl rfl rfl q2268 q2270 qs82 q117 q2271 rfl dd_X16_field (by decide) (by decide) (Nat.le_of_ble_eq_true rfl) (htX16_remove (22, .invokevirtual 401, 3) (gx_m 15 rfl))) (fun v4 => ?_)
          refine gx_iload_n (pc := 25) (n := 3) (i := 3) rfl 3 rfl (htX16_remove (25, .iload_n 3, 1) (gx_m 16 rfl)) ?_
          refine gx_aload_n (pc := 26) (n := 0) (i := 0) rfl 0 rfl (htX16_remove (26, .aload_n 0, 1) (gx_m 17 rfl)) ?_
          refine gx_iload_n (pc := 27) (n := 2) (i := 2) rfl 2 rfl (htX16_remove (27, .iload_n 2, 1) (gx_m 18 rfl)) ?_
          refine gx_Jcr (pc := 28) (t2 := 100) (gx_hst (as := [gx_i s1]) (b := gx_r 17 (some x0))) (gx_runV (as := [gx_i s1]) (ci := 16) (ct_X16_field Y x0 s1) (by decide) (Or.inl rfl) rfl rfl rfl rfl q2268 q2270 qs82 q117 q2271 rfl dd_X16_field (by decide) (by decide) (Nat.le_of_ble_eq_true rfl) (htX16_remove (28, .invokevirtual 401, 3) (gx_m 19 rfl))) (fun v5 => ?_)
          refine gx_iload_n (pc := 31) (n := 3) (i := 3) rfl 3 rfl (htX16_remove (31, .iload_n 3, 1) (gx_m 20 rfl)) ?_
          refine gx_iconst (pc := 32) (v := 1) (by decide) (htX16_remove (32, .iconst 1, 1) (gx_m 21 rfl)) ?_
          refine gx_iadd (pc := 33) (htX16_remove (33, .iadd, 1) (gx_m 22 rfl)) ?_
          refine gx_Jia (pc := 34) (htX16_remove (34, .iaload, 1) (gx_m 23 rfl)) (fun v6 => ?_)
          refine gx_Jis (pc := 35) (htX16_remove (35, .iastore, 1) (gx_m 24 rfl)) ?_
          refine gx_iinc (pc := 36) (i := 3) (j := 3) (v := (s2 + 1)) (lv' := [(3, gx_i (s2 + 1)), (0, gx_r 17 (some x0)), (1, gx_i x1), (2, gx_i s1)]) rfl (gx_iv (by decide)) (by decide) rfl (htX16_remove (36, .iinc 3 1, 3) (gx_m 25 rfl)) ?_
          refine gx_goto (pc := 39) (tgt := 10) (by decide) (htX16_remove (39, .goto (-29), 3) (gx_m 26 rfl)) ?_
          refine gx_Jw (lv := [(0, gx_r 17 (some x0)), (1, gx_i x1), (2, gx_i s1), (3, gx_i (s2 + 1))]) [1, 2, 3, 0] rfl ?_
          exact ha3 ((s2 + 1) : Int32)
theorem ct_X16_gone (Y : gx_Y) (x0 : gx_Nm) (x1 : Int32) : gx_Ct Y yX16_gone (ws_ yX16_gone cX16_gone 2 none) 3 144 [gx_r 17 (some x0), gx_i x1] gx_Ov (f_X16_gone x0 x1) := by
  refine gx_start (lv := [(0, gx_r 17 (some x0)), (1, gx_i x1)]) gx_Ov_r pn_X16 (Nat.le_of_ble_eq_true rfl) rfl ?_
  unfold f_X16_gone
  refine gx_aload_n (pc := 0) (n := 0) (i := 0) rfl 0 rfl (htX16_gone (0, .aload_n 0, 1) (gx_m 0 rfl)) ?_
  refine gx_iload_n (pc := 1) (n := 1) (i := 1) rfl 1 rfl (htX16_gone (1, .iload_n 1, 1) (gx_m 1 rfl)) ?_
  refine gx_Jcv (pc := 2) (gx_hst (as := [gx_i x1]) (b := gx_r 17 (some x0))) (gx_runV (as := [gx_i x1]) (ci := 16) (ct_X16_remove Y x0 x1) (by decide) (Or.inl rfl) rfl rfl rfl rfl q2303 q2305 qs90 q117 q2306 rfl dd_X16_remove (by decide) (by decide) (Nat.le_of_ble_eq_true rfl) (htX16_gone (2, .invokevirtual 427, 3) (gx_m 2 rfl))) ?_
  refine gx_aload_n (pc := 5) (n := 0) (i := 0) rfl 0 rfl (htX16_gone (5, .aload_n 0, 1) (gx_m 3 rfl)) ?_
  refine gx_dup (pc := 6) rfl (htX16_gone (6, .dup, 1) (gx_m 4 rfl)) ?_
  refine gx_Jgi (pc := 7) (ci := 16) (kk := 112) (by decide) (Or.inl rfl) (by decide) (by decide) q1786 (htX16_gone (7, .getfield 430, 3) (gx_m 5 rfl)) (fun v1 hv1 => ?_)
  refine gx_iconst (pc := 10) (v := 1) (by decide) (htX16_gone (10, .iconst 1, 1) (gx_m 6 rfl)) ?_
  refine gx_iadd (pc := 11) (htX16_gone (11, .iadd, 1) (gx_m 7 rfl)) ?_
  refine gx_Jpi (pc := 12) (ci := 16) (kk := 112) (by decide) (Or.inl rfl) (by decide) rfl rfl q1786 (Or.inl rfl) (htX16_gone (12, .putfield 430, 3) (gx_m 8 rfl)) ?_
  refine gx_aload_n (pc := 15) (n := 0) (i := 0) rfl 0 rfl (htX16_gone (15, .aload_n 0, 1) (gx_m 9 rfl)) ?_
  refine gx_iconst (pc := 16) (v := 1) (by decide) (htX16_gone (16, .iconst 1, 1) (gx_m 10 rfl)) ?_
  refine gx_Jpz (pc := 17) (ci := 16) (kk := 113) (by decide) (Or.inl rfl) (by decide) rfl rfl gx_b1 q1787 (Or.inl rfl) (htX16_gone (17, .putfield 412, 3) (gx_m 11 rfl)) ?_
  exact gx_Jvret (pc := 20) rfl (fun _ => trivial) (fun _ _ => rfl) (htX16_gone (20, .return_, 1) (gx_m 12 rfl))
theorem ct_X16_does (Y : gx_Y) (x0 : gx_Nm) (x1 : Int32) : gx_Ct Y yX16_does (ws_ yX16_does cX16_does 4 (some .boolean)) 4 177 [gx_r 17 (some x0), gx_i x1] gx_Oz (f_X16_does x0 x1) := by
  refine gx_start (lv := [(0, gx_r 17 (some x0)), (1, gx_i x1)]) gx_Oz_r pn_X16 (Nat.le_of_ble_eq_true rfl) rfl ?_
  unfold f_X16_does
  refine gx_aload_n (pc := 0) (n := 0) (i := 0) rfl 0 rfl (htX16_does_0 (0, .aload_n 0, 1) (gx_m 0 rfl)) ?_
  refine gx_Jgs (pc := 1) (ci := 16) (kk := 14) (t2 := 100) (by decide) (by decide) rfl rfl rfl q1688 (htX16_does_0 (1, .getfield 38, 3) (gx_m 1 rfl)) ?_
  refine gx_iload_n (pc := 4) (n := 1) (i := 1) rfl 1 rfl (htX16_does_0 (4, .iload_n 1, 1) (gx_m 2 rfl)) ?_
  refine gx_Jia (pc := 5) (htX16_does_0 (5, .iaload, 1) (gx_m 3 rfl)) (fun v1 => ?_)
  refine gx_istore_n (pc := 6) (n := 2) (i := 2) (lv' := [(2, gx_i v1), (0, gx_r 17 (some x0)), (1, gx_i x1)]) rfl (by decide) rfl (htX16_does_0 (6, .istore_n 2, 1) (gx_m 4 rfl)) ?_
  refine gx_aload_n (pc := 7) (n := 0) (i := 0) rfl 1 rfl (htX16_does_0 (7, .aload_n 0, 1) (gx_m 5 rfl)) ?_
  refine gx_Jgs (pc := 8) (ci := 16) (kk := 12) (t2 := 100) (by decide) (by decide) rfl rfl rfl q1686 (htX16_does_0 (8, .getfield 32, 3) (gx_m 6 rfl)) ?_
  refine gx_iload_n (pc := 11) (n := 1) (i := 1) rfl 2 rfl (htX16_does_0 (11, .iload_n 1, 1) (gx_m 7 rfl)) ?_
  refine gx_Jia (pc := 12) (htX16_does_0 (12, .iaload, 1) (gx_m 8 rfl)) (fun v2 => ?_)
  refine gx_Jite (fun c1 => ?_) (fun c1 => ?_)
  · refine gx_Jtab (pc := 13) (tgt := 40) (htX16_does_0 (13, .tableswitch 138 0 2 #[27, 54, 118], 27) (gx_m 9 rfl)) (by decide) (gx_tD c1 (by decide)) (gx_tI c1 (by decide)) ?_
    refine gx_iload_n (pc := 40) (n := 2) (i := 2) rfl 0 rfl (htX16_does_0 (40, .iload_n 2, 1) (gx_m 10 rfl)) ?_
    refine gx_Jcond (pcT := 53) (pcE := 55) (lv2 := [(2, gx_i v1), (0, gx_r 17 (some x0)), (1, gx_i x1)]) (st2 := []) ?_ ?_ (fun kk2 hT2 hE2 => ?_)
    · refine gx_iconst (pc := 53) (v := 0) (by decide) (htX16_does_0 (53, .iconst 0, 1) (gx_m 17 rfl)) ?_
      exact gx_Jzret (pc := 54) rfl gx_b0 (fun _ => gx_b0) (fun _ _ => rfl) (htX16_does_0 (54, .ireturn, 1) (gx_m 18 rfl))
    · refine gx_aload_n (pc := 55) (n := 0) (i := 0) rfl 1 rfl (htX16_does_0 (55, .aload_n 0, 1) (gx_m 19 rfl)) ?_
      refine gx_iconst (pc := 56) (v := 1) (by decide) (htX16_does_0 (56, .iconst 1, 1) (gx_m 20 rfl)) ?_
      refine gx_Jpz (pc := 57) (ci := 16) (kk := 113) (by decide) (Or.inl rfl) (by decide) rfl rfl gx_b1 q1787 (Or.inl rfl) (htX16_does_0 (57, .putfield 412, 3) (gx_m 21 rfl)) ?_
      refine gx_aload_n (pc := 60) (n := 0) (i := 0) rfl 1 rfl (htX16_does_0 (60, .aload_n 0, 1) (gx_m 22 rfl)) ?_
      refine gx_iload_n (pc := 61) (n := 1) (i := 1) rfl 2 rfl (htX16_does_0 (61, .iload_n 1, 1) (gx_m 23 rfl)) ?_
      refine gx_iload_n (pc := 62) (n := 2) (i := 2) rfl 0 rfl (htX16_does_0 (62, .iload_n 2, 1) (gx_m 24 rfl)) ?_
      refine gx_Jcz (pc := 63) (gx_hst (as := [gx_i x1, gx_i v1]) (b := gx_r 17 (some x0))) (gx_runV (as := [gx_i x1, gx_i v1]) (ci := 16) (ct_X16_puts Y x0 x1 v1) (by decide) (Or.inl rfl) rfl rfl rfl rfl q2291 q2293 qs87 q117 q2294 rfl dd_X16_puts (by decide) (by decide) (Nat.le_of_ble_eq_true rfl) (htX16_does_0 (63, .invokevirtual 416, 3) (gx_m 25 rfl))) (fun v5 hv5 => ?_)
      exact gx_Jzret (pc := 66) rfl hv5 (fun _ => hv5) (fun _ _ => rfl) (htX16_does_0 (66, .ireturn, 1) (gx_m 26 rfl))
    · refine gx_if_eq (pc := 41) (y := 0) (tgt := 55) (by decide) (htX16_does_0 (41, .ifCond .eq 14, 3) (gx_m 11 rfl)) (fun c3 => ?_) (fun c3 => ?_)
      · exact hE2
      · refine gx_aload_n (pc := 44) (n := 0) (i := 0) rfl 1 rfl (htX16_does_0 (44, .aload_n 0, 1) (gx_m 12 rfl)) ?_
        refine gx_Jgs (pc := 45) (ci := 16) (kk := 105) (t2 := 102) (by decide) (by decide) rfl rfl rfl q1779 (htX16_does_0 (45, .getfield 288, 3) (gx_m 13 rfl)) ?_
        refine gx_iload_n (pc := 48) (n := 2) (i := 2) rfl 0 rfl (htX16_does_0 (48, .iload_n 2, 1) (gx_m 14 rfl)) ?_
        refine gx_Jza (pc := 49) (htX16_does_0 (49, .baload, 1) (gx_m 15 rfl)) (fun v3 => ?_)
        refine gx_if_ne (pc := 50) (y := 0) (tgt := 55) (by decide) (htX16_does_0 (50, .ifCond .ne 5, 3) (gx_m 16 rfl)) (fun c4 => ?_) (fun c4 => ?_)
        · exact hT2
        · exact hE2
  · refine gx_Jite (fun c5 => ?_) (fun c5 => ?_)
    · refine gx_Jtab (pc := 13) (tgt := 67) (htX16_does_0 (13, .tableswitch 138 0 2 #[27, 54, 118], 27) (gx_m 9 rfl)) (by decide) (gx_tD c5 (by decide)) (gx_tI c5 (by decide)) ?_
      refine gx_aload_n (pc := 67) (n := 0) (i := 0) rfl 1 rfl (htX16_does_0 (67, .aload_n 0, 1) (gx_m 27 rfl)) ?_
      refine gx_Jgi (pc := 68) (ci := 16) (kk := 107) (by decide) (Or.inl rfl) (by decide) (by decide) q1781 (htX16_does_0 (68, .getfield 394, 3) (gx_m 28 rfl)) (fun v6 hv6 => ?_)
      refine gx_iconst (pc := 71) (v := 1) (by decide) (htX16_does_0 (71, .iconst 1, 1) (gx_m 29 rfl)) ?_
      refine gx_isub (pc := 72) (htX16_does_0 (72, .isub, 1) (gx_m 30 rfl)) ?_
      refine gx_istore_n (pc := 73) (n := 3) (i := 3) (lv' := [(3, gx_i (v6 - 1)), (2, gx_i v1), (0, gx_r 17 (some x0)), (1, gx_i x1)]) rfl (by decide) rfl (htX16_does_0 (73, .istore_n 3, 1) (gx_m 31 rfl)) ?_
      refine gx_Jjoin (pcJ := 129) (lvJ := fun (j_6 : Unit) => []) (stJ := fun (j_6 : Unit) => []) (fun _ => True) (fun j_6 _ => ?_) (fun kk6 hj6 => ?_)
      · refine gx_iconst (pc := 129) (v := 1) (by decide) (htX16_does_0 (129, .iconst 1, 1) (gx_m 63 rfl)) ?_
        exact gx_Jzret (pc := 130) rfl gx_b1 (fun _ => gx_b1) (fun _ _ => rfl) (htX16_does_0 (130, .ireturn, 1) (gx_m 64 rfl))
      · refine gx_Jw (lv := [(0, gx_r 17 (some x0)), (1, gx_i x1), (3, gx_i (v6 - 1))]) [2, 3, 0] rfl ?_
        refine gx_Jlp (pc := 74) (lvh := fun (s7 : Int32) => [(0, gx_r 17 (some x0)), (1, gx_i x1), (3, gx_i s7)]) (fun s7 kl6 ha6 hb6 => ?_) _
        unfold lb_X16_does_1
        refine gx_iload_n (pc := 74) (n := 3) (i := 3) rfl 2 rfl (htX16_does_0 (74, .iload_n 3, 1) (gx_m 32 rfl)) ?_
        refine gx_if_lt (pc := 75) (y := 0) (tgt := 129) (by decide) (htX16_does_0 (75, .ifCond .lt 54, 3) (gx_m 33 rfl)) (fun c7 => ?_) (fun c7 => ?_)
        · refine gx_Jw (lv := []) [] rfl ?_
          exact gx_Jout hb6 (hj6 () trivial)
        · refine gx_aload_n (pc := 78) (n := 0) (i := 0) rfl 0 rfl (htX16_does_0 (78, .aload_n 0, 1) (gx_m 34 rfl)) ?_
          refine gx_iload_n (pc := 79) (n := 3) (i := 3) rfl 2 rfl (htX16_does_0 (79, .iload_n 3, 1) (gx_m 35 rfl)) ?_
          refine gx_aload_n (pc := 80) (n := 0) (i := 0) rfl 0 rfl (htX16_does_0 (80, .aload_n 0, 1) (gx_m 36 rfl)) ?_
          refine gx_Jgs (pc := 81) (ci := 16) (kk := 19) (t2 := 101) (by decide) (by decide) rfl rfl rfl q1693 (htX16_does_0 (81, .getfield 54, 3) (gx_m 37 rfl)) ?_
          refine gx_aload_n (pc := 84) (n := 0) (i := 0) rfl 0 rfl (htX16_does_0 (84, .aload_n 0, 1) (gx_m 38 rfl)) ?_
          refine gx_Jgs (pc := 85) (ci := 16) (kk := 15) (t2 := 100) (by decide) (by decide) rfl rfl rfl q1689 (htX16_does_0 (85, .getfield 41, 3) (gx_m 39 rfl)) ?_
          refine gx_iload_n (pc := 88) (n := 1) (i := 1) rfl 1 rfl (htX16_does_0 (88, .iload_n 1, 1) (gx_m 40 rfl)) ?_
          refine gx_Jia (pc := 89) (htX16_does_0 (89, .iaload, 1) (gx_m 41 rfl)) (fun v8 => ?_)
          refine gx_aload_n (pc := 90) (n := 0) (i := 0) rfl 0 rfl (htX16_does_0 (90, .aload_n 0, 1) (gx_m 42 rfl)) ?_
          refine gx_Jgs (pc := 91) (ci := 16) (kk := 16) (t2 := 100) (by decide) (by decide) rfl rfl rfl q1690 (htX16_does_0 (91, .getfield 44, 3) (gx_m 43 rfl)) ?_
          refine gx_iload_n (pc := 94) (n := 1) (i := 1) rfl 1 rfl (htX16_does_0 (94, .iload_n 1, 1) (gx_m 44 rfl)) ?_
          refine gx_Jia (pc := 95) (htX16_does_0 (95, .iaload, 1) (gx_m 45 rfl)) (fun v9 => ?_)
          refine gx_aload_n (pc := 96) (n := 0) (i := 0) rfl 0 rfl (htX16_does_0 (96, .aload_n 0, 1) (gx_m 46 rfl)) ?_
          refine gx_Jgs (pc := 97) (ci := 16) (kk := 19) (t2 := 101) (by decide) (by decide) rfl rfl rfl q1693 (htX16_does_0 (97, .getfield 54, 3) (gx_m 47 rfl)) ?_
          refine gx_aload_n (pc := 100) (n := 0) (i := 0) rfl 0 rfl (htX16_does_0 (100, .aload_n 0, 1) (gx_m 48 rfl)) ?_
          refine gx_Jgs (pc := 101) (ci := 16) (kk := 17) (t2 := 100) (by decide) (by decide) rfl rfl rfl q1691 (htX16_does_0 (101, .getfield 47, 3) (gx_m 49 rfl)) ?_
          refine gx_iload_n (pc := 104) (n := 1) (i := 1) rfl 1 rfl (htX16_does_0 (104, .iload_n 1, 1) (gx_m 50 rfl)) ?_
          refine gx_Jia (pc := 105) (htX16_does_0 (105, .iaload, 1) (gx_m 51 rfl)) (fun v10 => ?_)
          refine gx_aload_n (pc := 106) (n := 0) (i := 0) rfl 0 rfl (htX16_does_0 (106, .aload_n 0, 1) (gx_m 52 rfl)) ?_
          refine gx_Jgs (pc := 107) (ci := 16) (kk := 18) (t2 := 100) (by decide) (by decide) rfl rfl rfl q1692 (htX16_does_0 (107, .getfield 50, 3) (gx_m 53 rfl)) ?_
          refine gx_iload_n (pc := 110) (n := 1) (i := 1) rfl 1 rfl (htX16_does_0 (110, .iload_n 1, 1) (gx_m 54 rfl)) ?_
          refine gx_Jia (pc := 111) (htX16_does_0 (111, .iaload, 1) (gx_m 55 rfl)) (fun v11 => ?_)
          refine gx_Jcz (pc := 112) (gx_hst (as := [gx_i s7, gx_r 101 (some (19 :: x0)), gx_i v8, gx_i v9, gx_r 101 (some (19 :: x0)), gx_i v10, gx_i v11]) (b := gx_r 17 (some x0))) (gx_runV (as := [gx_i s7, gx_r 101 (some (19 :: x0)), gx_i v8, gx_i v9, gx_r 101 (some (19 :: x0)), gx_i v10, gx_i v11]) (ci := 16) (ct_X16_inRange Y x0 s7 (19 :: x0) v8 v9 (19 :: x0) v10 v11) (by decide) (Or.inl rfl) rfl rfl rfl rfl q2295 q2297 qs88 q117 q2298 rfl dd_X16_inRange (by decide) (by decide) (Nat.le_of_ble_eq_true rfl) (htX16_does_0 (112, .invokevirtual 420, 3) (gx_m 56 rfl))) (fun v12 hv12 => ?_)
          refine gx_Jjoin (pcJ := 123) (lvJ := fun (j_8 : Unit) => [(0, gx_r 17 (some x0)), (1, gx_i x1), (3, gx_i s7)]) (stJ := fun (j_8 : Unit) => []) (fun _ => True) (fun j_8 hj_8 => ?_) (fun kk8 hj8 => ?_)
          · refine gx_iinc (pc := 123) (i := 3) (j := 2) (v := (s7 + (-1))) (lv' := [(3, gx_i (s7 + (-1))), (0, gx_r 17 (some x0)), (1, gx_i x1)]) rfl (gx_iv (by decide)) (by decide) rfl (htX16_does_0 (123, .iinc 3 (-1), 3) (gx_m 61 rfl)) ?_
            refine gx_goto (pc := 126) (tgt := 74) (by decide) (htX16_does_0 (126, .goto (-52), 3) (gx_m 62 rfl)) ?_
            refine gx_Jw (lv := [(0, gx_r 17 (some x0)), (1, gx_i x1), (3, gx_i (s7 + (-1)))]) [1, 2, 0] rfl ?_
            exact ha6 ((s7 + (-1)) : Int32)
          · refine gx_if_eq (pc := 115) (y := 0) (tgt := 123) (by decide) (htX16_does_0 (115, .ifCond .eq 8, 3) (gx_m 57 rfl)) (fun c9 => ?_) (fun c9 => ?_)
            · exact hj8 () trivial
            · refine gx_aload_n (pc := 118) (n := 0) (i := 0) rfl 0 rfl (htX16_does_0 (118, .aload_n 0, 1) (gx_m 58 rfl)) ?_
              refine gx_iload_n (pc := 119) (n := 3) (i := 3) rfl 2 rfl (htX16_does_0 (119, .iload_n 3, 1) (gx_m 59 rfl)) ?_
              refine gx_Jcv (pc := 120) (gx_hst (as := [gx_i s7]) (b := gx_r 17 (some x0))) (gx_runV (as := [gx_i s7]) (ci := 16) (ct_X16_gone Y x0 s7) (by decide) (Or.inl rfl) rfl rfl rfl rfl q2299 q2301 qs89 q117 q2302 rfl dd_X16_gone (by decide) (by decide) (Nat.le_of_ble_eq_true rfl) (htX16_does_0 (120, .invokevirtual 424, 3) (gx_m 60 rfl))) ?_
              exact hj8 () trivial
    · refine gx_Jite (fun c10 => ?_) (fun c10 => ?_)
      · refine gx_Jtab (pc := 13) (tgt := 131) (htX16_does_0 (13, .tableswitch 138 0 2 #[27, 54, 118], 27) (gx_m 9 rfl)) (by decide) (gx_tD c10 (by decide)) (gx_tI c10 (by decide)) ?_
        refine gx_aload_n (pc := 131) (n := 0) (i := 0) rfl 1 rfl (htX16_does_0 (131, .aload_n 0, 1) (gx_m 65 rfl)) ?_
        refine gx_Jgs (pc := 132) (ci := 16) (kk := 105) (t2 := 102) (by decide) (by decide) rfl rfl rfl q1779 (htX16_does_0 (132, .getfield 288, 3) (gx_m 66 rfl)) ?_
        refine gx_iload_n (pc := 135) (n := 2) (i := 2) rfl 0 rfl (htX16_does_0 (135, .iload_n 2, 1) (gx_m 67 rfl)) ?_
        refine gx_Jza (pc := 136) (htX16_does_0 (136, .baload, 1) (gx_m 68 rfl)) (fun v13 => ?_)
        refine gx_if_eq (pc := 137) (y := 0) (tgt := 142) (by decide) (htX16_does_0 (137, .ifCond .eq 5, 3) (gx_m 69 rfl)) (fun c11 => ?_) (fun c11 => ?_)
        · refine gx_aload_n (pc := 142) (n := 0) (i := 0) rfl 1 rfl (htX16_does_0 (142, .aload_n 0, 1) (gx_m 72 rfl)) ?_
          refine gx_Jgs (pc := 143) (ci := 16) (kk := 105) (t2 := 102) (by decide) (by decide) rfl rfl rfl q1779 (htX16_does_0 (143, .getfield 288, 3) (gx_m 73 rfl)) ?_
          refine gx_iload_n (pc := 146) (n := 2) (i := 2) rfl 0 rfl (htX16_does_0 (146, .iload_n 2, 1) (gx_m 74 rfl)) ?_
          refine gx_iconst (pc := 147) (v := 1) (by decide) (htX16_does_0 (147, .iconst 1, 1) (gx_m 75 rfl)) ?_
          refine gx_Jzs (pc := 148) (htX16_does_0 (148, .bastore, 1) (gx_m 76 rfl)) ?_
          refine gx_iconst (pc := 149) (v := 1) (by decide) (htX16_does_0 (149, .iconst 1, 1) (gx_m 77 rfl)) ?_
          exact gx_Jzret (pc := 150) rfl gx_b1 (fun _ => gx_b1) (fun _ _ => rfl) (htX16_does_0 (150, .ireturn, 1) (gx_m 78 rfl))
        · refine gx_iconst (pc := 140) (v := 0) (by decide) (htX16_does_0 (140, .iconst 0, 1) (gx_m 70 rfl)) ?_
          exact gx_Jzret (pc := 141) rfl gx_b0 (fun _ => gx_b0) (fun _ _ => rfl) (htX16_does_0 (141, .ireturn, 1) (gx_m 71 rfl))
      · refine gx_Jtab (pc := 13) (tgt := 151) (htX16_does_0 (13, .tableswitch 138 0 2 #[27, 54, 118], 27) (gx_m 9 rfl)) (by decide) (fun _ => by decide) (gx_tN (ks := [0, 1, 2]) (by simp only [List.mem_cons, List.not_mem_nil, or_false, not_or]; exact ⟨c1, c5, c10⟩) (by decide)) ?_
        refine gx_aload_n (pc := 151) (n := 0) (i := 0) rfl 1 rfl (htX16_does_0 (151, .aload_n 0, 1) (gx_m 79 rfl)) ?_
        refine gx_Jgs (pc := 152) (ci := 16) (kk := 105) (t2 := 102) (by decide) (by decide) rfl rfl rfl q1779 (htX16_does_0 (152, .getfield 288, 3) (gx_m 80 rfl)) ?_
        refine gx_iload_n (pc := 155) (n := 2) (i := 2) rfl 0 rfl (htX16_does_0 (155, .iload_n 2, 1) (gx_m 81 rfl)) ?_
        refine gx_Jza (pc := 156) (htX16_does_0 (156, .baload, 1) (gx_m 82 rfl)) (fun v14 => ?_)
        refine gx_if_ne (pc := 157) (y := 0) (tgt := 162) (by decide) (htX16_does_0 (157, .ifCond .ne 5, 3) (gx_m 83 rfl)) (fun c12 => ?_) (fun c12 => ?_)
        · refine gx_iconst (pc := 160) (v := 0) (by decide) (htX16_does_0 (160, .iconst 0, 1) (gx_m 84 rfl)) ?_
          exact gx_Jzret (pc := 161) rfl gx_b0 (fun _ => gx_b0) (fun _ _ => rfl) (htX16_does_0 (161, .ireturn, 1) (gx_m 85 rfl))
        · refine gx_aload_n (pc := 162) (n := 0) (i := 0) rfl 1 rfl (htX16_does_0 (162, .aload_n 0, 1) (gx_m 86 rfl)) ?_
          refine gx_Jgs (pc := 163) (ci := 16) (kk := 105) (t2 := 102) (by decide) (by decide) rfl rfl rfl q1779 (htX16_does_0 (163, .getfield 288, 3) (gx_m 87 rfl)) ?_
          refine gx_iload_n (pc := 166) (n := 2) (i := 2) rfl 0 rfl (htX16_does_0 (166, .iload_n 2, 1) (gx_m 88 rfl)) ?_
          refine gx_iconst (pc := 167) (v := 0) (by decide) (htX16_does_0 (167, .iconst 0, 1) (gx_m 89 rfl)) ?_
          refine gx_Jzs (pc := 168) (htX16_does_0 (168, .bastore, 1) (gx_m 90 rfl)) ?_
          refine gx_aload_n (pc := 169) (n := 0) (i := 0) rfl 1 rfl (htX16_does_0 (169, .aload_n 0, 1) (gx_m 91 rfl)) ?_
          refine gx_Jgi (pc := 170) (ci := 16) (kk := 107) (by decide) (Or.inl rfl) (by decide) (by decide) q1781 (htX16_does_0 (170, .getfield 394, 3) (gx_m 92 rfl)) (fun v15 hv15 => ?_)
          refine gx_iconst (pc := 173) (v := 1) (by decide) (htX16_does_0 (173, .iconst 1, 1) (gx_m 93 rfl)) ?_
          refine gx_isub (pc := 174) (htX16_does_0 (174, .isub, 1) (gx_m 94 rfl)) ?_
          refine gx_istore_n (pc := 175) (n := 3) (i := 3) (lv' := [(3, gx_i (v15 - 1)), (2, gx_i v1), (0, gx_r 17 (some x0)), (1, gx_i x1)]) rfl (by decide) rfl (htX16_does_0 (175, .istore_n 3, 1) (gx_m 95 rfl)) ?_
          refine gx_Jjoin (pcJ := 201) (lvJ := fun (j_13 : Unit) => []) (stJ := fun (j_13 : Unit) => []) (fun _ => True) (fun j_13 _ => ?_) (fun kk13 hj13 => ?_)
          · refine gx_iconst (pc := 201) (v := 1) (by decide) (htX16_does_1 (201, .iconst 1, 1) (gx_m 9 rfl)) ?_
            exact gx_Jzret (pc := 202) rfl gx_b1 (fun _ => gx_b1) (fun _ _ => rfl) (htX16_does_1 (202, .ireturn, 1) (gx_m 10 rfl))
          · refine gx_Jw (lv := [(0, gx_r 17 (some x0)), (2, gx_i v1), (3, gx_i (v15 - 1))]) [2, 1, 0] rfl ?_
            refine gx_Jlp (pc := 176) (lvh := fun (s16 : Int32) => [(0, gx_r 17 (some x0)), (2, gx_i v1), (3, gx_i s16)]) (fun s16 kl13 ha13 hb13 => ?_) _
            unfold lb_X16_does_2
            refine gx_iload_n (pc := 176) (n := 3) (i := 3) rfl 2 rfl (htX16_does_0 (176, .iload_n 3, 1) (gx_m 96 rfl)) ?_
            refine gx_if_lt (pc := 177) (y := 0) (tgt := 201) (by decide) (htX16_does_0 (177, .ifCond .lt 24, 3) (gx_m 97 rfl)) (fun c14 => ?_) (fun c14 => ?_)
            · refine gx_Jw (lv := []) [] rfl ?_
              exact gx_Jout hb13 (hj13 () trivial)
            · refine gx_aload_n (pc := 180) (n := 0) (i := 0) rfl 0 rfl (htX16_does_0 (180, .aload_n 0, 1) (gx_m 98 rfl)) ?_
              refine gx_Jgs (pc := 181) (ci := 16) (kk := 104) (t2 := 100) (by decide) (by decide) rfl rfl rfl q1778 (htX16_does_0 (181, .getfield 285, 3) (gx_m 99 rfl)) ?_
              refine gx_iload_n (pc := 184) (n := 3) (i := 3) rfl 2 rfl (htX16_does_1 (184, .iload_n 3, 1) (gx_m 0 rfl)) ?_
              refine gx_Jia (pc := 185) (htX16_does_1 (185, .iaload, 1) (gx_m 1 rfl)) (fun v17 => ?_)
              refine gx_iload_n (pc := 186) (n := 2) (i := 2) rfl 1 rfl (htX16_does_1 (186, .iload_n 2, 1) (gx_m 2 rfl)) ?_
              refine gx_Jjoin (pcJ := 195) (lvJ := fun (j_15 : Unit) => [(0, gx_r 17 (some x0)), (2, gx_i v1), (3, gx_i s16)]) (stJ := fun (j_15 : Unit) => []) (fun _ => True) (fun j_15 hj_15 => ?_) (fun kk15 hj15 => ?_)
              · refine gx_iinc (pc := 195) (i := 3) (j := 2) (v := (s16 + (-1))) (lv' := [(3, gx_i (s16 + (-1))), (0, gx_r 17 (some x0)), (2, gx_i v1)]) rfl (gx_iv (by decide)) (by decide) rfl (htX16_does_1 (195, .iinc 3 (-1), 3) (gx_m 7 rfl)) ?_
                refine gx_goto (pc := 198) (tgt := 176) (by decide) (htX16_does_1 (198, .goto (-22), 3) (gx_m 8 rfl)) ?_
                refine gx_Jw (lv := [(0, gx_r 17 (some x0)), (2, gx_i v1), (3, gx_i (s16 + (-1)))]) [1, 2, 0] rfl ?_
                exact ha13 ((s16 + (-1)) : Int32)
              · refine gx_icmp_ne (pc := 187) (tgt := 195) (by decide) (htX16_does_1 (187, .if_icmp .ne 8, 3) (gx_m 3 rfl)) (fun c16 => ?_) (fun c16 => ?_)
                · refine gx_aload_n (pc := 190) (n := 0) (i := 0) rfl 0 rfl (htX16_does_1 (190, .aload_n 0, 1) (gx_m 4 rfl)) ?_
                  refine gx_iload_n (pc := 191) (n := 3) (i := 3) rfl 2 rfl (htX16_does_1 (191, .iload_n 3, 1) (gx_m 5 rfl)) ?_
                  refine gx_Jcv (pc := 192) (gx_hst (as := [gx_i s16]) (b := gx_r 17 (some x0))) (gx_runV (as := [gx_i s16]) (ci := 16) (ct_X16_gone Y x0 s16) (by decide) (Or.inl rfl) rfl rfl rfl rfl q2299 q2301 qs89 q117 q2302 rfl dd_X16_gone (by decide) (by decide) (Nat.le_of_ble_eq_true rfl) (htX16_does_1 (192, .invokevirtual 424, 3) (gx_m 6 rfl))) ?_
                  exact hj15 () trivial
                · exact hj15 () trivial
theorem ct_X16_back (Y : gx_Y) (x0 : gx_Nm) : gx_Ct Y yX16_back (ws_ yX16_back cX16_back 3 none) 2 121 [gx_r 17 (some x0)] gx_Ov (f_X16_back x0) := by
  refine gx_start (lv := [(0, gx_r 17 (some x0))]) gx_Ov_r pn_X16 (Nat.le_of_ble_eq_true rfl) rfl ?_
  unfold f_X16_back
  refine gx_aload_n (pc := 0) (n := 0) (i := 0) rfl 0 rfl (htX16_back (0, .aload_n 0, 1) (gx_m 0 rfl)) ?_
  refine gx_aload_n (pc := 1) (n := 0) (i := 0) rfl 0 rfl (htX16_back (1, .aload_n 0, 1) (gx_m 1 rfl)) ?_
  refine gx_Jgi (pc := 2) (ci := 16) (kk := 110) (by decide) (Or.inl rfl) (by decide) (by decide) q1784 (htX16_back (2, .getfield 405, 3) (gx_m 2 rfl)) (fun v1 hv1 => ?_)
  refine gx_Jpi (pc := 5) (ci := 16) (kk := 107) (by decide) (Or.inl rfl) (by decide) rfl rfl q1781 (Or.inl rfl) (htX16_back (5, .putfield 394, 3) (gx_m 3 rfl)) ?_
  refine gx_iconst (pc := 8) (v := 0) (by decide) (htX16_back (8, .iconst 0, 1) (gx_m 4 rfl)) ?_
  refine gx_istore_n (pc := 9) (n := 1) (i := 1) (lv' := [(1, gx_i 0), (0, gx_r 17 (some x0))]) rfl (by decide) rfl (htX16_back (9, .istore_n 1, 1) (gx_m 5 rfl)) ?_
  refine gx_Jjoin (pcJ := 53) (lvJ := fun (j_1 : Unit) => [(0, gx_r 17 (some x0))]) (stJ := fun (j_1 : Unit) => []) (fun _ => True) (fun j_1 _ => ?_) (fun kk1 hj1 => ?_)
  · refine gx_iconst (pc := 53) (v := 0) (by decide) (htX16_back (53, .iconst 0, 1) (gx_m 30 rfl)) ?_
    refine gx_istore_n (pc := 54) (n := 1) (i := 1) (lv' := [(1, gx_i 0), (0, gx_r 17 (some x0))]) rfl (by decide) rfl (htX16_back (54, .istore_n 1, 1) (gx_m 31 rfl)) ?_
    refine gx_Jjoin (pcJ := 79) (lvJ := fun (j_2 : Unit) => []) (stJ := fun (j_2 : Unit) => []) (fun _ => True) (fun j_2 _ => ?_) (fun kk2 hj2 => ?_)
    · exact gx_Jvret (pc := 79) rfl (fun _ => trivial) (fun _ _ => rfl) (htX16_back (79, .return_, 1) (gx_m 45 rfl))
    · refine gx_Jw (lv := [(0, gx_r 17 (some x0)), (1, gx_i 0)]) [1, 0] rfl ?_
      refine gx_Jlp (pc := 55) (lvh := fun (s8 : Int32) => [(0, gx_r 17 (some x0)), (1, gx_i s8)]) (fun s8 kl2 ha2 hb2 => ?_) _
      unfold lb_X16_back_3
      refine gx_iload_n (pc := 55) (n := 1) (i := 1) rfl 1 rfl (htX16_back (55, .iload_n 1, 1) (gx_m 32 rfl)) ?_
      refine gx_bipush (pc := 56) (v := 100) (by decide) (htX16_back (56, .bipush 100, 2) (gx_m 33 rfl)) ?_
      refine gx_icmp_ge (pc := 58) (tgt := 79) (by decide) (htX16_back (58, .if_icmp .ge 21, 3) (gx_m 34 rfl)) (fun c3 => ?_) (fun c3 => ?_)
      · refine gx_Jw (lv := []) [] rfl ?_
        exact gx_Jout hb2 (hj2 () trivial)
      · refine gx_aload_n (pc := 61) (n := 0) (i := 0) rfl 0 rfl (htX16_back (61, .aload_n 0, 1) (gx_m 35 rfl)) ?_
        refine gx_Jgs (pc := 62) (ci := 16) (kk := 105) (t2 := 102) (by decide) (by decide) rfl rfl rfl q1779 (htX16_back (62, .getfield 288, 3) (gx_m 36 rfl)) ?_
        refine gx_iload_n (pc := 65) (n := 1) (i := 1) rfl 1 rfl (htX16_back (65, .iload_n 1, 1) (gx_m 37 rfl)) ?_
        refine gx_aload_n (pc := 66) (n := 0) (i := 0) rfl 0 rfl (htX16_back (66, .aload_n 0, 1) (gx_m 38 rfl)) ?_
        refine gx_Jgs (pc := 67) (ci := 16) (kk := 106) (t2 := 102) (by decide) (by decide) rfl rfl rfl q1780 (htX16_back (67, .getfield 291, 3) (gx_m 39 rfl)) ?_
        refine gx_iload_n (pc := 70) (n := 1) (i := 1) rfl 1 rfl (htX16_back (70, .iload_n 1, 1) (gx_m 40 rfl)) ?_
        refine gx_Jza (pc := 71) (htX16_back (71, .baload, 1) (gx_m 41 rfl)) (fun v9 => ?_)
        refine gx_Jzs (pc := 72) (htX16_back (72, .bastore, 1) (gx_m 42 rfl)) ?_
        refine gx_iinc (pc := 73) (i := 1) (j := 1) (v := (s8 + 1)) (lv' := [(1, gx_i (s8 + 1)), (0, gx_r 17 (some x0))]) rfl (gx_iv (by decide)) (by decide) rfl (htX16_back (73, .iinc 1 1, 3) (gx_m 43 rfl)) ?_
        refine gx_goto (pc := 76) (tgt := 55) (by decide) (htX16_back (76, .goto (-21), 3) (gx_m 44 rfl)) ?_
        refine gx_Jw (lv := [(0, gx_r 17 (some x0)), (1, gx_i (s8 + 1))]) [1, 0] rfl ?_
        exact ha2 ((s8 + 1) : Int32)
  · refine gx_Jw (lv := [(0, gx_r 17 (some x0)), (1, gx_i 0)]) [1, 0] rfl ?_
    refine gx_Jlp (pc := 10) (lvh := fun (s2 : Int32) => [(0, gx_r 17 (some x0)), (1, gx_i s2)]) (fun s2 kl1 ha1 hb1 => ?_) _
    unfold lb_X16_back_2
    refine gx_iload_n (pc := 10) (n := 1) (i := 1) rfl 1 rfl (htX16_back (10, .iload_n 1, 1) (gx_m 6 rfl)) ?_
    refine gx_bipush (pc := 11) (v := 8) (by decide) (htX16_back (11, .bipush 8, 2) (gx_m 7 rfl)) ?_
    refine gx_icmp_ge (pc := 13) (tgt := 53) (by decide) (htX16_back (13, .if_icmp .ge 40, 3) (gx_m 8 rfl)) (fun c4 => ?_) (fun c4 => ?_)
    · refine gx_Jw (lv := [(0, gx_r 17 (some x0))]) [0] rfl ?_
      exact gx_Jout hb1 (hj1 () trivial)
    · refine gx_iconst (pc := 16) (v := 0) (by decide) (htX16_back (16, .iconst 0, 1) (gx_m 9 rfl)) ?_
      refine gx_istore_n (pc := 17) (n := 2) (i := 2) (lv' := [(2, gx_i 0), (0, gx_r 17 (some x0)), (1, gx_i s2)]) rfl (by decide) rfl (htX16_back (17, .istore_n 2, 1) (gx_m 10 rfl)) ?_
      refine gx_Jjoin (pcJ := 47) (lvJ := fun (j_5 : Unit) => [(0, gx_r 17 (some x0)), (1, gx_i s2)]) (stJ := fun (j_5 : Unit) => []) (fun _ => True) (fun j_5 _ => ?_) (fun kk5 hj5 => ?_)
      · refine gx_iinc (pc := 47) (i := 1) (j := 1) (v := (s2 + 1)) (lv' := [(1, gx_i (s2 + 1)), (0, gx_r 17 (some x0))]) rfl (gx_iv (by decide)) (by decide) rfl (htX16_back (47, .iinc 1 1, 3) (gx_m 28 rfl)) ?_
        refine gx_goto (pc := 50) (tgt := 10) (by decide) (htX16_back (50, .goto (-40), 3) (gx_m 29 rfl)) ?_
        refine gx_Jw (lv := [(0, gx_r 17 (some x0)), (1, gx_i (s2 + 1))]) [1, 0] rfl ?_
        exact ha1 ((s2 + 1) : Int32)
      · refine gx_Jw (lv := [(0, gx_r 17 (some x0)), (1, gx_i s2), (2, gx_i 0)]) [1, 2, 0] rfl ?_
        refine gx_Jlp (pc := 18) (lvh := fun (s3 : Int32) => [(0, gx_r 17 (some x0)), (1, gx_i s2), (2, gx_i s3)]) (fun s3 kl5 ha5 hb5 => ?_) _
        unfold lb_X16_back_1
        refine gx_iload_n (pc := 18) (n := 2) (i := 2) rfl 2 rfl (htX16_back (18, .iload_n 2, 1) (gx_m 11 rfl)) ?_
        refine gx_aload_n (pc := 19) (n := 0) (i := 0) rfl 0 rfl (htX16_back (19, .aload_n 0, 1) (gx_m 12 rfl)) ?_
        refine gx_Jgi (pc := 20) (ci := 16) (kk := 107) (by decide) (Or.inl rfl) (by decide) (by decide) q1781 (htX16_back (20, .getfield 394, 3) (gx_m 13 rfl)) (fun v4 hv4 => ?_)
        refine gx_icmp_ge (pc := 23) (tgt := 47) (by decide) (htX16_back (23, .if_icmp .ge 24, 3) (gx_m 14 rfl)) (fun c6 => ?_) (fun c6 => ?_)
        · refine gx_Jw (lv := [(0, gx_r 17 (some x0)), (1, gx_i s2)]) [0, 1] rfl ?_
          exact gx_Jout hb5 (hj5 () trivial)
        · refine gx_aload_n (pc := 26) (n := 0) (i := 0) rfl 0 rfl (htX16_back (26, .aload_n 0, 1) (gx_m 15 rfl)) ?_
          refine gx_iload_n (pc := 27) (n := 1) (i := 1) rfl 1 rfl (htX16_back (27, .iload_n 1, 1) (gx_m 16 rfl)) ?_
          refine gx_Jcr (pc := 28) (t2 := 100) (gx_hst (as := [gx_i s2]) (b := gx_r 17 (some x0))) (gx_runV (as := [gx_i s2]) (ci := 16) (ct_X16_field Y x0 s2) (by decide) (Or.inl rfl) rfl rfl rfl rfl q2268 q2270 qs82 q117 q2271 rfl dd_X16_field (by decide) (by decide) (Nat.le_of_ble_eq_true rfl) (htX16_back (28, .invokevirtual 401, 3) (gx_m 17 rfl))) (fun v5 => ?_)
          refine gx_iload_n (pc := 31) (n := 2) (i := 2) rfl 2 rfl (htX16_back (31, .iload_n 2, 1) (gx_m 18 rfl)) ?_
          refine gx_aload_n (pc := 32) (n := 0) (i := 0) rfl 0 rfl (htX16_back (32, .aload_n 0, 1) (gx_m 19 rfl)) ?_
          refine gx_Jgs (pc := 33) (ci := 16) (kk := 109) (t2 := 105) (by decide) (by decide) rfl rfl rfl q1783 (htX16_back (33, .getfield 294, 3) (gx_m 20 rfl)) ?_
          refine gx_iload_n (pc := 36) (n := 1) (i := 1) rfl 1 rfl (htX16_back (36, .iload_n 1, 1) (gx_m 21 rfl)) ?_
          refine gx_Jra (pc := 37) (t := 5) (t2 := 100) (by decide) (by decide) rfl (htX16_back (37, .aaload, 1) (gx_m 22 rfl)) (fun v6 => ?_)
          refine gx_iload_n (pc := 38) (n := 2) (i := 2) rfl 2 rfl (htX16_back (38, .iload_n 2, 1) (gx_m 23 rfl)) ?_
          refine gx_Jia (pc := 39) (htX16_back (39, .iaload, 1) (gx_m 24 rfl)) (fun v7 => ?_)
          refine gx_Jis (pc := 40) (htX16_back (40, .iastore, 1) (gx_m 25 rfl)) ?_
          refine gx_iinc (pc := 41) (i := 2) (j := 2) (v := (s3 + 1)) (lv' := [(2, gx_i (s3 + 1)), (0, gx_r 17 (some x0)), (1, gx_i s2)]) rfl (gx_iv (by decide)) (by decide) rfl (htX16_back (41, .iinc 2 1, 3) (gx_m 26 rfl)) ?_
          refine gx_goto (pc := 44) (tgt := 18) (by decide) (htX16_back (44, .goto (-26), 3) (gx_m 27 rfl)) ?_
          refine gx_Jw (lv := [(0, gx_r 17 (some x0)), (1, gx_i s2), (2, gx_i (s3 + 1))]) [1, 2, 0] rfl ?_
          exact ha5 ((s3 + 1) : Int32)
theorem ct_X16_apply (Y : gx_Y) (x0 : gx_Nm) (x1 : Int32) : gx_Ct Y yX16_apply (ws_ yX16_apply cX16_apply 7 none) 5 200 [gx_r 17 (some x0), gx_i x1] gx_Ov (f_X16_apply x0 x1) := by
  refine gx_start (lv := [(0, gx_r 17 (some x0)), (1, gx_i x1)]) gx_Ov_r pn_X16 (Nat.le_of_ble_eq_true rfl) rfl ?_
  unfold f_X16_apply
  refine gx_aload_n (pc := 0) (n := 0) (i := 0) rfl 0 rfl (htX16_apply_0 (0, .aload_n 0, 1) (gx_m 0 rfl)) ?_
  refine gx_Jcv (pc := 1) (gx_hst (as := []) (b := gx_r 17 (some x0))) (gx_runV (as := []) (ci := 16) (ct_X16_remember Y x0) (by decide) (Or.inl rfl) rfl rfl rfl rfl q2264 q2266 qs81 q117 q2267 rfl dd_X16_remember (by decide) (by decide) (Nat.le_of_ble_eq_true rfl) (htX16_apply_0 (1, .invokevirtual 436, 3) (gx_m 1 rfl))) ?_
  refine gx_aload_n (pc := 4) (n := 0) (i := 0) rfl 0 rfl (htX16_apply_0 (4, .aload_n 0, 1) (gx_m 2 rfl)) ?_
  refine gx_iconst (pc := 5) (v := 0) (by decide) (htX16_apply_0 (5, .iconst 0, 1) (gx_m 3 rfl)) ?_
  refine gx_Jpi (pc := 6) (ci := 16) (kk := 112) (by decide) (Or.inl rfl) (by decide) rfl rfl q1786 (Or.inl rfl) (htX16_apply_0 (6, .putfield 430, 3) (gx_m 4 rfl)) ?_
  refine gx_aload_n (pc := 9) (n := 0) (i := 0) rfl 0 rfl (htX16_apply_0 (9, .aload_n 0, 1) (gx_m 5 rfl)) ?_
  refine gx_iconst (pc := 10) (v := 0) (by decide) (htX16_apply_0 (10, .iconst 0, 1) (gx_m 6 rfl)) ?_
  refine gx_Jpz (pc := 11) (ci := 16) (kk := 113) (by decide) (Or.inl rfl) (by decide) rfl rfl gx_b0 q1787 (Or.inl rfl) (htX16_apply_0 (11, .putfield 412, 3) (gx_m 7 rfl)) ?_
  refine gx_iconst (pc := 14) (v := 1) (by decide) (htX16_apply_0 (14, .iconst 1, 1) (gx_m 8 rfl)) ?_
  refine gx_istore_n (pc := 15) (n := 2) (i := 2) (lv' := [(2, gx_i 1), (0, gx_r 17 (some x0)), (1, gx_i x1)]) rfl (by decide) rfl (htX16_apply_0 (15, .istore_n 2, 1) (gx_m 9 rfl)) ?_
  refine gx_iconst (pc := 16) (v := 0) (by decide) (htX16_apply_0 (16, .iconst 0, 1) (gx_m 10 rfl)) ?_
  refine gx_istore_n (pc := 17) (n := 3) (i := 3) (lv' := [(3, gx_i 0), (2, gx_i 1), (0, gx_r 17 (some x0)), (1, gx_i x1)]) rfl (by decide) rfl (htX16_apply_0 (17, .istore_n 3, 1) (gx_m 11 rfl)) ?_
  refine gx_Jjoin (pcJ := 57) (lvJ := fun (j5 : Int32) => [(0, gx_r 17 (some x0)), (1, gx_i x1), (2, gx_i j5)]) (stJ := fun (j5 : Int32) => []) (fun _ => True) (fun j5 _ => ?_) (fun kk1 hj1 => ?_)
  · refine gx_aload_n (pc := 57) (n := 0) (i := 0) rfl 0 rfl (htX16_apply_0 (57, .aload_n 0, 1) (gx_m 34 rfl)) ?_
    refine gx_iload_n (pc := 58) (n := 2) (i := 2) rfl 2 rfl (htX16_apply_0 (58, .iload_n 2, 1) (gx_m 35 rfl)) ?_
    refine gx_Jjoin (pcJ := 67) (lvJ := fun (j6 : Int32) => [(0, gx_r 17 (some x0)), (1, gx_i x1), (2, gx_i j5)]) (stJ := fun (j6 : Int32) => [gx_i j6, gx_r 17 (some x0)]) (fun (j6 : Int32) => j6 &&& 1 = j6) (fun j6 hj6 => ?_) (fun kk2 hj2 => ?_)
    · refine gx_Jpi (pc := 67) (ci := 16) (kk := 111) (by decide) (Or.inl rfl) (by decide) rfl rfl q1785 (Or.inl rfl) (htX16_apply_0 (67, .putfield 442, 3) (gx_m 40 rfl)) ?_
      refine gx_bipush (pc := 70) (v := 16) (by decide) (htX16_apply_0 (70, .bipush 16, 2) (gx_m 41 rfl)) ?_
      refine gx_iload_n (pc := 72) (n := 1) (i := 1) rfl 1 rfl (htX16_apply_0 (72, .iload_n 1, 1) (gx_m 42 rfl)) ?_
      refine gx_imul (pc := 73) (htX16_apply_0 (73, .imul, 1) (gx_m 43 rfl)) ?_
      refine gx_iload_n (pc := 74) (n := 2) (i := 2) rfl 2 rfl (htX16_apply_0 (74, .iload_n 2, 1) (gx_m 44 rfl)) ?_
      refine gx_Jjoin (pcJ := 84) (lvJ := fun (j7 : Int32) => [(0, gx_r 17 (some x0)), (1, gx_i x1), (2, gx_i j5)]) (stJ := fun (j7 : Int32) => [gx_i j7, gx_i (16 * x1)]) (fun _ => True) (fun j7 hj7 => ?_) (fun kk3 hj3 => ?_)
      · refine gx_iadd (pc := 84) (htX16_apply_0 (84, .iadd, 1) (gx_m 49 rfl)) ?_
        refine gx_istore_n (pc := 85) (n := 3) (i := 3) (lv' := [(3, gx_i ((16 * x1) + j7)), (0, gx_r 17 (some x0)), (1, gx_i x1), (2, gx_i j5)]) rfl (by decide) rfl (htX16_apply_0 (85, .istore_n 3, 1) (gx_m 50 rfl)) ?_
        refine gx_iload_n (pc := 86) (n := 2) (i := 2) rfl 3 rfl (htX16_apply_0 (86, .iload_n 2, 1) (gx_m 51 rfl)) ?_
        refine gx_Jjoin (pcJ := 105) (lvJ := fun (j10 : Int32) => [(0, gx_r 17 (some x0)), (3, gx_i ((16 * x1) + j7))]) (stJ := fun (j10 : Int32) => [gx_i j10]) (fun _ => True) (fun j10 hj10 => ?_) (fun kk4 hj4 => ?_)
        · refine gx_istore (pc := 105) (i := 4) (lv' := [(4, gx_i j10), (0, gx_r 17 (some x0)), (3, gx_i ((16 * x1) + j7))]) (by decide) rfl (htX16_apply_0 (105, .istore 4, 2) (gx_m 62 rfl)) ?_
          refine gx_iconst (pc := 107) (v := 1) (by decide) (htX16_apply_0 (107, .iconst 1, 1) (gx_m 63 rfl)) ?_
          refine gx_istore (pc := 108) (i := 5) (lv' := [(5, gx_i 1), (4, gx_i j10), (0, gx_r 17 (some x0)), (3, gx_i ((16 * x1) + j7))]) (by decide) rfl (htX16_apply_0 (108, .istore 5, 2) (gx_m 64 rfl)) ?_
          refine gx_iconst (pc := 110) (v := 0) (by decide) (htX16_apply_0 (110, .iconst 0, 1) (gx_m 65 rfl)) ?_
          refine gx_istore (pc := 111) (i := 6) (lv' := [(6, gx_i 0), (5, gx_i 1), (4, gx_i j10), (0, gx_r 17 (some x0)), (3, gx_i ((16 * x1) + j7))]) (by decide) rfl (htX16_apply_0 (111, .istore 6, 2) (gx_m 66 rfl)) ?_
          refine gx_Jjoin (pcJ := 141) (lvJ := fun (j13 : Int32) => [(0, gx_r 17 (some x0)), (5, gx_i j13)]) (stJ := fun (j13 : Int32) => []) (fun _ => True) (fun j13 _ => ?_) (fun kk5 hj5 => ?_)
          · refine gx_iload (pc := 141) (i := 5) 1 rfl (htX16_apply_0 (141, .iload 5, 2) (gx_m 80 rfl)) ?_
            refine gx_Jcond (pcT := 156) (pcE := 171) (lv2 := [(0, gx_r 17 (some x0)), (5, gx_i j13)]) (st2 := []) ?_ ?_ (fun kk6 hT6 hE6 => ?_)
            · refine gx_aload_n (pc := 156) (n := 0) (i := 0) rfl 0 rfl (htX16_apply_0 (156, .aload_n 0, 1) (gx_m 86 rfl)) ?_
              refine gx_Jcv (pc := 157) (gx_hst (as := []) (b := gx_r 17 (some x0))) (gx_runV (as := []) (ci := 16) (ct_X16_back Y x0) (by decide) (Or.inl rfl) rfl rfl rfl rfl q2307 q2309 qs91 q117 q2310 rfl dd_X16_back (by decide) (by decide) (Nat.le_of_ble_eq_true rfl) (htX16_apply_0 (157, .invokevirtual 448, 3) (gx_m 87 rfl))) ?_
              refine gx_aload_n (pc := 160) (n := 0) (i := 0) rfl 0 rfl (htX16_apply_0 (160, .aload_n 0, 1) (gx_m 88 rfl)) ?_
              refine gx_iconst (pc := 161) (v := 2) (by decide) (htX16_apply_0 (161, .iconst 2, 1) (gx_m 89 rfl)) ?_
              refine gx_Jpi (pc := 162) (ci := 16) (kk := 111) (by decide) (Or.inl rfl) (by decide) rfl rfl q1785 (Or.inl rfl) (htX16_apply_0 (162, .putfield 442, 3) (gx_m 90 rfl)) ?_
              refine gx_aload_n (pc := 165) (n := 0) (i := 0) rfl 0 rfl (htX16_apply_0 (165, .aload_n 0, 1) (gx_m 91 rfl)) ?_
              refine gx_iconst (pc := 166) (v := 0) (by decide) (htX16_apply_0 (166, .iconst 0, 1) (gx_m 92 rfl)) ?_
              refine gx_Jpi (pc := 167) (ci := 16) (kk := 112) (by decide) (Or.inl rfl) (by decide) rfl rfl q1786 (Or.inl rfl) (htX16_apply_0 (167, .putfield 430, 3) (gx_m 93 rfl)) ?_
              exact gx_Jvret (pc := 170) rfl (fun _ => trivial) (fun _ _ => rfl) (htX16_apply_0 (170, .return_, 1) (gx_m 94 rfl))
            · refine gx_aload_n (pc := 171) (n := 0) (i := 0) rfl 0 rfl (htX16_apply_0 (171, .aload_n 0, 1) (gx_m 95 rfl)) ?_
              refine gx_Jgi (pc := 172) (ci := 16) (kk := 113) (by decide) (Or.inl rfl) (by decide) (by decide) q1787 (htX16_apply_0 (172, .getfield 412, 3) (gx_m 96 rfl)) (fun v16 hv16 => ?_)
              refine gx_Jjoin (pcJ := 188) (lvJ := fun (j_7 : Unit) => []) (stJ := fun (j_7 : Unit) => []) (fun _ => True) (fun j_7 hj_7 => ?_) (fun kk7 hj7 => ?_)
              · exact gx_Jvret (pc := 188) rfl (fun _ => trivial) (fun _ _ => rfl) (htX16_apply_1 (188, .return_, 1) (gx_m 4 rfl))
              · refine gx_if_eq (pc := 175) (y := 0) (tgt := 188) (by decide) (htX16_apply_0 (175, .ifCond .eq 13, 3) (gx_m 97 rfl)) (fun c8 => ?_) (fun c8 => ?_)
                · refine gx_Jw (lv := []) [] rfl ?_
                  exact hj7 () trivial
                · refine gx_aload_n (pc := 178) (n := 0) (i := 0) rfl 0 rfl (htX16_apply_0 (178, .aload_n 0, 1) (gx_m 98 rfl)) ?_
                  refine gx_dup (pc := 179) rfl (htX16_apply_0 (179, .dup, 1) (gx_m 99 rfl)) ?_
                  refine gx_Jgi (pc := 180) (ci := 16) (kk := 108) (by decide) (Or.inl rfl) (by decide) (by decide) q1782 (htX16_apply_1 (180, .getfield 433, 3) (gx_m 0 rfl)) (fun v17 hv17 => ?_)
                  refine gx_iconst (pc := 183) (v := 1) (by decide) (htX16_apply_1 (183, .iconst 1, 1) (gx_m 1 rfl)) ?_
                  refine gx_iadd (pc := 184) (htX16_apply_1 (184, .iadd, 1) (gx_m 2 rfl)) ?_
                  refine gx_Jpi (pc := 185) (ci := 16) (kk := 108) (by decide) (Or.inl rfl) (by decide) rfl rfl q1782 (Or.inl rfl) (htX16_apply_1 (185, .putfield 433, 3) (gx_m 3 rfl)) ?_
                  refine gx_Jw (lv := []) [] rfl ?_
                  exact hj7 () trivial
            · refine gx_if_eq (pc := 143) (y := 0) (tgt := 156) (by decide) (htX16_apply_0 (143, .ifCond .eq 13, 3) (gx_m 81 rfl)) (fun c9 => ?_) (fun c9 => ?_)
              · exact hT6
              · refine gx_aload_n (pc := 146) (n := 0) (i := 0) rfl 0 rfl (htX16_apply_0 (146, .aload_n 0, 1) (gx_m 82 rfl)) ?_
                refine gx_Jgi (pc := 147) (ci := 16) (kk := 107) (by decide) (Or.inl rfl) (by decide) (by decide) q1781 (htX16_apply_0 (147, .getfield 394, 3) (gx_m 83 rfl)) (fun v14 hv14 => ?_)
                refine gx_sipush (pc := 150) (v := 200) (by decide) (htX16_apply_0 (150, .sipush 200, 3) (gx_m 84 rfl)) ?_
                refine gx_icmp_le (pc := 153) (tgt := 171) (by decide) (htX16_apply_0 (153, .if_icmp .le 18, 3) (gx_m 85 rfl)) (fun c10 => ?_) (fun c10 => ?_)
                · exact hE6
                · exact hT6
          · refine gx_Jw (lv := [(0, gx_r 17 (some x0)), (3, gx_i ((16 * x1) + j7)), (4, gx_i j10), (5, gx_i 1), (6, gx_i 0)]) [3, 4, 2, 1, 0] rfl ?_
            refine gx_Jlp (pc := 113) (lvh := fun (s11 : Int32 × Int32) => [(0, gx_r 17 (some x0)), (3, gx_i ((16 * x1) + j7)), (4, gx_i j10), (5, gx_i s11.1), (6, gx_i s11.2)]) (fun s11 kl5 ha5 hb5 => ?_) _
            unfold lb_X16_apply_2
            refine gx_iload (pc := 113) (i := 6) 4 rfl (htX16_apply_0 (113, .iload 6, 2) (gx_m 67 rfl)) ?_
            refine gx_iload (pc := 115) (i := 4) 2 rfl (htX16_apply_0 (115, .iload 4, 2) (gx_m 68 rfl)) ?_
            refine gx_icmp_ge (pc := 117) (tgt := 141) (by decide) (htX16_apply_0 (117, .if_icmp .ge 24, 3) (gx_m 69 rfl)) (fun c11 => ?_) (fun c11 => ?_)
            · refine gx_Jw (lv := [(0, gx_r 17 (some x0)), (5, gx_i s11.1)]) [0, 3] rfl ?_
              exact gx_Jout hb5 (hj5 (s11.1 : Int32) trivial)
            · refine gx_iload (pc := 120) (i := 5) 3 rfl (htX16_apply_0 (120, .iload 5, 2) (gx_m 70 rfl)) ?_
              refine gx_if_eq (pc := 122) (y := 0) (tgt := 141) (by decide) (htX16_apply_0 (122, .ifCond .eq 19, 3) (gx_m 71 rfl)) (fun c12 => ?_) (fun c12 => ?_)
              · refine gx_Jw (lv := [(0, gx_r 17 (some x0)), (5, gx_i s11.1)]) [0, 3] rfl ?_
                exact gx_Jout hb5 (hj5 (s11.1 : Int32) trivial)
              · refine gx_aload_n (pc := 125) (n := 0) (i := 0) rfl 0 rfl (htX16_apply_0 (125, .aload_n 0, 1) (gx_m 72 rfl)) ?_
                refine gx_iload_n (pc := 126) (n := 3) (i := 3) rfl 1 rfl (htX16_apply_0 (126, .iload_n 3, 1) (gx_m 73 rfl)) ?_
                refine gx_iload (pc := 127) (i := 6) 4 rfl (htX16_apply_0 (127, .iload 6, 2) (gx_m 74 rfl)) ?_
                refine gx_iadd (pc := 129) (htX16_apply_0 (129, .iadd, 1) (gx_m 75 rfl)) ?_
                refine gx_Jcz (pc := 130) (gx_hst (as := [gx_i (((16 * x1) + j7) + s11.2)]) (b := gx_r 17 (some x0))) (gx_runV (as := [gx_i (((16 * x1) + j7) + s11.2)]) (ci := 16) (ct_X16_does Y x0 (((16 * x1) + j7) + s11.2)) (by decide) (Or.inl rfl) rfl rfl rfl rfl q2287 q2289 qs86 q117 q2290 rfl dd_X16_does (by decide) (by decide) (Nat.le_of_ble_eq_true rfl) (htX16_apply_0 (130, .invokevirtual 445, 3) (gx_m 76 rfl))) (fun v12 hv12 => ?_)
                refine gx_istore (pc := 133) (i := 5) (lv' := [(5, gx_i v12), (0, gx_r 17 (some x0)), (3, gx_i ((16 * x1) + j7)), (4, gx_i j10), (6, gx_i s11.2)]) (by decide) rfl (htX16_apply_0 (133, .istore 5, 2) (gx_m 77 rfl)) ?_
                refine gx_iinc (pc := 135) (i := 6) (j := 4) (v := (s11.2 + 1)) (lv' := [(6, gx_i (s11.2 + 1)), (5, gx_i v12), (0, gx_r 17 (some x0)), (3, gx_i ((16 * x1) + j7)), (4, gx_i j10)]) rfl (gx_iv (by decide)) (by decide) rfl (htX16_apply_0 (135, .iinc 6 1, 3) (gx_m 78 rfl)) ?_
                refine gx_goto (pc := 138) (tgt := 113) (by decide) (htX16_apply_0 (138, .goto (-25), 3) (gx_m 79 rfl)) ?_
                refine gx_Jw (lv := [(0, gx_r 17 (some x0)), (3, gx_i ((16 * x1) + j7)), (4, gx_i j10), (5, gx_i v12), (6, gx_i (s11.2 + 1))]) [2, 3, 4, 1, 0] rfl ?_
                exact ha5 ((v12 : Int32), ((s11.2 + 1) : Int32))
        · refine gx_if_eq (pc := 87) (y := 0) (tgt := 99) (by decide) (htX16_apply_0 (87, .ifCond .eq 12, 3) (gx_m 52 rfl)) (fun c13 => ?_) (fun c13 => ?_)
          · refine gx_aload_n (pc := 99) (n := 0) (i := 0) rfl 1 rfl (htX16_apply_0 (99, .aload_n 0, 1) (gx_m 58 rfl)) ?_
            refine gx_Jgs (pc := 100) (ci := 16) (kk := 11) (t2 := 100) (by decide) (by decide) rfl rfl rfl q1685 (htX16_apply_0 (100, .getfield 29, 3) (gx_m 59 rfl)) ?_
            refine gx_iload_n (pc := 103) (n := 1) (i := 1) rfl 2 rfl (htX16_apply_0 (103, .iload_n 1, 1) (gx_m 60 rfl)) ?_
            refine gx_Jia (pc := 104) (htX16_apply_0 (104, .iaload, 1) (gx_m 61 rfl)) (fun v8 => ?_)
            refine gx_Jw (lv := [(0, gx_r 17 (some x0)), (3, gx_i ((16 * x1) + j7))]) [1, 0] rfl ?_
            exact hj4 (v8 : Int32) trivial
          · refine gx_aload_n (pc := 90) (n := 0) (i := 0) rfl 1 rfl (htX16_apply_0 (90, .aload_n 0, 1) (gx_m 53 rfl)) ?_
            refine gx_Jgs (pc := 91) (ci := 16) (kk := 10) (t2 := 100) (by decide) (by decide) rfl rfl rfl q1684 (htX16_apply_0 (91, .getfield 26, 3) (gx_m 54 rfl)) ?_
            refine gx_iload_n (pc := 94) (n := 1) (i := 1) rfl 2 rfl (htX16_apply_0 (94, .iload_n 1, 1) (gx_m 55 rfl)) ?_
            refine gx_Jia (pc := 95) (htX16_apply_0 (95, .iaload, 1) (gx_m 56 rfl)) (fun v9 => ?_)
            refine gx_goto (pc := 96) (tgt := 105) (by decide) (htX16_apply_0 (96, .goto 9, 3) (gx_m 57 rfl)) ?_
            refine gx_Jw (lv := [(0, gx_r 17 (some x0)), (3, gx_i ((16 * x1) + j7))]) [1, 0] rfl ?_
            exact hj4 (v9 : Int32) trivial
      · refine gx_if_eq (pc := 75) (y := 0) (tgt := 82) (by decide) (htX16_apply_0 (75, .ifCond .eq 7, 3) (gx_m 45 rfl)) (fun c14 => ?_) (fun c14 => ?_)
        · refine gx_bipush (pc := 82) (v := 10) (by decide) (htX16_apply_0 (82, .bipush 10, 2) (gx_m 48 rfl)) ?_
          exact hj3 (10 : Int32) trivial
        · refine gx_iconst (pc := 78) (v := 4) (by decide) (htX16_apply_0 (78, .iconst 4, 1) (gx_m 46 rfl)) ?_
          refine gx_goto (pc := 79) (tgt := 84) (by decide) (htX16_apply_0 (79, .goto 5, 3) (gx_m 47 rfl)) ?_
          exact hj3 (4 : Int32) trivial
    · refine gx_if_eq (pc := 59) (y := 0) (tgt := 66) (by decide) (htX16_apply_0 (59, .ifCond .eq 7, 3) (gx_m 36 rfl)) (fun c15 => ?_) (fun c15 => ?_)
      · refine gx_iconst (pc := 66) (v := 0) (by decide) (htX16_apply_0 (66, .iconst 0, 1) (gx_m 39 rfl)) ?_
        exact hj2 (0 : Int32) gx_b0
      · refine gx_iconst (pc := 62) (v := 1) (by decide) (htX16_apply_0 (62, .iconst 1, 1) (gx_m 37 rfl)) ?_
        refine gx_goto (pc := 63) (tgt := 67) (by decide) (htX16_apply_0 (63, .goto 4, 3) (gx_m 38 rfl)) ?_
        exact hj2 (1 : Int32) gx_b1
  · refine gx_Jw (lv := [(0, gx_r 17 (some x0)), (1, gx_i x1), (2, gx_i 1), (3, gx_i 0)]) [2, 3, 1, 0] rfl ?_
    refine gx_Jlp (pc := 18) (lvh := fun (s1 : Int32 × Int32) => [(0, gx_r 17 (some x0)), (1, gx_i x1), (2, gx_i s1.1), (3, gx_i s1.2)]) (fun s1 kl1 ha1 hb1 => ?_) _
    unfold lb_X16_apply_1
    refine gx_iload_n (pc := 18) (n := 3) (i := 3) rfl 3 rfl (htX16_apply_0 (18, .iload_n 3, 1) (gx_m 12 rfl)) ?_
    refine gx_aload_n (pc := 19) (n := 0) (i := 0) rfl 0 rfl (htX16_apply_0 (19, .aload_n 0, 1) (gx_m 13 rfl)) ?_
    refine gx_Jgs (pc := 20) (ci := 16) (kk := 9) (t2 := 100) (by decide) (by decide) rfl rfl rfl q1683 (htX16_apply_0 (20, .getfield 23, 3) (gx_m 14 rfl)) ?_
    refine gx_iload_n (pc := 23) (n := 1) (i := 1) rfl 1 rfl (htX16_apply_0 (23, .iload_n 1, 1) (gx_m 15 rfl)) ?_
    refine gx_Jia (pc := 24) (htX16_apply_0 (24, .iaload, 1) (gx_m 16 rfl)) (fun v2 => ?_)
    refine gx_icmp_ge (pc := 25) (tgt := 57) (by decide) (htX16_apply_0 (25, .if_icmp .ge 32, 3) (gx_m 17 rfl)) (fun c16 => ?_) (fun c16 => ?_)
    · refine gx_Jw (lv := [(0, gx_r 17 (some x0)), (1, gx_i x1), (2, gx_i s1.1)]) [0, 1, 2] rfl ?_
      exact gx_Jout hb1 (hj1 (s1.1 : Int32) trivial)
    · refine gx_iload_n (pc := 28) (n := 2) (i := 2) rfl 2 rfl (htX16_apply_0 (28, .iload_n 2, 1) (gx_m 18 rfl)) ?_
      refine gx_Jjoin (pcJ := 50) (lvJ := fun (j4 : Int32) => [(0, gx_r 17 (some x0)), (1, gx_i x1), (3, gx_i s1.2)]) (stJ := fun (j4 : Int32) => [gx_i j4]) (fun (j4 : Int32) => j4 &&& 1 = j4) (fun j4 hj4 => ?_) (fun kk17 hj17 => ?_)
      · refine gx_istore_n (pc := 50) (n := 2) (i := 2) (lv' := [(2, gx_i j4), (0, gx_r 17 (some x0)), (1, gx_i x1), (3, gx_i s1.2)]) rfl (by decide) rfl (htX16_apply_0 (50, .istore_n 2, 1) (gx_m 31 rfl)) ?_
        refine gx_iinc (pc := 51) (i := 3) (j := 3) (v := (s1.2 + 1)) (lv' := [(3, gx_i (s1.2 + 1)), (2, gx_i j4), (0, gx_r 17 (some x0)), (1, gx_i x1)]) rfl (gx_iv (by decide)) (by decide) rfl (htX16_apply_0 (51, .iinc 3 1, 3) (gx_m 32 rfl)) ?_
        refine gx_goto (pc := 54) (tgt := 18) (by decide) (htX16_apply_0 (54, .goto (-36), 3) (gx_m 33 rfl)) ?_
        refine gx_Jw (lv := [(0, gx_r 17 (some x0)), (1, gx_i x1), (2, gx_i j4), (3, gx_i (s1.2 + 1))]) [2, 3, 1, 0] rfl ?_
        exact ha1 ((j4 : Int32), ((s1.2 + 1) : Int32))
      · refine gx_if_eq (pc := 29) (y := 0) (tgt := 49) (by decide) (htX16_apply_0 (29, .ifCond .eq 20, 3) (gx_m 19 rfl)) (fun c18 => ?_) (fun c18 => ?_)
        · refine gx_iconst (pc := 49) (v := 0) (by decide) (htX16_apply_0 (49, .iconst 0, 1) (gx_m 30 rfl)) ?_
          refine gx_Jw (lv := [(0, gx_r 17 (some x0)), (1, gx_i x1), (3, gx_i s1.2)]) [0, 1, 3] rfl ?_
          exact hj17 (0 : Int32) gx_b0
        · refine gx_aload_n (pc := 32) (n := 0) (i := 0) rfl 0 rfl (htX16_apply_0 (32, .aload_n 0, 1) (gx_m 20 rfl)) ?_
          refine gx_bipush (pc := 33) (v := 16) (by decide) (htX16_apply_0 (33, .bipush 16, 2) (gx_m 21 rfl)) ?_
          refine gx_iload_n (pc := 35) (n := 1) (i := 1) rfl 1 rfl (htX16_apply_0 (35, .iload_n 1, 1) (gx_m 22 rfl)) ?_
          refine gx_imul (pc := 36) (htX16_apply_0 (36, .imul, 1) (gx_m 23 rfl)) ?_
          refine gx_iload_n (pc := 37) (n := 3) (i := 3) rfl 3 rfl (htX16_apply_0 (37, .iload_n 3, 1) (gx_m 24 rfl)) ?_
          refine gx_iadd (pc := 38) (htX16_apply_0 (38, .iadd, 1) (gx_m 25 rfl)) ?_
          refine gx_Jcz (pc := 39) (gx_hst (as := [gx_i ((16 * x1) + s1.2)]) (b := gx_r 17 (some x0))) (gx_runV (as := [gx_i ((16 * x1) + s1.2)]) (ci := 16) (ct_X16_holds Y x0 ((16 * x1) + s1.2)) (by decide) (Or.inl rfl) rfl rfl rfl rfl q2276 q2278 qs84 q117 q2279 rfl dd_X16_holds (by decide) (by decide) (Nat.le_of_ble_eq_true rfl) (htX16_apply_0 (39, .invokevirtual 439, 3) (gx_m 26 rfl))) (fun v3 hv3 => ?_)
          refine gx_if_eq (pc := 42) (y := 0) (tgt := 49) (by decide) (htX16_apply_0 (42, .ifCond .eq 7, 3) (gx_m 27 rfl)) (fun c19 => ?_) (fun c19 => ?_)
          · refine gx_iconst (pc := 49) (v := 0) (by decide) (htX16_apply_0 (49, .iconst 0, 1) (gx_m 30 rfl)) ?_
            refine gx_Jw (lv := [(0, gx_r 17 (some x0)), (1, gx_i x1), (3, gx_i s1.2)]) [0, 1, 3] rfl ?_
            exact hj17 (0 : Int32) gx_b0
          · refine gx_iconst (pc := 45) (v := 1) (by decide) (htX16_apply_0 (45, .iconst 1, 1) (gx_m 28 rfl)) ?_
            refine gx_goto (pc := 46) (tgt := 50) (by decide) (htX16_apply_0 (46, .goto 4, 3) (gx_m 29 rfl)) ?_
            refine gx_Jw (lv := [(0, gx_r 17 (some x0)), (1, gx_i x1), (3, gx_i s1.2)]) [0, 1, 3] rfl ?_
            exact hj17 (1 : Int32) gx_b1
theorem ct_X16_store (Y : gx_Y) (x0 : gx_Nm) (x1 : Int32) (x2 : Int32) (x3 : Int32) : gx_Ct Y yX16_store (ws_ yX16_store cX16_store 7 none) 6 226 [gx_r 17 (some x0), gx_i x1, gx_i x2, gx_i x3] gx_Ov (f_X16_store x0 x1 x2 x3) := by
  refine gx_start (lv := [(0, gx_r 17 (some x0)), (1, gx_i x1), (2, gx_i x2), (3, gx_i x3)]) gx_Ov_r pn_X16 (Nat.le_of_ble_eq_true rfl) rfl ?_
  unfold f_X16_store
  refine gx_aload_n (pc := 0) (n := 0) (i := 0) rfl 0 rfl (htX16_store (0, .aload_n 0, 1) (gx_m 0 rfl)) ?_
  refine gx_Jgs (pc := 1) (ci := 16) (kk := 26) (t2 := 100) (by decide) (by decide) rfl rfl rfl q1700 (htX16_store (1, .getfield 66, 3) (gx_m 1 rfl)) ?_
  refine gx_iload_n (pc := 4) (n := 1) (i := 1) rfl 1 rfl (htX16_store (4, .iload_n 1, 1) (gx_m 2 rfl)) ?_
  refine gx_Jia (pc := 5) (htX16_store (5, .iaload, 1) (gx_m 3 rfl)) (fun v1 => ?_)
  refine gx_istore (pc := 6) (i := 4) (lv' := [(4, gx_i v1), (0, gx_r 17 (some x0)), (1, gx_i x1), (2, gx_i x2), (3, gx_i x3)]) (by decide) rfl (htX16_store (6, .istore 4, 2) (gx_m 4 rfl)) ?_
  refine gx_iload_n (pc := 8) (n := 1) (i := 1) rfl 2 rfl (htX16_store (8, .iload_n 1, 1) (gx_m 5 rfl)) ?_
  refine gx_istore (pc := 9) (i := 5) (lv' := [(5, gx_i x1), (4, gx_i v1), (0, gx_r 17 (some x0)), (1, gx_i x1), (2, gx_i x2), (3, gx_i x3)]) (by decide) rfl (htX16_store (9, .istore 5, 2) (gx_m 6 rfl)) ?_
  refine gx_Jjoin (pcJ := 47) (lvJ := fun (j_1 : Unit) => [(0, gx_r 17 (some x0)), (2, gx_i x2), (3, gx_i x3), (4, gx_i v1)]) (stJ := fun (j_1 : Unit) => []) (fun _ => True) (fun j_1 _ => ?_) (fun kk1 hj1 => ?_)
  · refine gx_aload_n (pc := 47) (n := 0) (i := 0) rfl 0 rfl (htX16_store (47, .aload_n 0, 1) (gx_m 26 rfl)) ?_
    refine gx_iconst (pc := 48) (v := 0) (by decide) (htX16_store (48, .iconst 0, 1) (gx_m 27 rfl)) ?_
    refine gx_Jpi (pc := 49) (ci := 16) (kk := 107) (by decide) (Or.inl rfl) (by decide) rfl rfl q1781 (Or.inl rfl) (htX16_store (49, .putfield 394, 3) (gx_m 28 rfl)) ?_
    refine gx_aload_n (pc := 52) (n := 0) (i := 0) rfl 0 rfl (htX16_store (52, .aload_n 0, 1) (gx_m 29 rfl)) ?_
    refine gx_iconst (pc := 53) (v := 0) (by decide) (htX16_store (53, .iconst 0, 1) (gx_m 30 rfl)) ?_
    refine gx_Jpi (pc := 54) (ci := 16) (kk := 108) (by decide) (Or.inl rfl) (by decide) rfl rfl q1782 (Or.inl rfl) (htX16_store (54, .putfield 433, 3) (gx_m 31 rfl)) ?_
    refine gx_iconst (pc := 57) (v := 0) (by decide) (htX16_store (57, .iconst 0, 1) (gx_m 32 rfl)) ?_
    refine gx_istore (pc := 58) (i := 5) (lv' := [(5, gx_i 0), (0, gx_r 17 (some x0)), (2, gx_i x2), (3, gx_i x3), (4, gx_i v1)]) (by decide) rfl (htX16_store (58, .istore 5, 2) (gx_m 33 rfl)) ?_
    refine gx_Jjoin (pcJ := 81) (lvJ := fun (j_2 : Unit) => [(0, gx_r 17 (some x0)), (2, gx_i x2), (3, gx_i x3), (4, gx_i v1)]) (stJ := fun (j_2 : Unit) => []) (fun _ => True) (fun j_2 _ => ?_) (fun kk2 hj2 => ?_)
    · refine gx_aload_n (pc := 81) (n := 0) (i := 0) rfl 0 rfl (htX16_store (81, .aload_n 0, 1) (gx_m 44 rfl)) ?_
      refine gx_iconst (pc := 82) (v := 1) (by decide) (htX16_store (82, .iconst 1, 1) (gx_m 45 rfl)) ?_
      refine gx_Jpi (pc := 83) (ci := 16) (kk := 111) (by decide) (Or.inl rfl) (by decide) rfl rfl q1785 (Or.inl rfl) (htX16_store (83, .putfield 442, 3) (gx_m 46 rfl)) ?_
      refine gx_aload_n (pc := 86) (n := 0) (i := 0) rfl 0 rfl (htX16_store (86, .aload_n 0, 1) (gx_m 47 rfl)) ?_
      refine gx_iconst (pc := 87) (v := 0) (by decide) (htX16_store (87, .iconst 0, 1) (gx_m 48 rfl)) ?_
      refine gx_Jpi (pc := 88) (ci := 16) (kk := 112) (by decide) (Or.inl rfl) (by decide) rfl rfl q1786 (Or.inl rfl) (htX16_store (88, .putfield 430, 3) (gx_m 49 rfl)) ?_
      refine gx_iconst (pc := 91) (v := 1) (by decide) (htX16_store (91, .iconst 1, 1) (gx_m 50 rfl)) ?_
      refine gx_istore (pc := 92) (i := 5) (lv' := [(5, gx_i 1), (0, gx_r 17 (some x0)), (2, gx_i x2), (3, gx_i x3), (4, gx_i v1)]) (by decide) rfl (htX16_store (92, .istore 5, 2) (gx_m 51 rfl)) ?_
      refine gx_JjoinE (pcJ := 188) (lvJ := fun (j_3 : Unit) => []) (stJ := fun (j_3 : Unit) => []) (gr := fun r => gx_rt r) (fun _ => rfl) (fun _ => rfl) (fun j_3 => ?_) (fun kk3 hj3 he3 => ?_)
      · exact gx_Jvret (pc := 188) rfl (fun _ => trivial) (fun _ _ => rfl) (htX16_store (188, .return_, 1) (gx_m 98 rfl))
      · refine gx_Jw (lv := [(0, gx_r 17 (some x0)), (2, gx_i x2), (3, gx_i x3), (4, gx_i v1), (5, gx_i 1)]) [1, 2, 3, 4, 0] rfl ?_
        refine gx_Jlp (pc := 94) (lvh := fun (s7 : Int32) => [(0, gx_r 17 (some x0)), (2, gx_i x2), (3, gx_i x3), (4, gx_i v1), (5, gx_i s7)]) (fun s7 kl3 ha3 hb3 => ?_) _
        unfold lb_X16_store_3
        refine gx_iload (pc := 94) (i := 5) 4 rfl (htX16_store (94, .iload 5, 2) (gx_m 52 rfl)) ?_
        refine gx_iload (pc := 96) (i := 4) 3 rfl (htX16_store (96, .iload 4, 2) (gx_m 53 rfl)) ?_
        refine gx_icmp_gt (pc := 98) (tgt := 188) (by decide) (htX16_store (98, .if_icmp .gt 90, 3) (gx_m 54 rfl)) (fun c4 => ?_) (fun c4 => ?_)
        · refine gx_Jw (lv := []) [] rfl ?_
          exact gx_Jout hb3 (hj3 ())
        · refine gx_iload (pc := 101) (i := 5) 4 rfl (htX16_store (101, .iload 5, 2) (gx_m 55 rfl)) ?_
          refine gx_iload_n (pc := 103) (n := 2) (i := 2) rfl 1 rfl (htX16_store (103, .iload_n 2, 1) (gx_m 56 rfl)) ?_
          refine gx_icmp_gt (pc := 104) (tgt := 188) (by decide) (htX16_store (104, .if_icmp .gt 84, 3) (gx_m 57 rfl)) (fun c5 => ?_) (fun c5 => ?_)
          · refine gx_Jw (lv := []) [] rfl ?_
            exact gx_Jout hb3 (hj3 ())
          · refine gx_iload_n (pc := 107) (n := 3) (i := 3) rfl 2 rfl (htX16_store (107, .iload_n 3, 1) (gx_m 58 rfl)) ?_
            refine gx_Jcond (pcT := 119) (pcE := 171) (lv2 := [(0, gx_r 17 (some x0)), (2, gx_i x2), (3, gx_i x3), (4, gx_i v1), (5, gx_i s7)]) (st2 := []) ?_ ?_ (fun kk6 hT6 hE6 => ?_)
            · refine gx_aload_n (pc := 119) (n := 0) (i := 0) rfl 0 rfl (htX16_store (119, .aload_n 0, 1) (gx_m 64 rfl)) ?_
              refine gx_Jcv (pc := 120) (gx_hst (as := []) (b := gx_r 17 (some x0))) (gx_runV (as := []) (ci := 16) (ct_X16_remember Y x0) (by decide) (Or.inl rfl) rfl rfl rfl rfl q2264 q2266 qs81 q117 q2267 rfl dd_X16_remember (by decide) (by decide) (Nat.le_of_ble_eq_true rfl) (htX16_store (120, .invokevirtual 436, 3) (gx_m 65 rfl))) ?_
              refine gx_aload_n (pc := 123) (n := 0) (i := 0) rfl 0 rfl (htX16_store (123, .aload_n 0, 1) (gx_m 66 rfl)) ?_
              refine gx_Jgi (pc := 124) (ci := 16) (kk := 108) (by decide) (Or.inl rfl) (by decide) (by decide) q1782 (htX16_store (124, .getfield 433, 3) (gx_m 67 rfl)) (fun v10 hv10 => ?_)
              refine gx_istore (pc := 127) (i := 6) (lv' := [(6, gx_i v10), (0, gx_r 17 (some x0)), (2, gx_i x2), (3, gx_i x3), (4, gx_i v1), (5, gx_i s7)]) (by decide) rfl (htX16_store (127, .istore 6, 2) (gx_m 68 rfl)) ?_
              refine gx_aload_n (pc := 129) (n := 0) (i := 0) rfl 1 rfl (htX16_store (129, .aload_n 0, 1) (gx_m 69 rfl)) ?_
              refine gx_aload_n (pc := 130) (n := 0) (i := 0) rfl 1 rfl (htX16_store (130, .aload_n 0, 1) (gx_m 70 rfl)) ?_
              refine gx_Jgs (pc := 131) (ci := 16) (kk := 114) (t2 := 100) (by decide) (by decide) rfl rfl rfl q1788 (htX16_store (131, .getfield 297, 3) (gx_m 71 rfl)) ?_
              refine gx_iload (pc := 134) (i := 5) 5 rfl (htX16_store (134, .iload 5, 2) (gx_m 72 rfl)) ?_
              refine gx_Jia (pc := 136) (htX16_store (136, .iaload, 1) (gx_m 73 rfl)) (fun v11 => ?_)
              refine gx_Jcv (pc := 137) (gx_hst (as := [gx_i v11]) (b := gx_r 17 (some x0))) (gx_runV (as := [gx_i v11]) (ci := 16) (ct_X16_apply Y x0 v11) (by decide) (Or.inl rfl) rfl rfl rfl rfl q2272 q2274 qs83 q117 q2275 rfl dd_X16_apply (by decide) (by decide) (Nat.le_of_ble_eq_true rfl) (htX16_store (137, .invokevirtual 451, 3) (gx_m 74 rfl))) ?_
              refine gx_aload_n (pc := 140) (n := 0) (i := 0) rfl 1 rfl (htX16_store (140, .aload_n 0, 1) (gx_m 75 rfl)) ?_
              refine gx_Jgi (pc := 141) (ci := 16) (kk := 108) (by decide) (Or.inl rfl) (by decide) (by decide) q1782 (htX16_store (141, .getfield 433, 3) (gx_m 76 rfl)) (fun v12 hv12 => ?_)
              refine gx_iload (pc := 144) (i := 6) 0 rfl (htX16_store (144, .iload 6, 2) (gx_m 77 rfl)) ?_
              refine gx_icmp_ne (pc := 146) (tgt := 152) (by decide) (htX16_store (146, .if_icmp .ne 6, 3) (gx_m 78 rfl)) (fun c7 => ?_) (fun c7 => ?_)
              · refine gx_goto (pc := 149) (tgt := 182) (by decide) (htX16_store (149, .goto 33, 3) (gx_m 79 rfl)) ?_
                refine gx_iinc (pc := 182) (i := 5) (j := 5) (v := (s7 + 1)) (lv' := [(5, gx_i (s7 + 1)), (6, gx_i v10), (0, gx_r 17 (some x0)), (2, gx_i x2), (3, gx_i x3), (4, gx_i v1)]) rfl (gx_iv (by decide)) (by decide) rfl (htX16_store (182, .iinc 5 1, 3) (gx_m 96 rfl)) ?_
                refine gx_goto (pc := 185) (tgt := 94) (by decide) (htX16_store (185, .goto (-91), 3) (gx_m 97 rfl)) ?_
                refine gx_Jw (lv := [(0, gx_r 17 (some x0)), (2, gx_i x2), (3, gx_i x3), (4, gx_i v1), (5, gx_i (s7 + 1))]) [2, 3, 4, 5, 0] rfl ?_
                exact ha3 ((s7 + 1) : Int32)
              · refine gx_aload_n (pc := 152) (n := 0) (i := 0) rfl 1 rfl (htX16_store (152, .aload_n 0, 1) (gx_m 80 rfl)) ?_
                refine gx_aload_n (pc := 153) (n := 0) (i := 0) rfl 1 rfl (htX16_store (153, .aload_n 0, 1) (gx_m 81 rfl)) ?_
                refine gx_Jgi (pc := 154) (ci := 16) (kk := 110) (by decide) (Or.inl rfl) (by decide) (by decide) q1784 (htX16_store (154, .getfield 405, 3) (gx_m 82 rfl)) (fun v13 hv13 => ?_)
                refine gx_Jpi (pc := 157) (ci := 16) (kk := 107) (by decide) (Or.inl rfl) (by decide) rfl rfl q1781 (Or.inl rfl) (htX16_store (157, .putfield 394, 3) (gx_m 83 rfl)) ?_
                refine gx_aload_n (pc := 160) (n := 0) (i := 0) rfl 1 rfl (htX16_store (160, .aload_n 0, 1) (gx_m 84 rfl)) ?_
                refine gx_Jcv (pc := 161) (gx_hst (as := []) (b := gx_r 17 (some x0))) (gx_runV (as := []) (ci := 16) (ct_X16_back Y x0) (by decide) (Or.inl rfl) rfl rfl rfl rfl q2307 q2309 qs91 q117 q2310 rfl dd_X16_back (by decide) (by decide) (Nat.le_of_ble_eq_true rfl) (htX16_store (161, .invokevirtual 448, 3) (gx_m 85 rfl))) ?_
                refine gx_aload_n (pc := 164) (n := 0) (i := 0) rfl 1 rfl (htX16_store (164, .aload_n 0, 1) (gx_m 86 rfl)) ?_
                refine gx_iload (pc := 165) (i := 6) 0 rfl (htX16_store (165, .iload 6, 2) (gx_m 87 rfl)) ?_
                refine gx_Jpi (pc := 167) (ci := 16) (kk := 108) (by decide) (Or.inl rfl) (by decide) rfl rfl q1782 (Or.inl rfl) (htX16_store (167, .putfield 433, 3) (gx_m 88 rfl)) ?_
                refine gx_Jret ((hb3 _).trans (he3 _)) ?_
                exact gx_Jvret (pc := 170) rfl (fun _ => trivial) (fun _ _ => rfl) (htX16_store (170, .return_, 1) (gx_m 89 rfl))
            · refine gx_aload_n (pc := 171) (n := 0) (i := 0) rfl 0 rfl (htX16_store (171, .aload_n 0, 1) (gx_m 90 rfl)) ?_
              refine gx_aload_n (pc := 172) (n := 0) (i := 0) rfl 0 rfl (htX16_store (172, .aload_n 0, 1) (gx_m 91 rfl)) ?_
              refine gx_Jgs (pc := 173) (ci := 16) (kk := 114) (t2 := 100) (by decide) (by decide) rfl rfl rfl q1788 (htX16_store (173, .getfield 297, 3) (gx_m 92 rfl)) ?_
              refine gx_iload (pc := 176) (i := 5) 4 rfl (htX16_store (176, .iload 5, 2) (gx_m 93 rfl)) ?_
              refine gx_Jia (pc := 178) (htX16_store (178, .iaload, 1) (gx_m 94 rfl)) (fun v14 => ?_)
              refine gx_Jcv (pc := 179) (gx_hst (as := [gx_i v14]) (b := gx_r 17 (some x0))) (gx_runV (as := [gx_i v14]) (ci := 16) (ct_X16_apply Y x0 v14) (by decide) (Or.inl rfl) rfl rfl rfl rfl q2272 q2274 qs83 q117 q2275 rfl dd_X16_apply (by decide) (by decide) (Nat.le_of_ble_eq_true rfl) (htX16_store (179, .invokevirtual 451, 3) (gx_m 95 rfl))) ?_
              refine gx_iinc (pc := 182) (i := 5) (j := 4) (v := (s7 + 1)) (lv' := [(5, gx_i (s7 + 1)), (0, gx_r 17 (some x0)), (2, gx_i x2), (3, gx_i x3), (4, gx_i v1)]) rfl (gx_iv (by decide)) (by decide) rfl (htX16_store (182, .iinc 5 1, 3) (gx_m 96 rfl)) ?_
              refine gx_goto (pc := 185) (tgt := 94) (by decide) (htX16_store (185, .goto (-91), 3) (gx_m 97 rfl)) ?_
              refine gx_Jw (lv := [(0, gx_r 17 (some x0)), (2, gx_i x2), (3, gx_i x3), (4, gx_i v1), (5, gx_i (s7 + 1))]) [1, 2, 3, 4, 0] rfl ?_
              exact ha3 ((s7 + 1) : Int32)
            · refine gx_if_lt (pc := 108) (y := 0) (tgt := 171) (by decide) (htX16_store (108, .ifCond .lt 63, 3) (gx_m 59 rfl)) (fun c8 => ?_) (fun c8 => ?_)
              · exact hE6
              · refine gx_aload_n (pc := 111) (n := 0) (i := 0) rfl 0 rfl (htX16_store (111, .aload_n 0, 1) (gx_m 60 rfl)) ?_
                refine gx_Jgi (pc := 112) (ci := 16) (kk := 108) (by decide) (Or.inl rfl) (by decide) (by decide) q1782 (htX16_store (112, .getfield 433, 3) (gx_m 61 rfl)) (fun v8 hv8 => ?_)
                refine gx_iload_n (pc := 115) (n := 3) (i := 3) rfl 2 rfl (htX16_store (115, .iload_n 3, 1) (gx_m 62 rfl)) ?_
                refine gx_icmp_ne (pc := 116) (tgt := 171) (by decide) (htX16_store (116, .if_icmp .ne 55, 3) (gx_m 63 rfl)) (fun c9 => ?_) (fun c9 => ?_)
                · exact hT6
                · exact hE6
    · refine gx_Jw (lv := [(0, gx_r 17 (some x0)), (2, gx_i x2), (3, gx_i x3), (4, gx_i v1), (5, gx_i 0)]) [1, 2, 3, 4, 0] rfl ?_
      refine gx_Jlp (pc := 60) (lvh := fun (s6 : Int32) => [(0, gx_r 17 (some x0)), (2, gx_i x2), (3, gx_i x3), (4, gx_i v1), (5, gx_i s6)]) (fun s6 kl2 ha2 hb2 => ?_) _
      unfold lb_X16_store_2
      refine gx_iload (pc := 60) (i := 5) 4 rfl (htX16_store (60, .iload 5, 2) (gx_m 34 rfl)) ?_
      refine gx_bipush (pc := 62) (v := 100) (by decide) (htX16_store (62, .bipush 100, 2) (gx_m 35 rfl)) ?_
      refine gx_icmp_ge (pc := 64) (tgt := 81) (by decide) (htX16_store (64, .if_icmp .ge 17, 3) (gx_m 36 rfl)) (fun c10 => ?_) (fun c10 => ?_)
      · refine gx_Jw (lv := [(0, gx_r 17 (some x0)), (2, gx_i x2), (3, gx_i x3), (4, gx_i v1)]) [0, 1, 2, 3] rfl ?_
        exact gx_Jout hb2 (hj2 () trivial)
      · refine gx_aload_n (pc := 67) (n := 0) (i := 0) rfl 0 rfl (htX16_store (67, .aload_n 0, 1) (gx_m 37 rfl)) ?_
        refine gx_Jgs (pc := 68) (ci := 16) (kk := 105) (t2 := 102) (by decide) (by decide) rfl rfl rfl q1779 (htX16_store (68, .getfield 288, 3) (gx_m 38 rfl)) ?_
        refine gx_iload (pc := 71) (i := 5) 4 rfl (htX16_store (71, .iload 5, 2) (gx_m 39 rfl)) ?_
        refine gx_iconst (pc := 73) (v := 0) (by decide) (htX16_store (73, .iconst 0, 1) (gx_m 40 rfl)) ?_
        refine gx_Jzs (pc := 74) (htX16_store (74, .bastore, 1) (gx_m 41 rfl)) ?_
        refine gx_iinc (pc := 75) (i := 5) (j := 4) (v := (s6 + 1)) (lv' := [(5, gx_i (s6 + 1)), (0, gx_r 17 (some x0)), (2, gx_i x2), (3, gx_i x3), (4, gx_i v1)]) rfl (gx_iv (by decide)) (by decide) rfl (htX16_store (75, .iinc 5 1, 3) (gx_m 42 rfl)) ?_
        refine gx_goto (pc := 78) (tgt := 60) (by decide) (htX16_store (78, .goto (-18), 3) (gx_m 43 rfl)) ?_
        refine gx_Jw (lv := [(0, gx_r 17 (some x0)), (2, gx_i x2), (3, gx_i x3), (4, gx_i v1), (5, gx_i (s6 + 1))]) [1, 2, 3, 4, 0] rfl ?_
        exact ha2 ((s6 + 1) : Int32)
  · refine gx_Jw (lv := [(0, gx_r 17 (some x0)), (2, gx_i x2), (3, gx_i x3), (4, gx_i v1), (5, gx_i x1)]) [2, 4, 5, 1, 0] rfl ?_
    refine gx_Jlp (pc := 11) (lvh := fun (s2 : Int32) => [(0, gx_r 17 (some x0)), (2, gx_i x2), (3, gx_i x3), (4, gx_i v1), (5, gx_i s2)]) (fun s2 kl1 ha1 hb1 => ?_) _
    unfold lb_X16_store_1
    refine gx_iload (pc := 11) (i := 5) 4 rfl (htX16_store (11, .iload 5, 2) (gx_m 7 rfl)) ?_
    refine gx_if_le (pc := 13) (y := 0) (tgt := 47) (by decide) (htX16_store (13, .ifCond .le 34, 3) (gx_m 8 rfl)) (fun c11 => ?_) (fun c11 => ?_)
    · refine gx_Jw (lv := [(0, gx_r 17 (some x0)), (2, gx_i x2), (3, gx_i x3), (4, gx_i v1)]) [0, 1, 2, 3] rfl ?_
      exact gx_Jout hb1 (hj1 () trivial)
    · refine gx_aload_n (pc := 16) (n := 0) (i := 0) rfl 0 rfl (htX16_store (16, .aload_n 0, 1) (gx_m 9 rfl)) ?_
      refine gx_Jgs (pc := 17) (ci := 16) (kk := 114) (t2 := 100) (by decide) (by decide) rfl rfl rfl q1788 (htX16_store (17, .getfield 297, 3) (gx_m 10 rfl)) ?_
      refine gx_aload_n (pc := 20) (n := 0) (i := 0) rfl 0 rfl (htX16_store (20, .aload_n 0, 1) (gx_m 11 rfl)) ?_
      refine gx_Jgs (pc := 21) (ci := 16) (kk := 26) (t2 := 100) (by decide) (by decide) rfl rfl rfl q1700 (htX16_store (21, .getfield 66, 3) (gx_m 12 rfl)) ?_
      refine gx_iload (pc := 24) (i := 5) 4 rfl (htX16_store (24, .iload 5, 2) (gx_m 13 rfl)) ?_
      refine gx_Jia (pc := 26) (htX16_store (26, .iaload, 1) (gx_m 14 rfl)) (fun v3 => ?_)
      refine gx_aload_n (pc := 27) (n := 0) (i := 0) rfl 0 rfl (htX16_store (27, .aload_n 0, 1) (gx_m 15 rfl)) ?_
      refine gx_Jgs (pc := 28) (ci := 16) (kk := 25) (t2 := 100) (by decide) (by decide) rfl rfl rfl q1699 (htX16_store (28, .getfield 63, 3) (gx_m 16 rfl)) ?_
      refine gx_iload (pc := 31) (i := 5) 4 rfl (htX16_store (31, .iload 5, 2) (gx_m 17 rfl)) ?_
      refine gx_Jia (pc := 33) (htX16_store (33, .iaload, 1) (gx_m 18 rfl)) (fun v4 => ?_)
      refine gx_Jis (pc := 34) (htX16_store (34, .iastore, 1) (gx_m 19 rfl)) ?_
      refine gx_aload_n (pc := 35) (n := 0) (i := 0) rfl 0 rfl (htX16_store (35, .aload_n 0, 1) (gx_m 20 rfl)) ?_
      refine gx_Jgs (pc := 36) (ci := 16) (kk := 24) (t2 := 100) (by decide) (by decide) rfl rfl rfl q1698 (htX16_store (36, .getfield 60, 3) (gx_m 21 rfl)) ?_
      refine gx_iload (pc := 39) (i := 5) 4 rfl (htX16_store (39, .iload 5, 2) (gx_m 22 rfl)) ?_
      refine gx_Jia (pc := 41) (htX16_store (41, .iaload, 1) (gx_m 23 rfl)) (fun v5 => ?_)
      refine gx_istore (pc := 42) (i := 5) (lv' := [(5, gx_i v5), (0, gx_r 17 (some x0)), (2, gx_i x2), (3, gx_i x3), (4, gx_i v1)]) (by decide) rfl (htX16_store (42, .istore 5, 2) (gx_m 24 rfl)) ?_
      refine gx_goto (pc := 44) (tgt := 11) (by decide) (htX16_store (44, .goto (-33), 3) (gx_m 25 rfl)) ?_
      refine gx_Jw (lv := [(0, gx_r 17 (some x0)), (2, gx_i x2), (3, gx_i x3), (4, gx_i v1), (5, gx_i v5)]) [1, 2, 3, 4, 0] rfl ?_
      exact ha1 (v5 : Int32)
theorem ct_X16_now (Y : gx_Y) (x0 : gx_Nm) (x1 : Int32) : gx_Ct Y yX16_now (ws_ yX16_now cX16_now 2 none) 7 252 [gx_r 17 (some x0), gx_i x1] gx_Ov (f_X16_now x0 x1) := by
  refine gx_start (lv := [(0, gx_r 17 (some x0)), (1, gx_i x1)]) gx_Ov_r pn_X16 (Nat.le_of_ble_eq_true rfl) rfl ?_
  unfold f_X16_now
  refine gx_aload_n (pc := 0) (n := 0) (i := 0) rfl 0 rfl (htX16_now (0, .aload_n 0, 1) (gx_m 0 rfl)) ?_
  refine gx_aload_n (pc := 1) (n := 0) (i := 0) rfl 0 rfl (htX16_now (1, .aload_n 0, 1) (gx_m 1 rfl)) ?_
  refine gx_Jgs (pc := 2) (ci := 16) (kk := 48) (t2 := 100) (by decide) (by decide) rfl rfl rfl q1722 (htX16_now (2, .getfield 133, 3) (gx_m 2 rfl)) ?_
  refine gx_iload_n (pc := 5) (n := 1) (i := 1) rfl 1 rfl (htX16_now (5, .iload_n 1, 1) (gx_m 3 rfl)) ?_
  refine gx_Jia (pc := 6) (htX16_now (6, .iaload, 1) (gx_m 4 rfl)) (fun v1 => ?_)
  refine gx_sipush (pc := 7) (v := 1501) (by decide) (htX16_now (7, .sipush 1501, 3) (gx_m 5 rfl)) ?_
  refine gx_iconst (pc := 10) (v := (-1)) (by decide) (htX16_now (10, .iconst (-1), 1) (gx_m 6 rfl)) ?_
  refine gx_Jcv (pc := 11) (gx_hst (as := [gx_i v1, gx_i 1501, gx_i (-1)]) (b := gx_r 17 (some x0))) (gx_runV (as := [gx_i v1, gx_i 1501, gx_i (-1)]) (ci := 16) (ct_X16_store Y x0 v1 1501 (-1)) (by decide) (Or.inl rfl) rfl rfl rfl rfl q2260 q2262 qs80 q117 q2263 rfl dd_X16_store (by decide) (by decide) (Nat.le_of_ble_eq_true rfl) (htX16_now (11, .invokevirtual 454, 3) (gx_m 7 rfl))) ?_
  exact gx_Jvret (pc := 14) rfl (fun _ => trivial) (fun _ _ => rfl) (htX16_now (14, .return_, 1) (gx_m 8 rfl))
theorem ct_X16_lookAtReads (Y : gx_Y) (x0 : gx_Nm) (x1 : Int32) : gx_Ct Y yX16_lookAtReads (ws_ yX16_lookAtReads cX16_lookAtReads 5 none) 8 273 [gx_r 17 (some x0), gx_i x1] gx_Ov (f_X16_lookAtReads x0 x1) := by
  refine gx_start (lv := [(0, gx_r 17 (some x0)), (1, gx_i x1)]) gx_Ov_r pn_X16 (Nat.le_of_ble_eq_true rfl) rfl ?_
  unfold f_X16_lookAtReads
  refine gx_iconst (pc := 0) (v := 0) (by decide) (htX16_lookAtReads_0 (0, .iconst 0, 1) (gx_m 0 rfl)) ?_
  refine gx_istore_n (pc := 1) (n := 2) (i := 2) (lv' := [(2, gx_i 0), (0, gx_r 17 (some x0)), (1, gx_i x1)]) rfl (by decide) rfl (htX16_lookAtReads_0 (1, .istore_n 2, 1) (gx_m 1 rfl)) ?_
  refine gx_Jjoin (pcJ := 225) (lvJ := fun (j_1 : Unit) => []) (stJ := fun (j_1 : Unit) => []) (fun _ => True) (fun j_1 _ => ?_) (fun kk1 hj1 => ?_)
  · exact gx_Jvret (pc := 225) rfl (fun _ => trivial) (fun _ _ => rfl) (htX16_lookAtReads_1 (225, .return_, 1) (gx_m 26 rfl))
  · refine gx_Jw (lv := [(0, gx_r 17 (some x0)), (1, gx_i x1), (2, gx_i 0)]) [1, 2, 0] rfl ?_
    refine gx_Jlp (pc := 2) (lvh := fun (s1 : Int32) => [(0, gx_r 17 (some x0)), (1, gx_i x1), (2, gx_i s1)]) (fun s1 kl1 ha1 hb1 => ?_) _
    unfold lb_X16_lookAtReads_2
    refine gx_iload_n (pc := 2) (n := 2) (i := 2) rfl 2 rfl (htX16_lookAtReads_0 (2, .iload_n 2, 1) (gx_m 2 rfl)) ?_
    refine gx_aload_n (pc := 3) (n := 0) (i := 0) rfl 0 rfl (htX16_lookAtReads_0 (3, .aload_n 0, 1) (gx_m 3 rfl)) ?_
    refine gx_Jgi (pc := 4) (ci := 16) (kk := 93) (by decide) (Or.inl rfl) (by decide) (by decide) q1767 (htX16_lookAtReads_0 (4, .getfield 339, 3) (gx_m 4 rfl)) (fun v2 hv2 => ?_)
    refine gx_icmp_ge (pc := 7) (tgt := 225) (by decide) (htX16_lookAtReads_0 (7, .if_icmp .ge 218, 3) (gx_m 5 rfl)) (fun c2 => ?_) (fun c2 => ?_)
    · refine gx_Jw (lv := []) [] rfl ?_
      exact gx_Jout hb1 (hj1 () trivial)
    · refine gx_aload_n (pc := 10) (n := 0) (i := 0) rfl 0 rfl (htX16_lookAtReads_0 (10, .aload_n 0, 1) (gx_m 6 rfl)) ?_
      refine gx_Jgs (pc := 11) (ci := 16) (kk := 82) (t2 := 100) (by decide) (by decide) rfl rfl rfl q1756 (htX16_lookAtReads_0 (11, .getfield 224, 3) (gx_m 7 rfl)) ?_
      refine gx_iload_n (pc := 14) (n := 2) (i := 2) rfl 2 rfl (htX16_lookAtReads_0 (14, .iload_n 2, 1) (gx_m 8 rfl)) ?_
      refine gx_Jia (pc := 15) (htX16_lookAtReads_0 (15, .iaload, 1) (gx_m 9 rfl)) (fun v3 => ?_)
      refine gx_iload_n (pc := 16) (n := 1) (i := 1) rfl 1 rfl (htX16_lookAtReads_0 (16, .iload_n 1, 1) (gx_m 10 rfl)) ?_
      refine gx_Jjoin (pcJ := 219) (lvJ := fun (j_3 : Unit) => [(0, gx_r 17 (some x0)), (1, gx_i x1), (2, gx_i s1)]) (stJ := fun (j_3 : Unit) => []) (fun _ => True) (fun j_3 hj_3 => ?_) (fun kk3 hj3 => ?_)
      · refine gx_iinc (pc := 219) (i := 2) (j := 2) (v := (s1 + 1)) (lv' := [(2, gx_i (s1 + 1)), (0, gx_r 17 (some x0)), (1, gx_i x1)]) rfl (gx_iv (by decide)) (by decide) rfl (htX16_lookAtReads_1 (219, .iinc 2 1, 3) (gx_m 24 rfl)) ?_
        refine gx_goto (pc := 222) (tgt := 2) (by decide) (htX16_lookAtReads_1 (222, .goto (-220), 3) (gx_m 25 rfl)) ?_
        refine gx_Jw (lv := [(0, gx_r 17 (some x0)), (1, gx_i x1), (2, gx_i (s1 + 1))]) [1, 2, 0] rfl ?_
        exact ha1 ((s1 + 1) : Int32)
      · refine gx_icmp_ne (pc := 17) (tgt := 219) (by decide) (htX16_lookAtReads_0 (17, .if_icmp .ne 202, 3) (gx_m 11 rfl)) (fun c4 => ?_) (fun c4 => ?_)
        · refine gx_aload_n (pc := 20) (n := 0) (i := 0) rfl 0 rfl (htX16_lookAtReads_0 (20, .aload_n 0, 1) (gx_m 12 rfl)) ?_
          refine gx_Jgs (pc := 21) (ci := 16) (kk := 87) (t2 := 102) (by decide) (by decide) rfl rfl rfl q1761 (htX16_lookAtReads_0 (21, .getfield 239, 3) (gx_m 13 rfl)) ?_
          refine gx_iload_n (pc := 24) (n := 2) (i := 2) rfl 2 rfl (htX16_lookAtReads_0 (24, .iload_n 2, 1) (gx_m 14 rfl)) ?_
          refine gx_Jza (pc := 25) (htX16_lookAtReads_0 (25, .baload, 1) (gx_m 15 rfl)) (fun v4 => ?_)
          refine gx_if_eq (pc := 26) (y := 0) (tgt := 32) (by decide) (htX16_lookAtReads_0 (26, .ifCond .eq 6, 3) (gx_m 16 rfl)) (fun c5 => ?_) (fun c5 => ?_)
          · refine gx_iconst (pc := 32) (v := 0) (by decide) (htX16_lookAtReads_0 (32, .iconst 0, 1) (gx_m 18 rfl)) ?_
            refine gx_istore_n (pc := 33) (n := 3) (i := 3) (lv' := [(3, gx_i 0), (0, gx_r 17 (some x0)), (1, gx_i x1), (2, gx_i s1)]) rfl (by decide) rfl (htX16_lookAtReads_0 (33, .istore_n 3, 1) (gx_m 19 rfl)) ?_
            refine gx_iconst (pc := 34) (v := 0) (by decide) (htX16_lookAtReads_0 (34, .iconst 0, 1) (gx_m 20 rfl)) ?_
            refine gx_istore (pc := 35) (i := 4) (lv' := [(4, gx_i 0), (3, gx_i 0), (0, gx_r 17 (some x0)), (1, gx_i x1), (2, gx_i s1)]) (by decide) rfl (htX16_lookAtReads_0 (35, .istore 4, 2) (gx_m 21 rfl)) ?_
            refine gx_Jjoin (pcJ := 79) (lvJ := fun (j11 : Int32) => [(0, gx_r 17 (some x0)), (1, gx_i x1), (2, gx_i s1), (3, gx_i j11)]) (stJ := fun (j11 : Int32) => []) (fun _ => True) (fun j11 _ => ?_) (fun kk6 hj6 => ?_)
            · refine gx_iconst (pc := 79) (v := 2) (by decide) (htX16_lookAtReads_0 (79, .iconst 2, 1) (gx_m 43 rfl)) ?_
              refine gx_iload_n (pc := 80) (n := 3) (i := 3) rfl 3 rfl (htX16_lookAtReads_0 (80, .iload_n 3, 1) (gx_m 44 rfl)) ?_
              refine gx_imul (pc := 81) (htX16_lookAtReads_0 (81, .imul, 1) (gx_m 45 rfl)) ?_
              refine gx_aload_n (pc := 82) (n := 0) (i := 0) rfl 0 rfl (htX16_lookAtReads_0 (82, .aload_n 0, 1) (gx_m 46 rfl)) ?_
              refine gx_Jgi (pc := 83) (ci := 16) (kk := 29) (by decide) (Or.inl rfl) (by decide) (by decide) q1703 (htX16_lookAtReads_0 (83, .getfield 315, 3) (gx_m 47 rfl)) (fun v12 hv12 => ?_)
              refine gx_icmp_gt (pc := 86) (tgt := 92) (by decide) (htX16_lookAtReads_0 (86, .if_icmp .gt 6, 3) (gx_m 48 rfl)) (fun c7 => ?_) (fun c7 => ?_)
              · refine gx_aload_n (pc := 92) (n := 0) (i := 0) rfl 0 rfl (htX16_lookAtReads_0 (92, .aload_n 0, 1) (gx_m 50 rfl)) ?_
                refine gx_Jgs (pc := 93) (ci := 16) (kk := 87) (t2 := 102) (by decide) (by decide) rfl rfl rfl q1761 (htX16_lookAtReads_0 (93, .getfield 239, 3) (gx_m 51 rfl)) ?_
                refine gx_iload_n (pc := 96) (n := 2) (i := 2) rfl 2 rfl (htX16_lookAtReads_0 (96, .iload_n 2, 1) (gx_m 52 rfl)) ?_
                refine gx_iconst (pc := 97) (v := 1) (by decide) (htX16_lookAtReads_0 (97, .iconst 1, 1) (gx_m 53 rfl)) ?_
                refine gx_Jzs (pc := 98) (htX16_lookAtReads_0 (98, .bastore, 1) (gx_m 54 rfl)) ?_
                refine gx_aload_n (pc := 99) (n := 0) (i := 0) rfl 0 rfl (htX16_lookAtReads_0 (99, .aload_n 0, 1) (gx_m 55 rfl)) ?_
                refine gx_Jgs (pc := 100) (ci := 16) (kk := 47) (t2 := 100) (by decide) (by decide) rfl rfl rfl q1721 (htX16_lookAtReads_0 (100, .getfield 130, 3) (gx_m 56 rfl)) ?_
                refine gx_iload_n (pc := 103) (n := 1) (i := 1) rfl 1 rfl (htX16_lookAtReads_0 (103, .iload_n 1, 1) (gx_m 57 rfl)) ?_
                refine gx_Jia (pc := 104) (htX16_lookAtReads_0 (104, .iaload, 1) (gx_m 58 rfl)) (fun v13 => ?_)
                refine gx_aload_n (pc := 105) (n := 0) (i := 0) rfl 0 rfl (htX16_lookAtReads_0 (105, .aload_n 0, 1) (gx_m 59 rfl)) ?_
                refine gx_Jgs (pc := 106) (ci := 16) (kk := 84) (t2 := 100) (by decide) (by decide) rfl rfl rfl q1758 (htX16_lookAtReads_0 (106, .getfield 230, 3) (gx_m 60 rfl)) ?_
                refine gx_iload_n (pc := 109) (n := 2) (i := 2) rfl 2 rfl (htX16_lookAtReads_0 (109, .iload_n 2, 1) (gx_m 61 rfl)) ?_
                refine gx_Jia (pc := 110) (htX16_lookAtReads_0 (110, .iaload, 1) (gx_m 62 rfl)) (fun v14 => ?_)
                refine gx_Jjoin (pcJ := 124) (lvJ := fun (j_8 : Unit) => [(0, gx_r 17 (some x0)), (1, gx_i x1), (2, gx_i s1)]) (stJ := fun (j_8 : Unit) => []) (fun _ => True) (fun j_8 hj_8 => ?_) (fun kk8 hj8 => ?_)
                · refine gx_aload_n (pc := 124) (n := 0) (i := 0) rfl 0 rfl (htX16_lookAtReads_0 (124, .aload_n 0, 1) (gx_m 70 rfl)) ?_
                  refine gx_iload_n (pc := 125) (n := 1) (i := 1) rfl 1 rfl (htX16_lookAtReads_0 (125, .iload_n 1, 1) (gx_m 71 rfl)) ?_
                  refine gx_Jcv (pc := 126) (gx_hst (as := [gx_i x1]) (b := gx_r 17 (some x0))) (gx_runV (as := [gx_i x1]) (ci := 16) (ct_X16_now Y x0 x1) (by decide) (Or.inl rfl) rfl rfl rfl rfl q2256 q2258 qs79 q117 q2259 rfl dd_X16_now (by decide) (by decide) (Nat.le_of_ble_eq_true rfl) (htX16_lookAtReads_0 (126, .invokevirtual 507, 3) (gx_m 72 rfl))) ?_
                  refine gx_aload_n (pc := 129) (n := 0) (i := 0) rfl 0 rfl (htX16_lookAtReads_0 (129, .aload_n 0, 1) (gx_m 73 rfl)) ?_
                  refine gx_aload_n (pc := 130) (n := 0) (i := 0) rfl 0 rfl (htX16_lookAtReads_0 (130, .aload_n 0, 1) (gx_m 74 rfl)) ?_
                  refine gx_Jgs (pc := 131) (ci := 16) (kk := 92) (t2 := 101) (by decide) (by decide) rfl rfl rfl q1766 (htX16_lookAtReads_0 (131, .getfield 255, 3) (gx_m 75 rfl)) ?_
                  refine gx_bipush (pc := 134) (v := 32) (by decide) (htX16_lookAtReads_0 (134, .bipush 32, 2) (gx_m 76 rfl)) ?_
                  refine gx_iload_n (pc := 136) (n := 2) (i := 2) rfl 2 rfl (htX16_lookAtReads_0 (136, .iload_n 2, 1) (gx_m 77 rfl)) ?_
                  refine gx_imul (pc := 137) (htX16_lookAtReads_0 (137, .imul, 1) (gx_m 78 rfl)) ?_
                  refine gx_aload_n (pc := 138) (n := 0) (i := 0) rfl 0 rfl (htX16_lookAtReads_0 (138, .aload_n 0, 1) (gx_m 79 rfl)) ?_
                  refine gx_Jgs (pc := 139) (ci := 16) (kk := 86) (t2 := 100) (by decide) (by decide) rfl rfl rfl q1760 (htX16_lookAtReads_0 (139, .getfield 236, 3) (gx_m 80 rfl)) ?_
                  refine gx_iload_n (pc := 142) (n := 2) (i := 2) rfl 2 rfl (htX16_lookAtReads_0 (142, .iload_n 2, 1) (gx_m 81 rfl)) ?_
                  refine gx_Jia (pc := 143) (htX16_lookAtReads_0 (143, .iaload, 1) (gx_m 82 rfl)) (fun v16 => ?_)
                  refine gx_Jci (pc := 144) (gx_hst (as := [gx_r 101 (some (92 :: x0)), gx_i (32 * s1), gx_i v16]) (b := gx_r 17 (some x0))) (gx_runV (as := [gx_r 101 (some (92 :: x0)), gx_i (32 * s1), gx_i v16]) (ci := 16) (ct_X16_findPair Y x0 (92 :: x0) (32 * s1) v16) (by decide) (Or.inl rfl) rfl rfl rfl rfl q2280 q2282 qs85 q117 q2283 rfl dd_X16_findPair (by decide) (by decide) (Nat.le_of_ble_eq_true rfl) (htX16_lookAtReads_0 (144, .invokevirtual 408, 3) (gx_m 83 rfl))) (fun v17 => ?_)
                  refine gx_istore (pc := 147) (i := 4) (lv' := [(4, gx_i v17), (0, gx_r 17 (some x0)), (1, gx_i x1), (2, gx_i s1)]) (by decide) rfl (htX16_lookAtReads_0 (147, .istore 4, 2) (gx_m 84 rfl)) ?_
                  refine gx_aload_n (pc := 149) (n := 0) (i := 0) rfl 1 rfl (htX16_lookAtReads_0 (149, .aload_n 0, 1) (gx_m 85 rfl)) ?_
                  refine gx_Jgs (pc := 150) (ci := 16) (kk := 88) (t2 := 100) (by decide) (by decide) rfl rfl rfl q1762 (htX16_lookAtReads_0 (150, .getfield 242, 3) (gx_m 86 rfl)) ?_
                  refine gx_iload_n (pc := 153) (n := 2) (i := 2) rfl 3 rfl (htX16_lookAtReads_0 (153, .iload_n 2, 1) (gx_m 87 rfl)) ?_
                  refine gx_iload (pc := 154) (i := 4) 0 rfl (htX16_lookAtReads_0 (154, .iload 4, 2) (gx_m 88 rfl)) ?_
                  refine gx_Jjoin (pcJ := 164) (lvJ := fun (j18 : Int32) => [(0, gx_r 17 (some x0)), (1, gx_i x1), (2, gx_i s1), (4, gx_i v17)]) (stJ := fun (j18 : Int32) => [gx_i j18, gx_i s1, gx_r 100 (some (88 :: x0))]) (fun (j18 : Int32) => j18 &&& 1 = j18) (fun j18 hj18 => ?_) (fun kk9 hj9 => ?_)
                  · refine gx_Jis (pc := 164) (htX16_lookAtReads_0 (164, .iastore, 1) (gx_m 93 rfl)) ?_
                    refine gx_aload_n (pc := 165) (n := 0) (i := 0) rfl 0 rfl (htX16_lookAtReads_0 (165, .aload_n 0, 1) (gx_m 94 rfl)) ?_
                    refine gx_Jgs (pc := 166) (ci := 16) (kk := 89) (t2 := 100) (by decide) (by decide) rfl rfl rfl q1763 (htX16_lookAtReads_0 (166, .getfield 245, 3) (gx_m 95 rfl)) ?_
                    refine gx_iload_n (pc := 169) (n := 2) (i := 2) rfl 2 rfl (htX16_lookAtReads_0 (169, .iload_n 2, 1) (gx_m 96 rfl)) ?_
                    refine gx_iload (pc := 170) (i := 4) 3 rfl (htX16_lookAtReads_0 (170, .iload 4, 2) (gx_m 97 rfl)) ?_
                    refine gx_Jjoin (pcJ := 186) (lvJ := fun (j20 : Int32) => [(0, gx_r 17 (some x0)), (1, gx_i x1), (2, gx_i s1), (4, gx_i v17)]) (stJ := fun (j20 : Int32) => [gx_i j20, gx_i s1, gx_r 100 (some (89 :: x0))]) (fun _ => True) (fun j20 hj20 => ?_) (fun kk10 hj10 => ?_)
                    · refine gx_Jis (pc := 186) (htX16_lookAtReads_1 (186, .iastore, 1) (gx_m 5 rfl)) ?_
                      refine gx_aload_n (pc := 187) (n := 0) (i := 0) rfl 0 rfl (htX16_lookAtReads_1 (187, .aload_n 0, 1) (gx_m 6 rfl)) ?_
                      refine gx_Jgs (pc := 188) (ci := 16) (kk := 90) (t2 := 100) (by decide) (by decide) rfl rfl rfl q1764 (htX16_lookAtReads_1 (188, .getfield 248, 3) (gx_m 7 rfl)) ?_
                      refine gx_iload_n (pc := 191) (n := 2) (i := 2) rfl 2 rfl (htX16_lookAtReads_1 (191, .iload_n 2, 1) (gx_m 8 rfl)) ?_
                      refine gx_iload (pc := 192) (i := 4) 3 rfl (htX16_lookAtReads_1 (192, .iload 4, 2) (gx_m 9 rfl)) ?_
                      refine gx_Jjoin (pcJ := 208) (lvJ := fun (j22 : Int32) => [(0, gx_r 17 (some x0)), (1, gx_i x1), (2, gx_i s1)]) (stJ := fun (j22 : Int32) => [gx_i j22, gx_i s1, gx_r 100 (some (90 :: x0))]) (fun _ => True) (fun j22 hj22 => ?_) (fun kk11 hj11 => ?_)
                      · refine gx_Jis (pc := 208) (htX16_lookAtReads_1 (208, .iastore, 1) (gx_m 17 rfl)) ?_
                        refine gx_aload_n (pc := 209) (n := 0) (i := 0) rfl 0 rfl (htX16_lookAtReads_1 (209, .aload_n 0, 1) (gx_m 18 rfl)) ?_
                        refine gx_Jgs (pc := 210) (ci := 16) (kk := 91) (t2 := 100) (by decide) (by decide) rfl rfl rfl q1765 (htX16_lookAtReads_1 (210, .getfield 251, 3) (gx_m 19 rfl)) ?_
                        refine gx_iload_n (pc := 213) (n := 2) (i := 2) rfl 2 rfl (htX16_lookAtReads_1 (213, .iload_n 2, 1) (gx_m 20 rfl)) ?_
                        refine gx_aload_n (pc := 214) (n := 0) (i := 0) rfl 0 rfl (htX16_lookAtReads_1 (214, .aload_n 0, 1) (gx_m 21 rfl)) ?_
                        refine gx_Jgi (pc := 215) (ci := 16) (kk := 108) (by decide) (Or.inl rfl) (by decide) (by decide) q1782 (htX16_lookAtReads_1 (215, .getfield 433, 3) (gx_m 22 rfl)) (fun v23 hv23 => ?_)
                        refine gx_Jis (pc := 218) (htX16_lookAtReads_1 (218, .iastore, 1) (gx_m 23 rfl)) ?_
                        exact hj3 () trivial
                      · refine gx_if_ge (pc := 194) (y := 0) (tgt := 201) (by decide) (htX16_lookAtReads_1 (194, .ifCond .ge 7, 3) (gx_m 10 rfl)) (fun c12 => ?_) (fun c12 => ?_)
                        · refine gx_aload_n (pc := 201) (n := 0) (i := 0) rfl 0 rfl (htX16_lookAtReads_1 (201, .aload_n 0, 1) (gx_m 13 rfl)) ?_
                          refine gx_Jgs (pc := 202) (ci := 16) (kk := 103) (t2 := 100) (by decide) (by decide) rfl rfl rfl q1777 (htX16_lookAtReads_1 (202, .getfield 282, 3) (gx_m 14 rfl)) ?_
                          refine gx_iload (pc := 205) (i := 4) 3 rfl (htX16_lookAtReads_1 (205, .iload 4, 2) (gx_m 15 rfl)) ?_
                          refine gx_Jia (pc := 207) (htX16_lookAtReads_1 (207, .iaload, 1) (gx_m 16 rfl)) (fun v21 => ?_)
                          refine gx_Jw (lv := [(0, gx_r 17 (some x0)), (1, gx_i x1), (2, gx_i s1)]) [0, 1, 2] rfl ?_
                          exact hj11 (v21 : Int32) trivial
                        · refine gx_iconst (pc := 197) (v := 0) (by decide) (htX16_lookAtReads_1 (197, .iconst 0, 1) (gx_m 11 rfl)) ?_
                          refine gx_goto (pc := 198) (tgt := 208) (by decide) (htX16_lookAtReads_1 (198, .goto 10, 3) (gx_m 12 rfl)) ?_
                          refine gx_Jw (lv := [(0, gx_r 17 (some x0)), (1, gx_i x1), (2, gx_i s1)]) [0, 1, 2] rfl ?_
                          exact hj11 (0 : Int32) trivial
                    · refine gx_if_ge (pc := 172) (y := 0) (tgt := 179) (by decide) (htX16_lookAtReads_0 (172, .ifCond .ge 7, 3) (gx_m 98 rfl)) (fun c13 => ?_) (fun c13 => ?_)
                      · refine gx_aload_n (pc := 179) (n := 0) (i := 0) rfl 0 rfl (htX16_lookAtReads_1 (179, .aload_n 0, 1) (gx_m 1 rfl)) ?_
                        refine gx_Jgs (pc := 180) (ci := 16) (kk := 102) (t2 := 100) (by decide) (by decide) rfl rfl rfl q1776 (htX16_lookAtReads_1 (180, .getfield 279, 3) (gx_m 2 rfl)) ?_
                        refine gx_iload (pc := 183) (i := 4) 3 rfl (htX16_lookAtReads_1 (183, .iload 4, 2) (gx_m 3 rfl)) ?_
                        refine gx_Jia (pc := 185) (htX16_lookAtReads_1 (185, .iaload, 1) (gx_m 4 rfl)) (fun v19 => ?_)
                        exact hj10 (v19 : Int32) trivial
                      · refine gx_iconst (pc := 175) (v := 0) (by decide) (htX16_lookAtReads_0 (175, .iconst 0, 1) (gx_m 99 rfl)) ?_
                        refine gx_goto (pc := 176) (tgt := 186) (by decide) (htX16_lookAtReads_1 (176, .goto 10, 3) (gx_m 0 rfl)) ?_
                        exact hj10 (0 : Int32) trivial
                  · refine gx_if_ge (pc := 156) (y := 0) (tgt := 163) (by decide) (htX16_lookAtReads_0 (156, .ifCond .ge 7, 3) (gx_m 89 rfl)) (fun c14 => ?_) (fun c14 => ?_)
                    · refine gx_iconst (pc := 163) (v := 1) (by decide) (htX16_lookAtReads_0 (163, .iconst 1, 1) (gx_m 92 rfl)) ?_
                      refine gx_Jw (lv := [(0, gx_r 17 (some x0)), (1, gx_i x1), (2, gx_i s1), (4, gx_i v17)]) [1, 2, 3, 0] rfl ?_
                      exact hj9 (1 : Int32) gx_b1
                    · refine gx_iconst (pc := 159) (v := 0) (by decide) (htX16_lookAtReads_0 (159, .iconst 0, 1) (gx_m 90 rfl)) ?_
                      refine gx_goto (pc := 160) (tgt := 164) (by decide) (htX16_lookAtReads_0 (160, .goto 4, 3) (gx_m 91 rfl)) ?_
                      refine gx_Jw (lv := [(0, gx_r 17 (some x0)), (1, gx_i x1), (2, gx_i s1), (4, gx_i v17)]) [1, 2, 3, 0] rfl ?_
                      exact hj9 (0 : Int32) gx_b0
                · refine gx_icmp_ge (pc := 111) (tgt := 124) (by decide) (htX16_lookAtReads_0 (111, .if_icmp .ge 13, 3) (gx_m 63 rfl)) (fun c15 => ?_) (fun c15 => ?_)
                  · refine gx_Jw (lv := [(0, gx_r 17 (some x0)), (1, gx_i x1), (2, gx_i s1)]) [0, 1, 2] rfl ?_
                    exact hj8 () trivial
                  · refine gx_aload_n (pc := 114) (n := 0) (i := 0) rfl 0 rfl (htX16_lookAtReads_0 (114, .aload_n 0, 1) (gx_m 64 rfl)) ?_
                    refine gx_dup (pc := 115) rfl (htX16_lookAtReads_0 (115, .dup, 1) (gx_m 65 rfl)) ?_
                    refine gx_Jgi (pc := 116) (ci := 16) (kk := 96) (by decide) (Or.inl rfl) (by decide) (by decide) q1770 (htX16_lookAtReads_0 (116, .getfield 342, 3) (gx_m 66 rfl)) (fun v15 hv15 => ?_)
                    refine gx_iconst (pc := 119) (v := 1) (by decide) (htX16_lookAtReads_0 (119, .iconst 1, 1) (gx_m 67 rfl)) ?_
                    refine gx_iadd (pc := 120) (htX16_lookAtReads_0 (120, .iadd, 1) (gx_m 68 rfl)) ?_
                    refine gx_Jpi (pc := 121) (ci := 16) (kk := 96) (by decide) (Or.inl rfl) (by decide) rfl rfl q1770 (Or.inl rfl) (htX16_lookAtReads_0 (121, .putfield 342, 3) (gx_m 69 rfl)) ?_
                    refine gx_Jw (lv := [(0, gx_r 17 (some x0)), (1, gx_i x1), (2, gx_i s1)]) [0, 1, 2] rfl ?_
                    exact hj8 () trivial
              · refine gx_goto (pc := 89) (tgt := 219) (by decide) (htX16_lookAtReads_0 (89, .goto 130, 3) (gx_m 49 rfl)) ?_
                refine gx_Jw (lv := [(0, gx_r 17 (some x0)), (1, gx_i x1), (2, gx_i s1)]) [0, 1, 2] rfl ?_
                exact hj3 () trivial
            · refine gx_Jw (lv := [(0, gx_r 17 (some x0)), (1, gx_i x1), (2, gx_i s1), (3, gx_i 0), (4, gx_i 0)]) [2, 3, 4, 1, 0] rfl ?_
              refine gx_Jlp (pc := 37) (lvh := fun (s5 : Int32 × Int32) => [(0, gx_r 17 (some x0)), (1, gx_i x1), (2, gx_i s1), (3, gx_i s5.1), (4, gx_i s5.2)]) (fun s5 kl6 ha6 hb6 => ?_) _
              unfold lb_X16_lookAtReads_1
              refine gx_iload (pc := 37) (i := 4) 4 rfl (htX16_lookAtReads_0 (37, .iload 4, 2) (gx_m 22 rfl)) ?_
              refine gx_aload_n (pc := 39) (n := 0) (i := 0) rfl 0 rfl (htX16_lookAtReads_0 (39, .aload_n 0, 1) (gx_m 23 rfl)) ?_
              refine gx_Jgi (pc := 40) (ci := 16) (kk := 29) (by decide) (Or.inl rfl) (by decide) (by decide) q1703 (htX16_lookAtReads_0 (40, .getfield 315, 3) (gx_m 24 rfl)) (fun v6 hv6 => ?_)
              refine gx_icmp_ge (pc := 43) (tgt := 79) (by decide) (htX16_lookAtReads_0 (43, .if_icmp .ge 36, 3) (gx_m 25 rfl)) (fun c16 => ?_) (fun c16 => ?_)
              · refine gx_Jw (lv := [(0, gx_r 17 (some x0)), (1, gx_i x1), (2, gx_i s1), (3, gx_i s5.1)]) [0, 1, 2, 3] rfl ?_
                exact gx_Jout hb6 (hj6 (s5.1 : Int32) trivial)
              · refine gx_iload (pc := 46) (i := 4) 4 rfl (htX16_lookAtReads_0 (46, .iload 4, 2) (gx_m 26 rfl)) ?_
                refine gx_iload_n (pc := 48) (n := 1) (i := 1) rfl 1 rfl (htX16_lookAtReads_0 (48, .iload_n 1, 1) (gx_m 27 rfl)) ?_
                refine gx_Jjoin (pcJ := 73) (lvJ := fun (j10 : Int32) => [(0, gx_r 17 (some x0)), (1, gx_i x1), (2, gx_i s1), (3, gx_i j10), (4, gx_i s5.2)]) (stJ := fun (j10 : Int32) => []) (fun _ => True) (fun j10 hj10 => ?_) (fun kk17 hj17 => ?_)
                · refine gx_iinc (pc := 73) (i := 4) (j := 4) (v := (s5.2 + 1)) (lv' := [(4, gx_i (s5.2 + 1)), (0, gx_r 17 (some x0)), (1, gx_i x1), (2, gx_i s1), (3, gx_i j10)]) rfl (gx_iv (by decide)) (by decide) rfl (htX16_lookAtReads_0 (73, .iinc 4 1, 3) (gx_m 41 rfl)) ?_
                  refine gx_goto (pc := 76) (tgt := 37) (by decide) (htX16_lookAtReads_0 (76, .goto (-39), 3) (gx_m 42 rfl)) ?_
                  refine gx_Jw (lv := [(0, gx_r 17 (some x0)), (1, gx_i x1), (2, gx_i s1), (3, gx_i j10), (4, gx_i (s5.2 + 1))]) [1, 2, 3, 4, 0] rfl ?_
                  exact ha6 ((j10 : Int32), ((s5.2 + 1) : Int32))
                · refine gx_icmp_eq (pc := 49) (tgt := 70) (by decide) (htX16_lookAtReads_0 (49, .if_icmp .eq 21, 3) (gx_m 28 rfl)) (fun c18 => ?_) (fun c18 => ?_)
                  · refine gx_iinc (pc := 70) (i := 3) (j := 3) (v := (s5.1 + 1)) (lv' := [(3, gx_i (s5.1 + 1)), (0, gx_r 17 (some x0)), (1, gx_i x1), (2, gx_i s1), (4, gx_i s5.2)]) rfl (gx_iv (by decide)) (by decide) rfl (htX16_lookAtReads_0 (70, .iinc 3 1, 3) (gx_m 40 rfl)) ?_
                    refine gx_Jw (lv := [(0, gx_r 17 (some x0)), (1, gx_i x1), (2, gx_i s1), (3, gx_i (s5.1 + 1)), (4, gx_i s5.2)]) [1, 2, 3, 0, 4] rfl ?_
                    exact hj17 ((s5.1 + 1) : Int32) trivial
                  · refine gx_aload_n (pc := 52) (n := 0) (i := 0) rfl 0 rfl (htX16_lookAtReads_0 (52, .aload_n 0, 1) (gx_m 29 rfl)) ?_
                    refine gx_Jgs (pc := 53) (ci := 16) (kk := 55) (t2 := 105) (by decide) (by decide) rfl rfl rfl q1729 (htX16_lookAtReads_0 (53, .getfield 154, 3) (gx_m 30 rfl)) ?_
                    refine gx_iload_n (pc := 56) (n := 1) (i := 1) rfl 1 rfl (htX16_lookAtReads_0 (56, .iload_n 1, 1) (gx_m 31 rfl)) ?_
                    refine gx_Jra (pc := 57) (t := 5) (t2 := 100) (by decide) (by decide) rfl (htX16_lookAtReads_0 (57, .aaload, 1) (gx_m 32 rfl)) (fun v7 => ?_)
                    refine gx_iload (pc := 58) (i := 4) 4 rfl (htX16_lookAtReads_0 (58, .iload 4, 2) (gx_m 33 rfl)) ?_
                    refine gx_Jia (pc := 60) (htX16_lookAtReads_0 (60, .iaload, 1) (gx_m 34 rfl)) (fun v8 => ?_)
                    refine gx_aload_n (pc := 61) (n := 0) (i := 0) rfl 0 rfl (htX16_lookAtReads_0 (61, .aload_n 0, 1) (gx_m 35 rfl)) ?_
                    refine gx_Jgs (pc := 62) (ci := 16) (kk := 85) (t2 := 100) (by decide) (by decide) rfl rfl rfl q1759 (htX16_lookAtReads_0 (62, .getfield 233, 3) (gx_m 36 rfl)) ?_
                    refine gx_iload_n (pc := 65) (n := 2) (i := 2) rfl 2 rfl (htX16_lookAtReads_0 (65, .iload_n 2, 1) (gx_m 37 rfl)) ?_
                    refine gx_Jia (pc := 66) (htX16_lookAtReads_0 (66, .iaload, 1) (gx_m 38 rfl)) (fun v9 => ?_)
                    refine gx_icmp_lt (pc := 67) (tgt := 73) (by decide) (htX16_lookAtReads_0 (67, .if_icmp .lt 6, 3) (gx_m 39 rfl)) (fun c19 => ?_) (fun c19 => ?_)
                    · exact hj17 (s5.1 : Int32) trivial
                    · refine gx_iinc (pc := 70) (i := 3) (j := 3) (v := (s5.1 + 1)) (lv' := [(3, gx_i (s5.1 + 1)), (0, gx_r 17 (some x0)), (1, gx_i x1), (2, gx_i s1), (4, gx_i s5.2)]) rfl (gx_iv (by decide)) (by decide) rfl (htX16_lookAtReads_0 (70, .iinc 3 1, 3) (gx_m 40 rfl)) ?_
                      refine gx_Jw (lv := [(0, gx_r 17 (some x0)), (1, gx_i x1), (2, gx_i s1), (3, gx_i (s5.1 + 1)), (4, gx_i s5.2)]) [1, 2, 3, 0, 4] rfl ?_
                      exact hj17 ((s5.1 + 1) : Int32) trivial
          · refine gx_goto (pc := 29) (tgt := 219) (by decide) (htX16_lookAtReads_0 (29, .goto 190, 3) (gx_m 17 rfl)) ?_
            exact hj3 () trivial
        · exact hj3 () trivial
theorem ct_X16_tookIn (Y : gx_Y) (x0 : gx_Nm) (x1 : Int32) (x2 : Int32) : gx_Ct Y yX16_tookIn (ws_ yX16_tookIn cX16_tookIn 5 none) 9 297 [gx_r 17 (some x0), gx_i x1, gx_i x2] gx_Ov (f_X16_tookIn x0 x1 x2) := by
  refine gx_start (lv := [(0, gx_r 17 (some x0)), (1, gx_i x1), (2, gx_i x2)]) gx_Ov_r pn_X16 (Nat.le_of_ble_eq_true rfl) rfl ?_
  unfold f_X16_tookIn
  refine gx_aload_n (pc := 0) (n := 0) (i := 0) rfl 0 rfl (htX16_tookIn_0 (0, .aload_n 0, 1) (gx_m 0 rfl)) ?_
  refine gx_Jgs (pc := 1) (ci := 16) (kk := 45) (t2 := 100) (by decide) (by decide) rfl rfl rfl q1719 (htX16_tookIn_0 (1, .getfield 124, 3) (gx_m 1 rfl)) ?_
  refine gx_iload_n (pc := 4) (n := 1) (i := 1) rfl 1 rfl (htX16_tookIn_0 (4, .iload_n 1, 1) (gx_m 2 rfl)) ?_
  refine gx_Jia (pc := 5) (htX16_tookIn_0 (5, .iaload, 1) (gx_m 3 rfl)) (fun v1 => ?_)
  refine gx_iconst (pc := 6) (v := 2) (by decide) (htX16_tookIn_0 (6, .iconst 2, 1) (gx_m 4 rfl)) ?_
  refine gx_icmp_ne (pc := 7) (tgt := 25) (by decide) (htX16_tookIn_0 (7, .if_icmp .ne 18, 3) (gx_m 5 rfl)) (fun c1 => ?_) (fun c1 => ?_)
  · refine gx_aload_n (pc := 10) (n := 0) (i := 0) rfl 0 rfl (htX16_tookIn_0 (10, .aload_n 0, 1) (gx_m 6 rfl)) ?_
    refine gx_Jgs (pc := 11) (ci := 16) (kk := 67) (t2 := 100) (by decide) (by decide) rfl rfl rfl q1741 (htX16_tookIn_0 (11, .getfield 190, 3) (gx_m 7 rfl)) ?_
    refine gx_iload_n (pc := 14) (n := 2) (i := 2) rfl 2 rfl (htX16_tookIn_0 (14, .iload_n 2, 1) (gx_m 8 rfl)) ?_
    refine gx_Jia (pc := 15) (htX16_tookIn_0 (15, .iaload, 1) (gx_m 9 rfl)) (fun v2 => ?_)
    refine gx_aload_n (pc := 16) (n := 0) (i := 0) rfl 0 rfl (htX16_tookIn_0 (16, .aload_n 0, 1) (gx_m 10 rfl)) ?_
    refine gx_Jgs (pc := 17) (ci := 16) (kk := 31) (t2 := 100) (by decide) (by decide) rfl rfl rfl q1705 (htX16_tookIn_0 (17, .getfield 80, 3) (gx_m 11 rfl)) ?_
    refine gx_iload_n (pc := 20) (n := 1) (i := 1) rfl 1 rfl (htX16_tookIn_0 (20, .iload_n 1, 1) (gx_m 12 rfl)) ?_
    refine gx_Jia (pc := 21) (htX16_tookIn_0 (21, .iaload, 1) (gx_m 13 rfl)) (fun v3 => ?_)
    refine gx_icmp_eq (pc := 22) (tgt := 26) (by decide) (htX16_tookIn_0 (22, .if_icmp .eq 4, 3) (gx_m 14 rfl)) (fun c2 => ?_) (fun c2 => ?_)
    · refine gx_aload_n (pc := 26) (n := 0) (i := 0) rfl 0 rfl (htX16_tookIn_0 (26, .aload_n 0, 1) (gx_m 16 rfl)) ?_
      refine gx_Jgs (pc := 27) (ci := 16) (kk := 65) (t2 := 100) (by decide) (by decide) rfl rfl rfl q1739 (htX16_tookIn_0 (27, .getfield 184, 3) (gx_m 17 rfl)) ?_
      refine gx_iload_n (pc := 30) (n := 2) (i := 2) rfl 2 rfl (htX16_tookIn_0 (30, .iload_n 2, 1) (gx_m 18 rfl)) ?_
      refine gx_Jia (pc := 31) (htX16_tookIn_0 (31, .iaload, 1) (gx_m 19 rfl)) (fun v4 => ?_)
      refine gx_istore_n (pc := 32) (n := 3) (i := 3) (lv' := [(3, gx_i v4), (0, gx_r 17 (some x0)), (1, gx_i x1), (2, gx_i x2)]) rfl (by decide) rfl (htX16_tookIn_0 (32, .istore_n 3, 1) (gx_m 20 rfl)) ?_
      refine gx_aload_n (pc := 33) (n := 0) (i := 0) rfl 1 rfl (htX16_tookIn_0 (33, .aload_n 0, 1) (gx_m 21 rfl)) ?_
      refine gx_Jgs (pc := 34) (ci := 16) (kk := 68) (t2 := 100) (by decide) (by decide) rfl rfl rfl q1742 (htX16_tookIn_0 (34, .getfield 193, 3) (gx_m 22 rfl)) ?_
      refine gx_iload_n (pc := 37) (n := 2) (i := 2) rfl 3 rfl (htX16_tookIn_0 (37, .iload_n 2, 1) (gx_m 23 rfl)) ?_
      refine gx_Jia (pc := 38) (htX16_tookIn_0 (38, .iaload, 1) (gx_m 24 rfl)) (fun v5 => ?_)
      refine gx_istore (pc := 39) (i := 4) (lv' := [(4, gx_i v5), (3, gx_i v4), (0, gx_r 17 (some x0)), (1, gx_i x1), (2, gx_i x2)]) (by decide) rfl (htX16_tookIn_0 (39, .istore 4, 2) (gx_m 25 rfl)) ?_
      refine gx_aload_n (pc := 41) (n := 0) (i := 0) rfl 2 rfl (htX16_tookIn_0 (41, .aload_n 0, 1) (gx_m 26 rfl)) ?_
      refine gx_Jgs (pc := 42) (ci := 16) (kk := 55) (t2 := 105) (by decide) (by decide) rfl rfl rfl q1729 (htX16_tookIn_0 (42, .getfield 154, 3) (gx_m 27 rfl)) ?_
      refine gx_iload_n (pc := 45) (n := 1) (i := 1) rfl 3 rfl (htX16_tookIn_0 (45, .iload_n 1, 1) (gx_m 28 rfl)) ?_
      refine gx_Jra (pc := 46) (t := 5) (t2 := 100) (by decide) (by decide) rfl (htX16_tookIn_0 (46, .aaload, 1) (gx_m 29 rfl)) (fun v6 => ?_)
      refine gx_iload_n (pc := 47) (n := 3) (i := 3) rfl 1 rfl (htX16_tookIn_0 (47, .iload_n 3, 1) (gx_m 30 rfl)) ?_
      refine gx_aload_n (pc := 48) (n := 0) (i := 0) rfl 2 rfl (htX16_tookIn_0 (48, .aload_n 0, 1) (gx_m 31 rfl)) ?_
      refine gx_Jgs (pc := 49) (ci := 16) (kk := 55) (t2 := 105) (by decide) (by decide) rfl rfl rfl q1729 (htX16_tookIn_0 (49, .getfield 154, 3) (gx_m 32 rfl)) ?_
      refine gx_iload_n (pc := 52) (n := 1) (i := 1) rfl 3 rfl (htX16_tookIn_0 (52, .iload_n 1, 1) (gx_m 33 rfl)) ?_
      refine gx_Jra (pc := 53) (t := 5) (t2 := 100) (by decide) (by decide) rfl (htX16_tookIn_0 (53, .aaload, 1) (gx_m 34 rfl)) (fun v7 => ?_)
      refine gx_iload_n (pc := 54) (n := 3) (i := 3) rfl 1 rfl (htX16_tookIn_0 (54, .iload_n 3, 1) (gx_m 35 rfl)) ?_
      refine gx_Jia (pc := 55) (htX16_tookIn_0 (55, .iaload, 1) (gx_m 36 rfl)) (fun v8 => ?_)
      refine gx_aload_n (pc := 56) (n := 0) (i := 0) rfl 2 rfl (htX16_tookIn_0 (56, .aload_n 0, 1) (gx_m 37 rfl)) ?_
      refine gx_Jgs (pc := 57) (ci := 16) (kk := 71) (t2 := 100) (by decide) (by decide) rfl rfl rfl q1745 (htX16_tookIn_0 (57, .getfield 202, 3) (gx_m 38 rfl)) ?_
      refine gx_iload_n (pc := 60) (n := 2) (i := 2) rfl 4 rfl (htX16_tookIn_0 (60, .iload_n 2, 1) (gx_m 39 rfl)) ?_
      refine gx_Jia (pc := 61) (htX16_tookIn_0 (61, .iaload, 1) (gx_m 40 rfl)) (fun v9 => ?_)
      refine gx_Jmax (pc := 62) rfl q2198 q2199 q128 q2200 (by decide) (Nat.le_of_ble_eq_true rfl) (htX16_tookIn_0 (62, .invokestatic 490, 3) (gx_m 41 rfl)) ?_
      refine gx_Jis (pc := 65) (htX16_tookIn_0 (65, .iastore, 1) (gx_m 42 rfl)) ?_
      refine gx_aload_n (pc := 66) (n := 0) (i := 0) rfl 2 rfl (htX16_tookIn_0 (66, .aload_n 0, 1) (gx_m 43 rfl)) ?_
      refine gx_Jgs (pc := 67) (ci := 16) (kk := 69) (t2 := 100) (by decide) (by decide) rfl rfl rfl q1743 (htX16_tookIn_0 (67, .getfield 196, 3) (gx_m 44 rfl)) ?_
      refine gx_iload_n (pc := 70) (n := 2) (i := 2) rfl 4 rfl (htX16_tookIn_0 (70, .iload_n 2, 1) (gx_m 45 rfl)) ?_
      refine gx_Jia (pc := 71) (htX16_tookIn_0 (71, .iaload, 1) (gx_m 46 rfl)) (fun v10 => ?_)
      refine gx_iconst (pc := 72) (v := 1) (by decide) (htX16_tookIn_0 (72, .iconst 1, 1) (gx_m 47 rfl)) ?_
      refine gx_Jjoin (pcJ := 203) (lvJ := fun (j_3 : Unit) => [(0, gx_r 17 (some x0)), (1, gx_i x1)]) (stJ := fun (j_3 : Unit) => []) (fun _ => True) (fun j_3 hj_3 => ?_) (fun kk3 hj3 => ?_)
      · refine gx_aload_n (pc := 203) (n := 0) (i := 0) rfl 0 rfl (htX16_tookIn_1 (203, .aload_n 0, 1) (gx_m 35 rfl)) ?_
        refine gx_iload_n (pc := 204) (n := 1) (i := 1) rfl 1 rfl (htX16_tookIn_1 (204, .iload_n 1, 1) (gx_m 36 rfl)) ?_
        refine gx_Jcv (pc := 205) (gx_hst (as := [gx_i x1]) (b := gx_r 17 (some x0))) (gx_runV (as := [gx_i x1]) (ci := 16) (ct_X16_lookAtReads Y x0 x1) (by decide) (Or.inl rfl) rfl rfl rfl rfl q2252 q2254 qs78 q117 q2255 rfl dd_X16_lookAtReads (by decide) (by decide) (Nat.le_of_ble_eq_true rfl) (htX16_tookIn_1 (205, .invokevirtual 525, 3) (gx_m 37 rfl))) ?_
        exact gx_Jvret (pc := 208) rfl (fun _ => trivial) (fun _ _ => rfl) (htX16_tookIn_1 (208, .return_, 1) (gx_m 38 rfl))
      · refine gx_icmp_ne (pc := 73) (tgt := 172) (by decide) (htX16_tookIn_0 (73, .if_icmp .ne 99, 3) (gx_m 48 rfl)) (fun c4 => ?_) (fun c4 => ?_)
        · refine gx_aload_n (pc := 76) (n := 0) (i := 0) rfl 2 rfl (htX16_tookIn_0 (76, .aload_n 0, 1) (gx_m 49 rfl)) ?_
          refine gx_Jgs (pc := 77) (ci := 16) (kk := 54) (t2 := 105) (by decide) (by decide) rfl rfl rfl q1728 (htX16_tookIn_0 (77, .getfield 151, 3) (gx_m 50 rfl)) ?_
          refine gx_iload_n (pc := 80) (n := 1) (i := 1) rfl 3 rfl (htX16_tookIn_0 (80, .iload_n 1, 1) (gx_m 51 rfl)) ?_
          refine gx_Jra (pc := 81) (t := 5) (t2 := 100) (by decide) (by decide) rfl (htX16_tookIn_0 (81, .aaload, 1) (gx_m 52 rfl)) (fun v11 => ?_)
          refine gx_iload_n (pc := 82) (n := 3) (i := 3) rfl 1 rfl (htX16_tookIn_0 (82, .iload_n 3, 1) (gx_m 53 rfl)) ?_
          refine gx_aload_n (pc := 83) (n := 0) (i := 0) rfl 2 rfl (htX16_tookIn_0 (83, .aload_n 0, 1) (gx_m 54 rfl)) ?_
          refine gx_Jgs (pc := 84) (ci := 16) (kk := 54) (t2 := 105) (by decide) (by decide) rfl rfl rfl q1728 (htX16_tookIn_0 (84, .getfield 151, 3) (gx_m 55 rfl)) ?_
          refine gx_iload_n (pc := 87) (n := 1) (i := 1) rfl 3 rfl (htX16_tookIn_0 (87, .iload_n 1, 1) (gx_m 56 rfl)) ?_
          refine gx_Jra (pc := 88) (t := 5) (t2 := 100) (by decide) (by decide) rfl (htX16_tookIn_0 (88, .aaload, 1) (gx_m 57 rfl)) (fun v12 => ?_)
          refine gx_iload_n (pc := 89) (n := 3) (i := 3) rfl 1 rfl (htX16_tookIn_0 (89, .iload_n 3, 1) (gx_m 58 rfl)) ?_
          refine gx_Jia (pc := 90) (htX16_tookIn_0 (90, .iaload, 1) (gx_m 59 rfl)) (fun v13 => ?_)
          refine gx_iload (pc := 91) (i := 4) 0 rfl (htX16_tookIn_0 (91, .iload 4, 2) (gx_m 60 rfl)) ?_
          refine gx_Jmax (pc := 93) rfl q2198 q2199 q128 q2200 (by decide) (Nat.le_of_ble_eq_true rfl) (htX16_tookIn_0 (93, .invokestatic 490, 3) (gx_m 61 rfl)) ?_
          refine gx_Jis (pc := 96) (htX16_tookIn_0 (96, .iastore, 1) (gx_m 62 rfl)) ?_
          refine gx_aload_n (pc := 97) (n := 0) (i := 0) rfl 2 rfl (htX16_tookIn_0 (97, .aload_n 0, 1) (gx_m 63 rfl)) ?_
          refine gx_Jgs (pc := 98) (ci := 16) (kk := 53) (t2 := 105) (by decide) (by decide) rfl rfl rfl q1727 (htX16_tookIn_0 (98, .getfield 148, 3) (gx_m 64 rfl)) ?_
          refine gx_iload_n (pc := 101) (n := 1) (i := 1) rfl 3 rfl (htX16_tookIn_0 (101, .iload_n 1, 1) (gx_m 65 rfl)) ?_
          refine gx_Jra (pc := 102) (t := 5) (t2 := 100) (by decide) (by decide) rfl (htX16_tookIn_0 (102, .aaload, 1) (gx_m 66 rfl)) (fun v14 => ?_)
          refine gx_iload_n (pc := 103) (n := 3) (i := 3) rfl 1 rfl (htX16_tookIn_0 (103, .iload_n 3, 1) (gx_m 67 rfl)) ?_
          refine gx_aload_n (pc := 104) (n := 0) (i := 0) rfl 2 rfl (htX16_tookIn_0 (104, .aload_n 0, 1) (gx_m 68 rfl)) ?_
          refine gx_Jgs (pc := 105) (ci := 16) (kk := 53) (t2 := 105) (by decide) (by decide) rfl rfl rfl q1727 (htX16_tookIn_0 (105, .getfield 148, 3) (gx_m 69 rfl)) ?_
          refine gx_iload_n (pc := 108) (n := 1) (i := 1) rfl 3 rfl (htX16_tookIn_0 (108, .iload_n 1, 1) (gx_m 70 rfl)) ?_
          refine gx_Jra (pc := 109) (t := 5) (t2 := 100) (by decide) (by decide) rfl (htX16_tookIn_0 (109, .aaload, 1) (gx_m 71 rfl)) (fun v15 => ?_)
          refine gx_iload_n (pc := 110) (n := 3) (i := 3) rfl 1 rfl (htX16_tookIn_0 (110, .iload_n 3, 1) (gx_m 72 rfl)) ?_
          refine gx_Jia (pc := 111) (htX16_tookIn_0 (111, .iaload, 1) (gx_m 73 rfl)) (fun v16 => ?_)
          refine gx_aload_n (pc := 112) (n := 0) (i := 0) rfl 2 rfl (htX16_tookIn_0 (112, .aload_n 0, 1) (gx_m 74 rfl)) ?_
          refine gx_Jgs (pc := 113) (ci := 16) (kk := 54) (t2 := 105) (by decide) (by decide) rfl rfl rfl q1728 (htX16_tookIn_0 (113, .getfield 151, 3) (gx_m 75 rfl)) ?_
          refine gx_iload_n (pc := 116) (n := 1) (i := 1) rfl 3 rfl (htX16_tookIn_0 (116, .iload_n 1, 1) (gx_m 76 rfl)) ?_
          refine gx_Jra (pc := 117) (t := 5) (t2 := 100) (by decide) (by decide) rfl (htX16_tookIn_0 (117, .aaload, 1) (gx_m 77 rfl)) (fun v17 => ?_)
          refine gx_iload_n (pc := 118) (n := 3) (i := 3) rfl 1 rfl (htX16_tookIn_0 (118, .iload_n 3, 1) (gx_m 78 rfl)) ?_
          refine gx_Jia (pc := 119) (htX16_tookIn_0 (119, .iaload, 1) (gx_m 79 rfl)) (fun v18 => ?_)
          refine gx_iconst (pc := 120) (v := 1) (by decide) (htX16_tookIn_0 (120, .iconst 1, 1) (gx_m 80 rfl)) ?_
          refine gx_iadd (pc := 121) (htX16_tookIn_0 (121, .iadd, 1) (gx_m 81 rfl)) ?_
          refine gx_Jmax (pc := 122) rfl q2198 q2199 q128 q2200 (by decide) (Nat.le_of_ble_eq_true rfl) (htX16_tookIn_0 (122, .invokestatic 490, 3) (gx_m 82 rfl)) ?_
          refine gx_Jis (pc := 125) (htX16_tookIn_0 (125, .iastore, 1) (gx_m 83 rfl)) ?_
          refine gx_aload_n (pc := 126) (n := 0) (i := 0) rfl 2 rfl (htX16_tookIn_0 (126, .aload_n 0, 1) (gx_m 84 rfl)) ?_
          refine gx_iload_n (pc := 127) (n := 1) (i := 1) rfl 3 rfl (htX16_tookIn_0 (127, .iload_n 1, 1) (gx_m 85 rfl)) ?_
          refine gx_Jcv (pc := 128) (gx_hst (as := [gx_i x1]) (b := gx_r 17 (some x0))) (gx_runV (as := [gx_i x1]) (ci := 16) (ct_X16_lookForCommit Y x0 x1) (by decide) (Or.inl rfl) rfl rfl rfl rfl q2186 q2188 qs66 q117 q2189 rfl dd_X16_lookForCommit (by decide) (by decide) (Nat.le_of_ble_eq_true rfl) (htX16_tookIn_0 (128, .invokevirtual 522, 3) (gx_m 86 rfl))) ?_
          refine gx_iload (pc := 131) (i := 4) 0 rfl (htX16_tookIn_0 (131, .iload 4, 2) (gx_m 87 rfl)) ?_
          refine gx_aload_n (pc := 133) (n := 0) (i := 0) rfl 2 rfl (htX16_tookIn_0 (133, .aload_n 0, 1) (gx_m 88 rfl)) ?_
          refine gx_Jgs (pc := 134) (ci := 16) (kk := 53) (t2 := 105) (by decide) (by decide) rfl rfl rfl q1727 (htX16_tookIn_0 (134, .getfield 148, 3) (gx_m 89 rfl)) ?_
          refine gx_iload_n (pc := 137) (n := 1) (i := 1) rfl 3 rfl (htX16_tookIn_0 (137, .iload_n 1, 1) (gx_m 90 rfl)) ?_
          refine gx_Jra (pc := 138) (t := 5) (t2 := 100) (by decide) (by decide) rfl (htX16_tookIn_0 (138, .aaload, 1) (gx_m 91 rfl)) (fun v19 => ?_)
          refine gx_iload_n (pc := 139) (n := 3) (i := 3) rfl 1 rfl (htX16_tookIn_0 (139, .iload_n 3, 1) (gx_m 92 rfl)) ?_
          refine gx_Jia (pc := 140) (htX16_tookIn_0 (140, .iaload, 1) (gx_m 93 rfl)) (fun v20 => ?_)
          refine gx_iconst (pc := 141) (v := 1) (by decide) (htX16_tookIn_0 (141, .iconst 1, 1) (gx_m 94 rfl)) ?_
          refine gx_isub (pc := 142) (htX16_tookIn_0 (142, .isub, 1) (gx_m 95 rfl)) ?_
          refine gx_icmp_lt (pc := 143) (tgt := 203) (by decide) (htX16_tookIn_0 (143, .if_icmp .lt 60, 3) (gx_m 96 rfl)) (fun c5 => ?_) (fun c5 => ?_)
          · refine gx_Jw (lv := [(0, gx_r 17 (some x0)), (1, gx_i x1)]) [2, 3] rfl ?_
            exact hj3 () trivial
          · refine gx_aload_n (pc := 146) (n := 0) (i := 0) rfl 2 rfl (htX16_tookIn_0 (146, .aload_n 0, 1) (gx_m 97 rfl)) ?_
            refine gx_Jgs (pc := 147) (ci := 16) (kk := 53) (t2 := 105) (by decide) (by decide) rfl rfl rfl q1727 (htX16_tookIn_0 (147, .getfield 148, 3) (gx_m 98 rfl)) ?_
            refine gx_iload_n (pc := 150) (n := 1) (i := 1) rfl 3 rfl (htX16_tookIn_0 (150, .iload_n 1, 1) (gx_m 99 rfl)) ?_
            refine gx_Jra (pc := 151) (t := 5) (t2 := 100) (by decide) (by decide) rfl (htX16_tookIn_1 (151, .aaload, 1) (gx_m 0 rfl)) (fun v21 => ?_)
            refine gx_iload_n (pc := 152) (n := 3) (i := 3) rfl 1 rfl (htX16_tookIn_1 (152, .iload_n 3, 1) (gx_m 1 rfl)) ?_
            refine gx_Jia (pc := 153) (htX16_tookIn_1 (153, .iaload, 1) (gx_m 2 rfl)) (fun v22 => ?_)
            refine gx_aload_n (pc := 154) (n := 0) (i := 0) rfl 2 rfl (htX16_tookIn_1 (154, .aload_n 0, 1) (gx_m 3 rfl)) ?_
            refine gx_Jgs (pc := 155) (ci := 16) (kk := 36) (t2 := 100) (by decide) (by decide) rfl rfl rfl q1710 (htX16_tookIn_1 (155, .getfield 95, 3) (gx_m 4 rfl)) ?_
            refine gx_iload_n (pc := 158) (n := 1) (i := 1) rfl 3 rfl (htX16_tookIn_1 (158, .iload_n 1, 1) (gx_m 5 rfl)) ?_
            refine gx_Jia (pc := 159) (htX16_tookIn_1 (159, .iaload, 1) (gx_m 6 rfl)) (fun v23 => ?_)
            refine gx_icmp_gt (pc := 160) (tgt := 203) (by decide) (htX16_tookIn_1 (160, .if_icmp .gt 43, 3) (gx_m 7 rfl)) (fun c6 => ?_) (fun c6 => ?_)
            · refine gx_Jw (lv := [(0, gx_r 17 (some x0)), (1, gx_i x1)]) [2, 3] rfl ?_
              exact hj3 () trivial
            · refine gx_aload_n (pc := 163) (n := 0) (i := 0) rfl 2 rfl (htX16_tookIn_1 (163, .aload_n 0, 1) (gx_m 8 rfl)) ?_
              refine gx_iload_n (pc := 164) (n := 1) (i := 1) rfl 3 rfl (htX16_tookIn_1 (164, .iload_n 1, 1) (gx_m 9 rfl)) ?_
              refine gx_iload_n (pc := 165) (n := 3) (i := 3) rfl 1 rfl (htX16_tookIn_1 (165, .iload_n 3, 1) (gx_m 10 rfl)) ?_
              refine gx_Jcv (pc := 166) (gx_hst (as := [gx_i x1, gx_i v4]) (b := gx_r 17 (some x0))) (gx_runV (as := [gx_i x1, gx_i v4]) (ci := 16) (ct_X16_append Y x0 x1 v4) (by decide) (Or.inl rfl) rfl rfl rfl rfl q2134 q2136 qs56 q117 q2137 rfl dd_X16_append (by decide) (by decide) (Nat.le_of_ble_eq_true rfl) (htX16_tookIn_1 (166, .invokevirtual 478, 3) (gx_m 11 rfl))) ?_
              refine gx_goto (pc := 169) (tgt := 203) (by decide) (htX16_tookIn_1 (169, .goto 34, 3) (gx_m 12 rfl)) ?_
              refine gx_Jw (lv := [(0, gx_r 17 (some x0)), (1, gx_i x1)]) [2, 3] rfl ?_
              exact hj3 () trivial
        · refine gx_aload_n (pc := 172) (n := 0) (i := 0) rfl 2 rfl (htX16_tookIn_1 (172, .aload_n 0, 1) (gx_m 13 rfl)) ?_
          refine gx_Jgs (pc := 173) (ci := 16) (kk := 53) (t2 := 105) (by decide) (by decide) rfl rfl rfl q1727 (htX16_tookIn_1 (173, .getfield 148, 3) (gx_m 14 rfl)) ?_
          refine gx_iload_n (pc := 176) (n := 1) (i := 1) rfl 3 rfl (htX16_tookIn_1 (176, .iload_n 1, 1) (gx_m 15 rfl)) ?_
          refine gx_Jra (pc := 177) (t := 5) (t2 := 100) (by decide) (by decide) rfl (htX16_tookIn_1 (177, .aaload, 1) (gx_m 16 rfl)) (fun v24 => ?_)
          refine gx_iload_n (pc := 178) (n := 3) (i := 3) rfl 1 rfl (htX16_tookIn_1 (178, .iload_n 3, 1) (gx_m 17 rfl)) ?_
          refine gx_aload_n (pc := 179) (n := 0) (i := 0) rfl 2 rfl (htX16_tookIn_1 (179, .aload_n 0, 1) (gx_m 18 rfl)) ?_
          refine gx_Jgs (pc := 180) (ci := 16) (kk := 54) (t2 := 105) (by decide) (by decide) rfl rfl rfl q1728 (htX16_tookIn_1 (180, .getfield 151, 3) (gx_m 19 rfl)) ?_
          refine gx_iload_n (pc := 183) (n := 1) (i := 1) rfl 3 rfl (htX16_tookIn_1 (183, .iload_n 1, 1) (gx_m 20 rfl)) ?_
          refine gx_Jra (pc := 184) (t := 5) (t2 := 100) (by decide) (by decide) rfl (htX16_tookIn_1 (184, .aaload, 1) (gx_m 21 rfl)) (fun v25 => ?_)
          refine gx_iload_n (pc := 185) (n := 3) (i := 3) rfl 1 rfl (htX16_tookIn_1 (185, .iload_n 3, 1) (gx_m 22 rfl)) ?_
          refine gx_Jia (pc := 186) (htX16_tookIn_1 (186, .iaload, 1) (gx_m 23 rfl)) (fun v26 => ?_)
          refine gx_iconst (pc := 187) (v := 1) (by decide) (htX16_tookIn_1 (187, .iconst 1, 1) (gx_m 24 rfl)) ?_
          refine gx_iadd (pc := 188) (htX16_tookIn_1 (188, .iadd, 1) (gx_m 25 rfl)) ?_
          refine gx_iload (pc := 189) (i := 4) 0 rfl (htX16_tookIn_1 (189, .iload 4, 2) (gx_m 26 rfl)) ?_
          refine gx_iconst (pc := 191) (v := 1) (by decide) (htX16_tookIn_1 (191, .iconst 1, 1) (gx_m 27 rfl)) ?_
          refine gx_iadd (pc := 192) (htX16_tookIn_1 (192, .iadd, 1) (gx_m 28 rfl)) ?_
          refine gx_Jmax (pc := 193) rfl q2198 q2199 q128 q2200 (by decide) (Nat.le_of_ble_eq_true rfl) (htX16_tookIn_1 (193, .invokestatic 490, 3) (gx_m 29 rfl)) ?_
          refine gx_Jis (pc := 196) (htX16_tookIn_1 (196, .iastore, 1) (gx_m 30 rfl)) ?_
          refine gx_aload_n (pc := 197) (n := 0) (i := 0) rfl 2 rfl (htX16_tookIn_1 (197, .aload_n 0, 1) (gx_m 31 rfl)) ?_
          refine gx_iload_n (pc := 198) (n := 1) (i := 1) rfl 3 rfl (htX16_tookIn_1 (198, .iload_n 1, 1) (gx_m 32 rfl)) ?_
          refine gx_iload_n (pc := 199) (n := 3) (i := 3) rfl 1 rfl (htX16_tookIn_1 (199, .iload_n 3, 1) (gx_m 33 rfl)) ?_
          refine gx_Jcv (pc := 200) (gx_hst (as := [gx_i x1, gx_i v4]) (b := gx_r 17 (some x0))) (gx_runV (as := [gx_i x1, gx_i v4]) (ci := 16) (ct_X16_append Y x0 x1 v4) (by decide) (Or.inl rfl) rfl rfl rfl rfl q2134 q2136 qs56 q117 q2137 rfl dd_X16_append (by decide) (by decide) (Nat.le_of_ble_eq_true rfl) (htX16_tookIn_1 (200, .invokevirtual 478, 3) (gx_m 34 rfl))) ?_
          refine gx_Jw (lv := [(0, gx_r 17 (some x0)), (1, gx_i x1)]) [2, 3] rfl ?_
          exact hj3 () trivial
    · exact gx_Jvret (pc := 25) rfl (fun _ => trivial) (fun _ _ => rfl) (htX16_tookIn_0 (25, .return_, 1) (gx_m 15 rfl))
  · exact gx_Jvret (pc := 25) rfl (fun _ => trivial) (fun _ _ => rfl) (htX16_tookIn_0 (25, .return_, 1) (gx_m 15 rfl))
theorem ct_X16_snapshot (Y : gx_Y) (x0 : gx_Nm) (x1 : Int32) (x2 : Int32) (x3 : Int32) (x4 : Int32) : gx_Ct Y yX16_snapshot (ws_ yX16_snapshot cX16_snapshot 6 none) 2 125 [gx_r 17 (some x0), gx_i x1, gx_i x2, gx_i x3, gx_i x4] gx_Ov (f_X16_snapshot x0 x1 x2 x3 x4) := by
  refine gx_start (lv := [(0, gx_r 17 (some x0)), (1, gx_i x1), (2, gx_i x2), (3, gx_i x3), (4, gx_i x4)]) gx_Ov_r pn_X16 (Nat.le_of_ble_eq_true rfl) rfl ?_
  unfold f_X16_snapshot
  refine gx_iload_n (pc := 0) (n := 2) (i := 2) rfl 2 rfl (htX16_snapshot (0, .iload_n 2, 1) (gx_m 0 rfl)) ?_
  refine gx_aload_n (pc := 1) (n := 0) (i := 0) rfl 0 rfl (htX16_snapshot (1, .aload_n 0, 1) (gx_m 1 rfl)) ?_
  refine gx_Jgs (pc := 2) (ci := 16) (kk := 36) (t2 := 100) (by decide) (by decide) rfl rfl rfl q1710 (htX16_snapshot (2, .getfield 95, 3) (gx_m 2 rfl)) ?_
  refine gx_iload_n (pc := 5) (n := 1) (i := 1) rfl 1 rfl (htX16_snapshot (5, .iload_n 1, 1) (gx_m 3 rfl)) ?_
  refine gx_Jia (pc := 6) (htX16_snapshot (6, .iaload, 1) (gx_m 4 rfl)) (fun v1 => ?_)
  refine gx_Jjoin (pcJ := 35) (lvJ := fun (j4 : Int32) => [(0, gx_r 17 (some x0)), (1, gx_i x1), (2, gx_i x2), (3, gx_i x3), (4, gx_i x4)]) (stJ := fun (j4 : Int32) => [gx_i j4]) (fun (j4 : Int32) => j4 &&& 1 = j4) (fun j4 hj4 => ?_) (fun kk1 hj1 => ?_)
  · refine gx_istore (pc := 35) (i := 5) (lv' := [(5, gx_i j4), (0, gx_r 17 (some x0)), (1, gx_i x1), (2, gx_i x2), (3, gx_i x3), (4, gx_i x4)]) (by decide) rfl (htX16_snapshot (35, .istore 5, 2) (gx_m 21 rfl)) ?_
    refine gx_iload (pc := 37) (i := 5) 0 rfl (htX16_snapshot (37, .iload 5, 2) (gx_m 22 rfl)) ?_
    refine gx_Jjoin (pcJ := 49) (lvJ := fun (j_2 : Unit) => [(0, gx_r 17 (some x0)), (1, gx_i x1), (2, gx_i x2), (3, gx_i x3), (4, gx_i x4)]) (stJ := fun (j_2 : Unit) => []) (fun _ => True) (fun j_2 hj_2 => ?_) (fun kk2 hj2 => ?_)
    · refine gx_aload_n (pc := 49) (n := 0) (i := 0) rfl 0 rfl (htX16_snapshot (49, .aload_n 0, 1) (gx_m 29 rfl)) ?_
      refine gx_Jgs (pc := 50) (ci := 16) (kk := 33) (t2 := 100) (by decide) (by decide) rfl rfl rfl q1707 (htX16_snapshot (50, .getfield 86, 3) (gx_m 30 rfl)) ?_
      refine gx_iload_n (pc := 53) (n := 1) (i := 1) rfl 1 rfl (htX16_snapshot (53, .iload_n 1, 1) (gx_m 31 rfl)) ?_
      refine gx_iload_n (pc := 54) (n := 2) (i := 2) rfl 2 rfl (htX16_snapshot (54, .iload_n 2, 1) (gx_m 32 rfl)) ?_
      refine gx_Jis (pc := 55) (htX16_snapshot (55, .iastore, 1) (gx_m 33 rfl)) ?_
      refine gx_aload_n (pc := 56) (n := 0) (i := 0) rfl 0 rfl (htX16_snapshot (56, .aload_n 0, 1) (gx_m 34 rfl)) ?_
      refine gx_Jgs (pc := 57) (ci := 16) (kk := 34) (t2 := 100) (by decide) (by decide) rfl rfl rfl q1708 (htX16_snapshot (57, .getfield 89, 3) (gx_m 35 rfl)) ?_
      refine gx_iload_n (pc := 60) (n := 1) (i := 1) rfl 1 rfl (htX16_snapshot (60, .iload_n 1, 1) (gx_m 36 rfl)) ?_
      refine gx_iload_n (pc := 61) (n := 3) (i := 3) rfl 3 rfl (htX16_snapshot (61, .iload_n 3, 1) (gx_m 37 rfl)) ?_
      refine gx_Jis (pc := 62) (htX16_snapshot (62, .iastore, 1) (gx_m 38 rfl)) ?_
      refine gx_aload_n (pc := 63) (n := 0) (i := 0) rfl 0 rfl (htX16_snapshot (63, .aload_n 0, 1) (gx_m 39 rfl)) ?_
      refine gx_Jgs (pc := 64) (ci := 16) (kk := 35) (t2 := 100) (by decide) (by decide) rfl rfl rfl q1709 (htX16_snapshot (64, .getfield 92, 3) (gx_m 40 rfl)) ?_
      refine gx_iload_n (pc := 67) (n := 1) (i := 1) rfl 1 rfl (htX16_snapshot (67, .iload_n 1, 1) (gx_m 41 rfl)) ?_
      refine gx_iload (pc := 68) (i := 4) 4 rfl (htX16_snapshot (68, .iload 4, 2) (gx_m 42 rfl)) ?_
      refine gx_Jis (pc := 70) (htX16_snapshot (70, .iastore, 1) (gx_m 43 rfl)) ?_
      refine gx_aload_n (pc := 71) (n := 0) (i := 0) rfl 0 rfl (htX16_snapshot (71, .aload_n 0, 1) (gx_m 44 rfl)) ?_
      refine gx_iload_n (pc := 72) (n := 1) (i := 1) rfl 1 rfl (htX16_snapshot (72, .iload_n 1, 1) (gx_m 45 rfl)) ?_
      refine gx_iconst (pc := 73) (v := 2) (by decide) (htX16_snapshot (73, .iconst 2, 1) (gx_m 46 rfl)) ?_
      refine gx_iload_n (pc := 74) (n := 2) (i := 2) rfl 2 rfl (htX16_snapshot (74, .iload_n 2, 1) (gx_m 47 rfl)) ?_
      refine gx_iload_n (pc := 75) (n := 3) (i := 3) rfl 3 rfl (htX16_snapshot (75, .iload_n 3, 1) (gx_m 48 rfl)) ?_
      refine gx_iload (pc := 76) (i := 4) 4 rfl (htX16_snapshot (76, .iload 4, 2) (gx_m 49 rfl)) ?_
      refine gx_Jcv (pc := 78) (gx_hst (as := [gx_i x1, gx_i 2, gx_i x2, gx_i x3, gx_i x4]) (b := gx_r 17 (some x0))) (gx_runV (as := [gx_i x1, gx_i 2, gx_i x2, gx_i x3, gx_i x4]) (ci := 16) (ct_X16_record Y x0 x1 2 x2 x3 x4) (by decide) (Or.inl rfl) rfl rfl rfl rfl q2126 q2128 qs54 q117 q2129 rfl dd_X16_record (by decide) (by decide) (Nat.le_of_ble_eq_true rfl) (htX16_snapshot (78, .invokevirtual 458, 3) (gx_m 50 rfl))) ?_
      exact gx_Jvret (pc := 81) rfl (fun _ => trivial) (fun _ _ => rfl) (htX16_snapshot (81, .return_, 1) (gx_m 51 rfl))
    · refine gx_if_ne (pc := 39) (y := 0) (tgt := 49) (by decide) (htX16_snapshot (39, .ifCond .ne 10, 3) (gx_m 23 rfl)) (fun c3 => ?_) (fun c3 => ?_)
      · refine gx_aload_n (pc := 42) (n := 0) (i := 0) rfl 1 rfl (htX16_snapshot (42, .aload_n 0, 1) (gx_m 24 rfl)) ?_
        refine gx_Jgs (pc := 43) (ci := 16) (kk := 36) (t2 := 100) (by decide) (by decide) rfl rfl rfl q1710 (htX16_snapshot (43, .getfield 95, 3) (gx_m 25 rfl)) ?_
        refine gx_iload_n (pc := 46) (n := 1) (i := 1) rfl 2 rfl (htX16_snapshot (46, .iload_n 1, 1) (gx_m 26 rfl)) ?_
        refine gx_iload_n (pc := 47) (n := 2) (i := 2) rfl 3 rfl (htX16_snapshot (47, .iload_n 2, 1) (gx_m 27 rfl)) ?_
        refine gx_Jis (pc := 48) (htX16_snapshot (48, .iastore, 1) (gx_m 28 rfl)) ?_
        refine gx_Jw (lv := [(0, gx_r 17 (some x0)), (1, gx_i x1), (2, gx_i x2), (3, gx_i x3), (4, gx_i x4)]) [1, 2, 3, 4, 5] rfl ?_
        exact hj2 () trivial
      · refine gx_Jw (lv := [(0, gx_r 17 (some x0)), (1, gx_i x1), (2, gx_i x2), (3, gx_i x3), (4, gx_i x4)]) [1, 2, 3, 4, 5] rfl ?_
        exact hj2 () trivial
  · refine gx_icmp_gt (pc := 7) (tgt := 34) (by decide) (htX16_snapshot (7, .if_icmp .gt 27, 3) (gx_m 5 rfl)) (fun c4 => ?_) (fun c4 => ?_)
    · refine gx_iconst (pc := 34) (v := 0) (by decide) (htX16_snapshot (34, .iconst 0, 1) (gx_m 20 rfl)) ?_
      exact hj1 (0 : Int32) gx_b0
    · refine gx_iload_n (pc := 10) (n := 2) (i := 2) rfl 2 rfl (htX16_snapshot (10, .iload_n 2, 1) (gx_m 6 rfl)) ?_
      refine gx_aload_n (pc := 11) (n := 0) (i := 0) rfl 0 rfl (htX16_snapshot (11, .aload_n 0, 1) (gx_m 7 rfl)) ?_
      refine gx_Jgs (pc := 12) (ci := 16) (kk := 33) (t2 := 100) (by decide) (by decide) rfl rfl rfl q1707 (htX16_snapshot (12, .getfield 86, 3) (gx_m 8 rfl)) ?_
      refine gx_iload_n (pc := 15) (n := 1) (i := 1) rfl 1 rfl (htX16_snapshot (15, .iload_n 1, 1) (gx_m 9 rfl)) ?_
      refine gx_Jia (pc := 16) (htX16_snapshot (16, .iaload, 1) (gx_m 10 rfl)) (fun v2 => ?_)
      refine gx_icmp_lt (pc := 17) (tgt := 34) (by decide) (htX16_snapshot (17, .if_icmp .lt 17, 3) (gx_m 11 rfl)) (fun c5 => ?_) (fun c5 => ?_)
      · refine gx_iconst (pc := 34) (v := 0) (by decide) (htX16_snapshot (34, .iconst 0, 1) (gx_m 20 rfl)) ?_
        exact hj1 (0 : Int32) gx_b0
      · refine gx_aload_n (pc := 20) (n := 0) (i := 0) rfl 0 rfl (htX16_snapshot (20, .aload_n 0, 1) (gx_m 12 rfl)) ?_
        refine gx_iload_n (pc := 21) (n := 1) (i := 1) rfl 1 rfl (htX16_snapshot (21, .iload_n 1, 1) (gx_m 13 rfl)) ?_
        refine gx_iload_n (pc := 22) (n := 2) (i := 2) rfl 2 rfl (htX16_snapshot (22, .iload_n 2, 1) (gx_m 14 rfl)) ?_
        refine gx_Jci (pc := 23) (gx_hst (as := [gx_i x1, gx_i x2]) (b := gx_r 17 (some x0))) (gx_runV (as := [gx_i x1, gx_i x2]) (ci := 16) (ct_X16_termAt Y x0 x1 x2) (by decide) (Or.inl rfl) rfl rfl rfl rfl q2150 q2152 qs60 q117 q2153 rfl dd_X16_termAt (by decide) (by decide) (Nat.le_of_ble_eq_true rfl) (htX16_snapshot (23, .invokevirtual 461, 3) (gx_m 15 rfl))) (fun v3 => ?_)
        refine gx_iload_n (pc := 26) (n := 3) (i := 3) rfl 3 rfl (htX16_snapshot (26, .iload_n 3, 1) (gx_m 16 rfl)) ?_
        refine gx_icmp_ne (pc := 27) (tgt := 34) (by decide) (htX16_snapshot (27, .if_icmp .ne 7, 3) (gx_m 17 rfl)) (fun c6 => ?_) (fun c6 => ?_)
        · refine gx_iconst (pc := 30) (v := 1) (by decide) (htX16_snapshot (30, .iconst 1, 1) (gx_m 18 rfl)) ?_
          refine gx_goto (pc := 31) (tgt := 35) (by decide) (htX16_snapshot (31, .goto 4, 3) (gx_m 19 rfl)) ?_
          exact hj1 (1 : Int32) gx_b1
        · refine gx_iconst (pc := 34) (v := 0) (by decide) (htX16_snapshot (34, .iconst 0, 1) (gx_m 20 rfl)) ?_
          exact hj1 (0 : Int32) gx_b0
theorem ct_X16_stated (Y : gx_Y) (x0 : gx_Nm) (x1 : Int32) (x2 : Int32) : gx_Ct Y yX16_stated (ws_ yX16_stated cX16_stated 5 none) 4 170 [gx_r 17 (some x0), gx_i x1, gx_i x2] gx_Ov (f_X16_stated x0 x1 x2) := by
  refine gx_start (lv := [(0, gx_r 17 (some x0)), (1, gx_i x1), (2, gx_i x2)]) gx_Ov_r pn_X16 (Nat.le_of_ble_eq_true rfl) rfl ?_
  unfold f_X16_stated
  refine gx_aload_n (pc := 0) (n := 0) (i := 0) rfl 0 rfl (htX16_stated (0, .aload_n 0, 1) (gx_m 0 rfl)) ?_
  refine gx_Jgs (pc := 1) (ci := 16) (kk := 65) (t2 := 100) (by decide) (by decide) rfl rfl rfl q1739 (htX16_stated (1, .getfield 184, 3) (gx_m 1 rfl)) ?_
  refine gx_iload_n (pc := 4) (n := 2) (i := 2) rfl 2 rfl (htX16_stated (4, .iload_n 2, 1) (gx_m 2 rfl)) ?_
  refine gx_Jia (pc := 5) (htX16_stated (5, .iaload, 1) (gx_m 3 rfl)) (fun v1 => ?_)
  refine gx_istore_n (pc := 6) (n := 3) (i := 3) (lv' := [(3, gx_i v1), (0, gx_r 17 (some x0)), (1, gx_i x1), (2, gx_i x2)]) rfl (by decide) rfl (htX16_stated (6, .istore_n 3, 1) (gx_m 4 rfl)) ?_
  refine gx_aload_n (pc := 7) (n := 0) (i := 0) rfl 1 rfl (htX16_stated (7, .aload_n 0, 1) (gx_m 5 rfl)) ?_
  refine gx_Jgs (pc := 8) (ci := 16) (kk := 67) (t2 := 100) (by decide) (by decide) rfl rfl rfl q1741 (htX16_stated (8, .getfield 190, 3) (gx_m 6 rfl)) ?_
  refine gx_iload_n (pc := 11) (n := 2) (i := 2) rfl 3 rfl (htX16_stated (11, .iload_n 2, 1) (gx_m 7 rfl)) ?_
  refine gx_Jia (pc := 12) (htX16_stated (12, .iaload, 1) (gx_m 8 rfl)) (fun v2 => ?_)
  refine gx_aload_n (pc := 13) (n := 0) (i := 0) rfl 1 rfl (htX16_stated (13, .aload_n 0, 1) (gx_m 9 rfl)) ?_
  refine gx_Jgs (pc := 14) (ci := 16) (kk := 31) (t2 := 100) (by decide) (by decide) rfl rfl rfl q1705 (htX16_stated (14, .getfield 80, 3) (gx_m 10 rfl)) ?_
  refine gx_iload_n (pc := 17) (n := 1) (i := 1) rfl 2 rfl (htX16_stated (17, .iload_n 1, 1) (gx_m 11 rfl)) ?_
  refine gx_Jia (pc := 18) (htX16_stated (18, .iaload, 1) (gx_m 12 rfl)) (fun v3 => ?_)
  refine gx_icmp_ge (pc := 19) (tgt := 32) (by decide) (htX16_stated (19, .if_icmp .ge 13, 3) (gx_m 13 rfl)) (fun c1 => ?_) (fun c1 => ?_)
  · refine gx_aload_n (pc := 32) (n := 0) (i := 0) rfl 1 rfl (htX16_stated (32, .aload_n 0, 1) (gx_m 22 rfl)) ?_
    refine gx_iload_n (pc := 33) (n := 1) (i := 1) rfl 2 rfl (htX16_stated (33, .iload_n 1, 1) (gx_m 23 rfl)) ?_
    refine gx_iconst (pc := 34) (v := 0) (by decide) (htX16_stated (34, .iconst 0, 1) (gx_m 24 rfl)) ?_
    refine gx_Jcv (pc := 35) (gx_hst (as := [gx_i x1, gx_i 0]) (b := gx_r 17 (some x0))) (gx_runV (as := [gx_i x1, gx_i 0]) (ci := 16) (ct_X16_leave Y x0 x1 0) (by decide) (Or.inl rfl) rfl rfl rfl rfl q2205 q2207 qs69 q117 q2208 rfl dd_X16_leave (by decide) (by decide) (Nat.le_of_ble_eq_true rfl) (htX16_stated (35, .invokevirtual 484, 3) (gx_m 25 rfl))) ?_
    refine gx_aload_n (pc := 38) (n := 0) (i := 0) rfl 1 rfl (htX16_stated (38, .aload_n 0, 1) (gx_m 26 rfl)) ?_
    refine gx_Jgs (pc := 39) (ci := 16) (kk := 46) (t2 := 100) (by decide) (by decide) rfl rfl rfl q1720 (htX16_stated (39, .getfield 127, 3) (gx_m 27 rfl)) ?_
    refine gx_iload_n (pc := 42) (n := 1) (i := 1) rfl 2 rfl (htX16_stated (42, .iload_n 1, 1) (gx_m 28 rfl)) ?_
    refine gx_iload_n (pc := 43) (n := 3) (i := 3) rfl 0 rfl (htX16_stated (43, .iload_n 3, 1) (gx_m 29 rfl)) ?_
    refine gx_Jis (pc := 44) (htX16_stated (44, .iastore, 1) (gx_m 30 rfl)) ?_
    refine gx_aload_n (pc := 45) (n := 0) (i := 0) rfl 1 rfl (htX16_stated (45, .aload_n 0, 1) (gx_m 31 rfl)) ?_
    refine gx_Jgs (pc := 46) (ci := 16) (kk := 68) (t2 := 100) (by decide) (by decide) rfl rfl rfl q1742 (htX16_stated (46, .getfield 193, 3) (gx_m 32 rfl)) ?_
    refine gx_iload_n (pc := 49) (n := 2) (i := 2) rfl 3 rfl (htX16_stated (49, .iload_n 2, 1) (gx_m 33 rfl)) ?_
    refine gx_Jia (pc := 50) (htX16_stated (50, .iaload, 1) (gx_m 34 rfl)) (fun v4 => ?_)
    refine gx_istore (pc := 51) (i := 4) (lv' := [(4, gx_i v4), (3, gx_i v1), (0, gx_r 17 (some x0)), (1, gx_i x1), (2, gx_i x2)]) (by decide) rfl (htX16_stated (51, .istore 4, 2) (gx_m 35 rfl)) ?_
    refine gx_iload (pc := 53) (i := 4) 0 rfl (htX16_stated (53, .iload 4, 2) (gx_m 36 rfl)) ?_
    refine gx_aload_n (pc := 55) (n := 0) (i := 0) rfl 2 rfl (htX16_stated (55, .aload_n 0, 1) (gx_m 37 rfl)) ?_
    refine gx_Jgs (pc := 56) (ci := 16) (kk := 47) (t2 := 100) (by decide) (by decide) rfl rfl rfl q1721 (htX16_stated (56, .getfield 130, 3) (gx_m 38 rfl)) ?_
    refine gx_iload_n (pc := 59) (n := 1) (i := 1) rfl 3 rfl (htX16_stated (59, .iload_n 1, 1) (gx_m 39 rfl)) ?_
    refine gx_Jia (pc := 60) (htX16_stated (60, .iaload, 1) (gx_m 40 rfl)) (fun v5 => ?_)
    refine gx_Jjoin (pcJ := 131) (lvJ := fun (j_2 : Unit) => [(0, gx_r 17 (some x0)), (1, gx_i x1), (2, gx_i x2), (3, gx_i v1), (4, gx_i v4)]) (stJ := fun (j_2 : Unit) => []) (fun _ => True) (fun j_2 hj_2 => ?_) (fun kk2 hj2 => ?_)
    · refine gx_aload_n (pc := 131) (n := 0) (i := 0) rfl 0 rfl (htX16_stated (131, .aload_n 0, 1) (gx_m 83 rfl)) ?_
      refine gx_iload_n (pc := 132) (n := 1) (i := 1) rfl 1 rfl (htX16_stated (132, .iload_n 1, 1) (gx_m 84 rfl)) ?_
      refine gx_iload_n (pc := 133) (n := 3) (i := 3) rfl 3 rfl (htX16_stated (133, .iload_n 3, 1) (gx_m 85 rfl)) ?_
      refine gx_iconst (pc := 134) (v := 1) (by decide) (htX16_stated (134, .iconst 1, 1) (gx_m 86 rfl)) ?_
      refine gx_iload (pc := 135) (i := 4) 4 rfl (htX16_stated (135, .iload 4, 2) (gx_m 87 rfl)) ?_
      refine gx_aload_n (pc := 137) (n := 0) (i := 0) rfl 0 rfl (htX16_stated (137, .aload_n 0, 1) (gx_m 88 rfl)) ?_
      refine gx_Jgs (pc := 138) (ci := 16) (kk := 71) (t2 := 100) (by decide) (by decide) rfl rfl rfl q1745 (htX16_stated (138, .getfield 202, 3) (gx_m 89 rfl)) ?_
      refine gx_iload_n (pc := 141) (n := 2) (i := 2) rfl 2 rfl (htX16_stated (141, .iload_n 2, 1) (gx_m 90 rfl)) ?_
      refine gx_Jia (pc := 142) (htX16_stated (142, .iaload, 1) (gx_m 91 rfl)) (fun v10 => ?_)
      refine gx_Jcv (pc := 143) (gx_hst (as := [gx_i x1, gx_i v1, gx_i 1, gx_i v4, gx_i v10]) (b := gx_r 17 (some x0))) (gx_runV (as := [gx_i x1, gx_i v1, gx_i 1, gx_i v4, gx_i v10]) (ci := 16) (ct_X16_taken_2 Y x0 x1 v1 1 v4 v10) (by decide) (Or.inl rfl) rfl rfl rfl rfl q2241 q2243 qs76 q117 q2244 rfl dd_X16_taken_2 (by decide) (by decide) (Nat.le_of_ble_eq_true rfl) (htX16_stated (143, .invokevirtual 510, 3) (gx_m 92 rfl))) ?_
      exact gx_Jvret (pc := 146) rfl (fun _ => trivial) (fun _ _ => rfl) (htX16_stated (146, .return_, 1) (gx_m 93 rfl))
    · refine gx_icmp_le (pc := 61) (tgt := 131) (by decide) (htX16_stated (61, .if_icmp .le 70, 3) (gx_m 41 rfl)) (fun c3 => ?_) (fun c3 => ?_)
      · refine gx_Jw (lv := [(0, gx_r 17 (some x0)), (1, gx_i x1), (2, gx_i x2), (3, gx_i v1), (4, gx_i v4)]) [2, 3, 4, 1, 0] rfl ?_
        exact hj2 () trivial
      · refine gx_aload_n (pc := 64) (n := 0) (i := 0) rfl 2 rfl (htX16_stated (64, .aload_n 0, 1) (gx_m 42 rfl)) ?_
        refine gx_iload_n (pc := 65) (n := 1) (i := 1) rfl 3 rfl (htX16_stated (65, .iload_n 1, 1) (gx_m 43 rfl)) ?_
        refine gx_iload (pc := 66) (i := 4) 0 rfl (htX16_stated (66, .iload 4, 2) (gx_m 44 rfl)) ?_
        refine gx_aload_n (pc := 68) (n := 0) (i := 0) rfl 2 rfl (htX16_stated (68, .aload_n 0, 1) (gx_m 45 rfl)) ?_
        refine gx_Jgs (pc := 69) (ci := 16) (kk := 69) (t2 := 100) (by decide) (by decide) rfl rfl rfl q1743 (htX16_stated (69, .getfield 196, 3) (gx_m 46 rfl)) ?_
        refine gx_iload_n (pc := 72) (n := 2) (i := 2) rfl 4 rfl (htX16_stated (72, .iload_n 2, 1) (gx_m 47 rfl)) ?_
        refine gx_Jia (pc := 73) (htX16_stated (73, .iaload, 1) (gx_m 48 rfl)) (fun v6 => ?_)
        refine gx_aload_n (pc := 74) (n := 0) (i := 0) rfl 2 rfl (htX16_stated (74, .aload_n 0, 1) (gx_m 49 rfl)) ?_
        refine gx_Jgs (pc := 75) (ci := 16) (kk := 73) (t2 := 100) (by decide) (by decide) rfl rfl rfl q1747 (htX16_stated (75, .getfield 208, 3) (gx_m 50 rfl)) ?_
        refine gx_iload_n (pc := 78) (n := 2) (i := 2) rfl 4 rfl (htX16_stated (78, .iload_n 2, 1) (gx_m 51 rfl)) ?_
        refine gx_Jia (pc := 79) (htX16_stated (79, .iaload, 1) (gx_m 52 rfl)) (fun v7 => ?_)
        refine gx_Jcv (pc := 80) (gx_hst (as := [gx_i x1, gx_i v4, gx_i v6, gx_i v7]) (b := gx_r 17 (some x0))) (gx_runV (as := [gx_i x1, gx_i v4, gx_i v6, gx_i v7]) (ci := 16) (ct_X16_snapshot Y x0 x1 v4 v6 v7) (by decide) (Or.inl rfl) rfl rfl rfl rfl q2315 q2317 qs93 q117 q2318 rfl dd_X16_snapshot (by decide) (by decide) (Nat.le_of_ble_eq_true rfl) (htX16_stated (80, .invokevirtual 528, 3) (gx_m 53 rfl))) ?_
        refine gx_aload_n (pc := 83) (n := 0) (i := 0) rfl 2 rfl (htX16_stated (83, .aload_n 0, 1) (gx_m 54 rfl)) ?_
        refine gx_Jgs (pc := 84) (ci := 16) (kk := 47) (t2 := 100) (by decide) (by decide) rfl rfl rfl q1721 (htX16_stated (84, .getfield 130, 3) (gx_m 55 rfl)) ?_
        refine gx_iload_n (pc := 87) (n := 1) (i := 1) rfl 3 rfl (htX16_stated (87, .iload_n 1, 1) (gx_m 56 rfl)) ?_
        refine gx_iload (pc := 88) (i := 4) 0 rfl (htX16_stated (88, .iload 4, 2) (gx_m 57 rfl)) ?_
        refine gx_Jis (pc := 90) (htX16_stated (90, .iastore, 1) (gx_m 58 rfl)) ?_
        refine gx_aload_n (pc := 91) (n := 0) (i := 0) rfl 2 rfl (htX16_stated (91, .aload_n 0, 1) (gx_m 59 rfl)) ?_
        refine gx_aload_n (pc := 92) (n := 0) (i := 0) rfl 2 rfl (htX16_stated (92, .aload_n 0, 1) (gx_m 60 rfl)) ?_
        refine gx_Jgi (pc := 93) (ci := 16) (kk := 115) (by decide) (Or.inl rfl) (by decide) (by decide) q1789 (htX16_stated (93, .getfield 345, 3) (gx_m 61 rfl)) (fun v8 hv8 => ?_)
        refine gx_iload (pc := 96) (i := 4) 0 rfl (htX16_stated (96, .iload 4, 2) (gx_m 62 rfl)) ?_
        refine gx_Jmax (pc := 98) rfl q2198 q2199 q128 q2200 (by decide) (Nat.le_of_ble_eq_true rfl) (htX16_stated (98, .invokestatic 490, 3) (gx_m 63 rfl)) ?_
        refine gx_Jpi (pc := 101) (ci := 16) (kk := 115) (by decide) (Or.inl rfl) (by decide) rfl rfl q1789 (Or.inl rfl) (htX16_stated (101, .putfield 345, 3) (gx_m 64 rfl)) ?_
        refine gx_aload_n (pc := 104) (n := 0) (i := 0) rfl 2 rfl (htX16_stated (104, .aload_n 0, 1) (gx_m 65 rfl)) ?_
        refine gx_Jgs (pc := 105) (ci := 16) (kk := 48) (t2 := 100) (by decide) (by decide) rfl rfl rfl q1722 (htX16_stated (105, .getfield 133, 3) (gx_m 66 rfl)) ?_
        refine gx_iload_n (pc := 108) (n := 1) (i := 1) rfl 3 rfl (htX16_stated (108, .iload_n 1, 1) (gx_m 67 rfl)) ?_
        refine gx_aload_n (pc := 109) (n := 0) (i := 0) rfl 2 rfl (htX16_stated (109, .aload_n 0, 1) (gx_m 68 rfl)) ?_
        refine gx_Jgs (pc := 110) (ci := 16) (kk := 73) (t2 := 100) (by decide) (by decide) rfl rfl rfl q1747 (htX16_stated (110, .getfield 208, 3) (gx_m 69 rfl)) ?_
        refine gx_iload_n (pc := 113) (n := 2) (i := 2) rfl 4 rfl (htX16_stated (113, .iload_n 2, 1) (gx_m 70 rfl)) ?_
        refine gx_Jia (pc := 114) (htX16_stated (114, .iaload, 1) (gx_m 71 rfl)) (fun v9 => ?_)
        refine gx_Jis (pc := 115) (htX16_stated (115, .iastore, 1) (gx_m 72 rfl)) ?_
        refine gx_aload_n (pc := 116) (n := 0) (i := 0) rfl 2 rfl (htX16_stated (116, .aload_n 0, 1) (gx_m 73 rfl)) ?_
        refine gx_Jgs (pc := 117) (ci := 16) (kk := 49) (t2 := 100) (by decide) (by decide) rfl rfl rfl q1723 (htX16_stated (117, .getfield 136, 3) (gx_m 74 rfl)) ?_
        refine gx_iload_n (pc := 120) (n := 1) (i := 1) rfl 3 rfl (htX16_stated (120, .iload_n 1, 1) (gx_m 75 rfl)) ?_
        refine gx_iload (pc := 121) (i := 4) 0 rfl (htX16_stated (121, .iload 4, 2) (gx_m 76 rfl)) ?_
        refine gx_Jis (pc := 123) (htX16_stated (123, .iastore, 1) (gx_m 77 rfl)) ?_
        refine gx_aload_n (pc := 124) (n := 0) (i := 0) rfl 2 rfl (htX16_stated (124, .aload_n 0, 1) (gx_m 78 rfl)) ?_
        refine gx_Jgs (pc := 125) (ci := 16) (kk := 50) (t2 := 100) (by decide) (by decide) rfl rfl rfl q1724 (htX16_stated (125, .getfield 139, 3) (gx_m 79 rfl)) ?_
        refine gx_iload_n (pc := 128) (n := 1) (i := 1) rfl 3 rfl (htX16_stated (128, .iload_n 1, 1) (gx_m 80 rfl)) ?_
        refine gx_iconst (pc := 129) (v := 0) (by decide) (htX16_stated (129, .iconst 0, 1) (gx_m 81 rfl)) ?_
        refine gx_Jis (pc := 130) (htX16_stated (130, .iastore, 1) (gx_m 82 rfl)) ?_
        refine gx_Jw (lv := [(0, gx_r 17 (some x0)), (1, gx_i x1), (2, gx_i x2), (3, gx_i v1), (4, gx_i v4)]) [2, 3, 4, 1, 0] rfl ?_
        exact hj2 () trivial
  · refine gx_aload_n (pc := 22) (n := 0) (i := 0) rfl 1 rfl (htX16_stated (22, .aload_n 0, 1) (gx_m 14 rfl)) ?_
    refine gx_iload_n (pc := 23) (n := 1) (i := 1) rfl 2 rfl (htX16_stated (23, .iload_n 1, 1) (gx_m 15 rfl)) ?_
    refine gx_iload_n (pc := 24) (n := 3) (i := 3) rfl 0 rfl (htX16_stated (24, .iload_n 3, 1) (gx_m 16 rfl)) ?_
    refine gx_iconst (pc := 25) (v := 0) (by decide) (htX16_stated (25, .iconst 0, 1) (gx_m 17 rfl)) ?_
    refine gx_iconst (pc := 26) (v := 0) (by decide) (htX16_stated (26, .iconst 0, 1) (gx_m 18 rfl)) ?_
    refine gx_iconst (pc := 27) (v := 0) (by decide) (htX16_stated (27, .iconst 0, 1) (gx_m 19 rfl)) ?_
    refine gx_Jcv (pc := 28) (gx_hst (as := [gx_i x1, gx_i v1, gx_i 0, gx_i 0, gx_i 0]) (b := gx_r 17 (some x0))) (gx_runV (as := [gx_i x1, gx_i v1, gx_i 0, gx_i 0, gx_i 0]) (ci := 16) (ct_X16_taken_2 Y x0 x1 v1 0 0 0) (by decide) (Or.inl rfl) rfl rfl rfl rfl q2241 q2243 qs76 q117 q2244 rfl dd_X16_taken_2 (by decide) (by decide) (Nat.le_of_ble_eq_true rfl) (htX16_stated (28, .invokevirtual 510, 3) (gx_m 20 rfl))) ?_
    exact gx_Jvret (pc := 31) rfl (fun _ => trivial) (fun _ _ => rfl) (htX16_stated (31, .return_, 1) (gx_m 21 rfl))
theorem ct_X16_deliver (Y : gx_Y) (x0 : gx_Nm) (x1 : Int32) (x2 : Int32) : gx_Ct Y yX16_deliver (ws_ yX16_deliver cX16_deliver 6 none) 10 321 [gx_r 17 (some x0), gx_i x1, gx_i x2] gx_Ov (f_X16_deliver x0 x1 x2) := by
  refine gx_start (lv := [(0, gx_r 17 (some x0)), (1, gx_i x1), (2, gx_i x2)]) gx_Ov_r pn_X16 (Nat.le_of_ble_eq_true rfl) rfl ?_
  unfold f_X16_deliver
  refine gx_aload_n (pc := 0) (n := 0) (i := 0) rfl 0 rfl (htX16_deliver_0 (0, .aload_n 0, 1) (gx_m 0 rfl)) ?_
  refine gx_iload_n (pc := 1) (n := 1) (i := 1) rfl 1 rfl (htX16_deliver_0 (1, .iload_n 1, 1) (gx_m 1 rfl)) ?_
  refine gx_Jjoin (pcJ := 18) (lvJ := fun (j2 : Int32) => [(0, gx_r 17 (some x0)), (1, gx_i x1), (2, gx_i x2)]) (stJ := fun (j2 : Int32) => [gx_i j2, gx_r 17 (some x0)]) (fun (j2 : Int32) => j2 &&& 1 = j2) (fun j2 hj2 => ?_) (fun kk1 hj1 => ?_)
  · refine gx_Jpi (pc := 18) (ci := 16) (kk := 0) (by decide) (Or.inl rfl) (by decide) rfl rfl q1674 (Or.inl rfl) (htX16_deliver_0 (18, .putfield 312, 3) (gx_m 10 rfl)) ?_
    refine gx_aload_n (pc := 21) (n := 0) (i := 0) rfl 0 rfl (htX16_deliver_0 (21, .aload_n 0, 1) (gx_m 11 rfl)) ?_
    refine gx_Jgi (pc := 22) (ci := 16) (kk := 0) (by decide) (Or.inl rfl) (by decide) (by decide) q1674 (htX16_deliver_0 (22, .getfield 312, 3) (gx_m 12 rfl)) (fun v3 hv3 => ?_)
    refine gx_if_eq (pc := 25) (y := 0) (tgt := 29) (by decide) (htX16_deliver_0 (25, .ifCond .eq 4, 3) (gx_m 13 rfl)) (fun c2 => ?_) (fun c2 => ?_)
    · refine gx_aload_n (pc := 29) (n := 0) (i := 0) rfl 0 rfl (htX16_deliver_0 (29, .aload_n 0, 1) (gx_m 15 rfl)) ?_
      refine gx_Jgs (pc := 30) (ci := 16) (kk := 77) (t2 := 100) (by decide) (by decide) rfl rfl rfl q1751 (htX16_deliver_0 (30, .getfield 215, 3) (gx_m 16 rfl)) ?_
      refine gx_iload_n (pc := 33) (n := 1) (i := 1) rfl 1 rfl (htX16_deliver_0 (33, .iload_n 1, 1) (gx_m 17 rfl)) ?_
      refine gx_Jia (pc := 34) (htX16_deliver_0 (34, .iaload, 1) (gx_m 18 rfl)) (fun v4 => ?_)
      refine gx_istore_n (pc := 35) (n := 3) (i := 3) (lv' := [(3, gx_i v4), (0, gx_r 17 (some x0)), (1, gx_i x1), (2, gx_i x2)]) rfl (by decide) rfl (htX16_deliver_0 (35, .istore_n 3, 1) (gx_m 19 rfl)) ?_
      refine gx_aload_n (pc := 36) (n := 0) (i := 0) rfl 1 rfl (htX16_deliver_0 (36, .aload_n 0, 1) (gx_m 20 rfl)) ?_
      refine gx_Jgs (pc := 37) (ci := 16) (kk := 66) (t2 := 100) (by decide) (by decide) rfl rfl rfl q1740 (htX16_deliver_0 (37, .getfield 187, 3) (gx_m 21 rfl)) ?_
      refine gx_iload_n (pc := 40) (n := 3) (i := 3) rfl 0 rfl (htX16_deliver_0 (40, .iload_n 3, 1) (gx_m 22 rfl)) ?_
      refine gx_Jia (pc := 41) (htX16_deliver_0 (41, .iaload, 1) (gx_m 23 rfl)) (fun v5 => ?_)
      refine gx_istore (pc := 42) (i := 4) (lv' := [(4, gx_i v5), (3, gx_i v4), (0, gx_r 17 (some x0)), (1, gx_i x1), (2, gx_i x2)]) (by decide) rfl (htX16_deliver_0 (42, .istore 4, 2) (gx_m 24 rfl)) ?_
      refine gx_aload_n (pc := 44) (n := 0) (i := 0) rfl 2 rfl (htX16_deliver_0 (44, .aload_n 0, 1) (gx_m 25 rfl)) ?_
      refine gx_Jgs (pc := 45) (ci := 16) (kk := 64) (t2 := 100) (by decide) (by decide) rfl rfl rfl q1738 (htX16_deliver_0 (45, .getfield 181, 3) (gx_m 26 rfl)) ?_
      refine gx_iload_n (pc := 48) (n := 3) (i := 3) rfl 1 rfl (htX16_deliver_0 (48, .iload_n 3, 1) (gx_m 27 rfl)) ?_
      refine gx_Jia (pc := 49) (htX16_deliver_0 (49, .iaload, 1) (gx_m 28 rfl)) (fun v6 => ?_)
      refine gx_iconst (pc := 50) (v := 2) (by decide) (htX16_deliver_0 (50, .iconst 2, 1) (gx_m 29 rfl)) ?_
      refine gx_Jjoin (pcJ := 144) (lvJ := fun (j18 : Int32) => [(0, gx_r 17 (some x0)), (1, gx_i x1), (2, gx_i x2), (3, gx_i v4), (4, gx_i v5)]) (stJ := fun (j18 : Int32) => [gx_i j18]) (fun (j18 : Int32) => j18 &&& 1 = j18) (fun j18 hj18 => ?_) (fun kk3 hj3 => ?_)
      · refine gx_istore (pc := 144) (i := 5) (lv' := [(5, gx_i j18), (0, gx_r 17 (some x0)), (1, gx_i x1), (2, gx_i x2), (3, gx_i v4), (4, gx_i v5)]) (by decide) rfl (htX16_deliver_0 (144, .istore 5, 2) (gx_m 82 rfl)) ?_
        refine gx_iload (pc := 146) (i := 5) 0 rfl (htX16_deliver_0 (146, .iload 5, 2) (gx_m 83 rfl)) ?_
        refine gx_Jcond (pcT := 161) (pcE := 167) (lv2 := [(5, gx_i j18), (0, gx_r 17 (some x0)), (1, gx_i x1), (2, gx_i x2), (3, gx_i v4), (4, gx_i v5)]) (st2 := []) ?_ ?_ (fun kk4 hT4 hE4 => ?_)
        · refine gx_aload_n (pc := 161) (n := 0) (i := 0) rfl 1 rfl (htX16_deliver_0 (161, .aload_n 0, 1) (gx_m 89 rfl)) ?_
          refine gx_iconst (pc := 162) (v := 2) (by decide) (htX16_deliver_0 (162, .iconst 2, 1) (gx_m 90 rfl)) ?_
          refine gx_Jpi (pc := 163) (ci := 16) (kk := 0) (by decide) (Or.inl rfl) (by decide) rfl rfl q1674 (Or.inl rfl) (htX16_deliver_0 (163, .putfield 312, 3) (gx_m 91 rfl)) ?_
          exact gx_Jvret (pc := 166) rfl (fun _ => trivial) (fun _ _ => rfl) (htX16_deliver_0 (166, .return_, 1) (gx_m 92 rfl))
        · refine gx_iload_n (pc := 167) (n := 2) (i := 2) rfl 3 rfl (htX16_deliver_0 (167, .iload_n 2, 1) (gx_m 93 rfl)) ?_
          refine gx_Jjoin (pcJ := 176) (lvJ := fun (j_5 : Unit) => [(0, gx_r 17 (some x0)), (3, gx_i v4), (4, gx_i v5)]) (stJ := fun (j_5 : Unit) => []) (fun _ => True) (fun j_5 hj_5 => ?_) (fun kk5 hj5 => ?_)
          · refine gx_aload_n (pc := 176) (n := 0) (i := 0) rfl 0 rfl (htX16_deliver_0 (176, .aload_n 0, 1) (gx_m 98 rfl)) ?_
            refine gx_Jgs (pc := 177) (ci := 16) (kk := 30) (t2 := 102) (by decide) (by decide) rfl rfl rfl q1704 (htX16_deliver_0 (177, .getfield 76, 3) (gx_m 99 rfl)) ?_
            refine gx_iload (pc := 180) (i := 4) 2 rfl (htX16_deliver_1 (180, .iload 4, 2) (gx_m 0 rfl)) ?_
            refine gx_Jza (pc := 182) (htX16_deliver_1 (182, .baload, 1) (gx_m 1 rfl)) (fun v21 => ?_)
            refine gx_if_eq (pc := 183) (y := 0) (tgt := 187) (by decide) (htX16_deliver_1 (183, .ifCond .eq 4, 3) (gx_m 2 rfl)) (fun c6 => ?_) (fun c6 => ?_)
            · refine gx_aload_n (pc := 187) (n := 0) (i := 0) rfl 0 rfl (htX16_deliver_1 (187, .aload_n 0, 1) (gx_m 4 rfl)) ?_
              refine gx_Jgs (pc := 188) (ci := 16) (kk := 67) (t2 := 100) (by decide) (by decide) rfl rfl rfl q1741 (htX16_deliver_1 (188, .getfield 190, 3) (gx_m 5 rfl)) ?_
              refine gx_iload_n (pc := 191) (n := 3) (i := 3) rfl 1 rfl (htX16_deliver_1 (191, .iload_n 3, 1) (gx_m 6 rfl)) ?_
              refine gx_Jia (pc := 192) (htX16_deliver_1 (192, .iaload, 1) (gx_m 7 rfl)) (fun v22 => ?_)
              refine gx_aload_n (pc := 193) (n := 0) (i := 0) rfl 0 rfl (htX16_deliver_1 (193, .aload_n 0, 1) (gx_m 8 rfl)) ?_
              refine gx_Jgs (pc := 194) (ci := 16) (kk := 31) (t2 := 100) (by decide) (by decide) rfl rfl rfl q1705 (htX16_deliver_1 (194, .getfield 80, 3) (gx_m 9 rfl)) ?_
              refine gx_iload (pc := 197) (i := 4) 2 rfl (htX16_deliver_1 (197, .iload 4, 2) (gx_m 10 rfl)) ?_
              refine gx_Jia (pc := 199) (htX16_deliver_1 (199, .iaload, 1) (gx_m 11 rfl)) (fun v23 => ?_)
              refine gx_Jjoin (pcJ := 215) (lvJ := fun (j_7 : Unit) => [(0, gx_r 17 (some x0)), (3, gx_i v4), (4, gx_i v5)]) (stJ := fun (j_7 : Unit) => []) (fun _ => True) (fun j_7 hj_7 => ?_) (fun kk7 hj7 => ?_)
              · refine gx_aload_n (pc := 215) (n := 0) (i := 0) rfl 0 rfl (htX16_deliver_1 (215, .aload_n 0, 1) (gx_m 20 rfl)) ?_
                refine gx_Jgs (pc := 216) (ci := 16) (kk := 64) (t2 := 100) (by decide) (by decide) rfl rfl rfl q1738 (htX16_deliver_1 (216, .getfield 181, 3) (gx_m 21 rfl)) ?_
                refine gx_iload_n (pc := 219) (n := 3) (i := 3) rfl 1 rfl (htX16_deliver_1 (219, .iload_n 3, 1) (gx_m 22 rfl)) ?_
                refine gx_Jia (pc := 220) (htX16_deliver_1 (220, .iaload, 1) (gx_m 23 rfl)) (fun v25 => ?_)
                refine gx_Jjoin (pcJ := 299) (lvJ := fun (j_8 : Unit) => []) (stJ := fun (j_8 : Unit) => []) (fun _ => True) (fun j_8 hj_8 => ?_) (fun kk8 hj8 => ?_)
                · exact gx_Jvret (pc := 299) rfl (fun _ => trivial) (fun _ _ => rfl) (htX16_deliver_1 (299, .return_, 1) (gx_m 49 rfl))
                · refine gx_Jite (fun c9 => ?_) (fun c9 => ?_)
                  · refine gx_Jtab (pc := 221) (tgt := 252) (htX16_deliver_1 (221, .tableswitch 71 1 4 #[31, 41, 51, 61], 31) (gx_m 24 rfl)) (by decide) (gx_tD c9 (by decide)) (gx_tI c9 (by decide)) ?_
                    refine gx_aload_n (pc := 252) (n := 0) (i := 0) rfl 0 rfl (htX16_deliver_1 (252, .aload_n 0, 1) (gx_m 25 rfl)) ?_
                    refine gx_iload (pc := 253) (i := 4) 2 rfl (htX16_deliver_1 (253, .iload 4, 2) (gx_m 26 rfl)) ?_
                    refine gx_iload_n (pc := 255) (n := 3) (i := 3) rfl 1 rfl (htX16_deliver_1 (255, .iload_n 3, 1) (gx_m 27 rfl)) ?_
                    refine gx_Jcv (pc := 256) (gx_hst (as := [gx_i v5, gx_i v4]) (b := gx_r 17 (some x0))) (gx_runV (as := [gx_i v5, gx_i v4]) (ci := 16) (ct_X16_asked Y x0 v5 v4) (by decide) (Or.inl rfl) rfl rfl rfl rfl q2229 q2231 qs73 q117 q2232 rfl dd_X16_asked (by decide) (by decide) (Nat.le_of_ble_eq_true rfl) (htX16_deliver_1 (256, .invokevirtual 548, 3) (gx_m 28 rfl))) ?_
                    refine gx_goto (pc := 259) (tgt := 299) (by decide) (htX16_deliver_1 (259, .goto 40, 3) (gx_m 29 rfl)) ?_
                    refine gx_Jw (lv := []) [] rfl ?_
                    exact hj8 () trivial
                  · refine gx_Jite (fun c10 => ?_) (fun c10 => ?_)
                    · refine gx_Jtab (pc := 221) (tgt := 262) (htX16_deliver_1 (221, .tableswitch 71 1 4 #[31, 41, 51, 61], 31) (gx_m 24 rfl)) (by decide) (gx_tD c10 (by decide)) (gx_tI c10 (by decide)) ?_
                      refine gx_aload_n (pc := 262) (n := 0) (i := 0) rfl 0 rfl (htX16_deliver_1 (262, .aload_n 0, 1) (gx_m 30 rfl)) ?_
                      refine gx_iload (pc := 263) (i := 4) 2 rfl (htX16_deliver_1 (263, .iload 4, 2) (gx_m 31 rfl)) ?_
                      refine gx_iload_n (pc := 265) (n := 3) (i := 3) rfl 1 rfl (htX16_deliver_1 (265, .iload_n 3, 1) (gx_m 32 rfl)) ?_
                      refine gx_Jcv (pc := 266) (gx_hst (as := [gx_i v5, gx_i v4]) (b := gx_r 17 (some x0))) (gx_runV (as := [gx_i v5, gx_i v4]) (ci := 16) (ct_X16_answered Y x0 v5 v4) (by decide) (Or.inl rfl) rfl rfl rfl rfl q2233 q2235 qs74 q117 q2236 rfl dd_X16_answered (by decide) (by decide) (Nat.le_of_ble_eq_true rfl) (htX16_deliver_1 (266, .invokevirtual 551, 3) (gx_m 33 rfl))) ?_
                      refine gx_goto (pc := 269) (tgt := 299) (by decide) (htX16_deliver_1 (269, .goto 30, 3) (gx_m 34 rfl)) ?_
                      refine gx_Jw (lv := []) [] rfl ?_
                      exact hj8 () trivial
                    · refine gx_Jite (fun c11 => ?_) (fun c11 => ?_)
                      · refine gx_Jtab (pc := 221) (tgt := 272) (htX16_deliver_1 (221, .tableswitch 71 1 4 #[31, 41, 51, 61], 31) (gx_m 24 rfl)) (by decide) (gx_tD c11 (by decide)) (gx_tI c11 (by decide)) ?_
                        refine gx_aload_n (pc := 272) (n := 0) (i := 0) rfl 0 rfl (htX16_deliver_1 (272, .aload_n 0, 1) (gx_m 35 rfl)) ?_
                        refine gx_iload (pc := 273) (i := 4) 2 rfl (htX16_deliver_1 (273, .iload 4, 2) (gx_m 36 rfl)) ?_
                        refine gx_iload_n (pc := 275) (n := 3) (i := 3) rfl 1 rfl (htX16_deliver_1 (275, .iload_n 3, 1) (gx_m 37 rfl)) ?_
                        refine gx_Jcv (pc := 276) (gx_hst (as := [gx_i v5, gx_i v4]) (b := gx_r 17 (some x0))) (gx_runV (as := [gx_i v5, gx_i v4]) (ci := 16) (ct_X16_appended Y x0 v5 v4) (by decide) (Or.inl rfl) rfl rfl rfl rfl q2237 q2239 qs75 q117 q2240 rfl dd_X16_appended (by decide) (by decide) (Nat.le_of_ble_eq_true rfl) (htX16_deliver_1 (276, .invokevirtual 554, 3) (gx_m 38 rfl))) ?_
                        refine gx_goto (pc := 279) (tgt := 299) (by decide) (htX16_deliver_1 (279, .goto 20, 3) (gx_m 39 rfl)) ?_
                        refine gx_Jw (lv := []) [] rfl ?_
                        exact hj8 () trivial
                      · refine gx_Jite (fun c12 => ?_) (fun c12 => ?_)
                        · refine gx_Jtab (pc := 221) (tgt := 282) (htX16_deliver_1 (221, .tableswitch 71 1 4 #[31, 41, 51, 61], 31) (gx_m 24 rfl)) (by decide) (gx_tD c12 (by decide)) (gx_tI c12 (by decide)) ?_
                          refine gx_aload_n (pc := 282) (n := 0) (i := 0) rfl 0 rfl (htX16_deliver_1 (282, .aload_n 0, 1) (gx_m 40 rfl)) ?_
                          refine gx_iload (pc := 283) (i := 4) 2 rfl (htX16_deliver_1 (283, .iload 4, 2) (gx_m 41 rfl)) ?_
                          refine gx_iload_n (pc := 285) (n := 3) (i := 3) rfl 1 rfl (htX16_deliver_1 (285, .iload_n 3, 1) (gx_m 42 rfl)) ?_
                          refine gx_Jcv (pc := 286) (gx_hst (as := [gx_i v5, gx_i v4]) (b := gx_r 17 (some x0))) (gx_runV (as := [gx_i v5, gx_i v4]) (ci := 16) (ct_X16_tookIn Y x0 v5 v4) (by decide) (Or.inl rfl) rfl rfl rfl rfl q2248 q2250 qs77 q117 q2251 rfl dd_X16_tookIn (by decide) (by decide) (Nat.le_of_ble_eq_true rfl) (htX16_deliver_1 (286, .invokevirtual 557, 3) (gx_m 43 rfl))) ?_
                          refine gx_goto (pc := 289) (tgt := 299) (by decide) (htX16_deliver_1 (289, .goto 10, 3) (gx_m 44 rfl)) ?_
                          refine gx_Jw (lv := []) [] rfl ?_
                          exact hj8 () trivial
                        · refine gx_Jtab (pc := 221) (tgt := 292) (htX16_deliver_1 (221, .tableswitch 71 1 4 #[31, 41, 51, 61], 31) (gx_m 24 rfl)) (by decide) (fun _ => by decide) (gx_tN (ks := [1, 2, 3, 4]) (by simp only [List.mem_cons, List.not_mem_nil, or_false, not_or]; exact ⟨c9, c10, c11, c12⟩) (by decide)) ?_
                          refine gx_aload_n (pc := 292) (n := 0) (i := 0) rfl 0 rfl (htX16_deliver_1 (292, .aload_n 0, 1) (gx_m 45 rfl)) ?_
                          refine gx_iload (pc := 293) (i := 4) 2 rfl (htX16_deliver_1 (293, .iload 4, 2) (gx_m 46 rfl)) ?_
                          refine gx_iload_n (pc := 295) (n := 3) (i := 3) rfl 1 rfl (htX16_deliver_1 (295, .iload_n 3, 1) (gx_m 47 rfl)) ?_
                          refine gx_Jcv (pc := 296) (gx_hst (as := [gx_i v5, gx_i v4]) (b := gx_r 17 (some x0))) (gx_runV (as := [gx_i v5, gx_i v4]) (ci := 16) (ct_X16_stated Y x0 v5 v4) (by decide) (Or.inl rfl) rfl rfl rfl rfl q2311 q2313 qs92 q117 q2314 rfl dd_X16_stated (by decide) (by decide) (Nat.le_of_ble_eq_true rfl) (htX16_deliver_1 (296, .invokevirtual 560, 3) (gx_m 48 rfl))) ?_
                          refine gx_Jw (lv := []) [] rfl ?_
                          exact hj8 () trivial
              · refine gx_icmp_le (pc := 200) (tgt := 215) (by decide) (htX16_deliver_1 (200, .if_icmp .le 15, 3) (gx_m 12 rfl)) (fun c13 => ?_) (fun c13 => ?_)
                · exact hj7 () trivial
                · refine gx_aload_n (pc := 203) (n := 0) (i := 0) rfl 0 rfl (htX16_deliver_1 (203, .aload_n 0, 1) (gx_m 13 rfl)) ?_
                  refine gx_iload (pc := 204) (i := 4) 2 rfl (htX16_deliver_1 (204, .iload 4, 2) (gx_m 14 rfl)) ?_
                  refine gx_aload_n (pc := 206) (n := 0) (i := 0) rfl 0 rfl (htX16_deliver_1 (206, .aload_n 0, 1) (gx_m 15 rfl)) ?_
                  refine gx_Jgs (pc := 207) (ci := 16) (kk := 67) (t2 := 100) (by decide) (by decide) rfl rfl rfl q1741 (htX16_deliver_1 (207, .getfield 190, 3) (gx_m 16 rfl)) ?_
                  refine gx_iload_n (pc := 210) (n := 3) (i := 3) rfl 1 rfl (htX16_deliver_1 (210, .iload_n 3, 1) (gx_m 17 rfl)) ?_
                  refine gx_Jia (pc := 211) (htX16_deliver_1 (211, .iaload, 1) (gx_m 18 rfl)) (fun v24 => ?_)
                  refine gx_Jcv (pc := 212) (gx_hst (as := [gx_i v5, gx_i v24]) (b := gx_r 17 (some x0))) (gx_runV (as := [gx_i v5, gx_i v24]) (ci := 16) (ct_X16_newer Y x0 v5 v24) (by decide) (Or.inl rfl) rfl rfl rfl rfl q2225 q2227 qs72 q117 q2228 rfl dd_X16_newer (by decide) (by decide) (Nat.le_of_ble_eq_true rfl) (htX16_deliver_1 (212, .invokevirtual 545, 3) (gx_m 19 rfl))) ?_
                  exact hj7 () trivial
            · exact gx_Jvret (pc := 186) rfl (fun _ => trivial) (fun _ _ => rfl) (htX16_deliver_1 (186, .return_, 1) (gx_m 3 rfl))
          · refine gx_if_ne (pc := 168) (y := 0) (tgt := 176) (by decide) (htX16_deliver_0 (168, .ifCond .ne 8, 3) (gx_m 94 rfl)) (fun c14 => ?_) (fun c14 => ?_)
            · refine gx_aload_n (pc := 171) (n := 0) (i := 0) rfl 1 rfl (htX16_deliver_0 (171, .aload_n 0, 1) (gx_m 95 rfl)) ?_
              refine gx_iload_n (pc := 172) (n := 1) (i := 1) rfl 2 rfl (htX16_deliver_0 (172, .iload_n 1, 1) (gx_m 96 rfl)) ?_
              refine gx_Jcv (pc := 173) (gx_hst (as := [gx_i x1]) (b := gx_r 17 (some x0))) (gx_runV (as := [gx_i x1]) (ci := 16) (ct_X16_drop Y x0 x1) (by decide) (Or.inl rfl) rfl rfl rfl rfl q2221 q2223 qs71 q117 q2224 rfl dd_X16_drop (by decide) (by decide) (Nat.le_of_ble_eq_true rfl) (htX16_deliver_0 (173, .invokevirtual 542, 3) (gx_m 97 rfl))) ?_
              refine gx_Jw (lv := [(0, gx_r 17 (some x0)), (3, gx_i v4), (4, gx_i v5)]) [1, 4, 5] rfl ?_
              exact hj5 () trivial
            · refine gx_Jw (lv := [(0, gx_r 17 (some x0)), (3, gx_i v4), (4, gx_i v5)]) [1, 4, 5] rfl ?_
              exact hj5 () trivial
        · refine gx_if_eq (pc := 148) (y := 0) (tgt := 167) (by decide) (htX16_deliver_0 (148, .ifCond .eq 19, 3) (gx_m 84 rfl)) (fun c15 => ?_) (fun c15 => ?_)
          · exact hE4
          · refine gx_aload_n (pc := 151) (n := 0) (i := 0) rfl 1 rfl (htX16_deliver_0 (151, .aload_n 0, 1) (gx_m 85 rfl)) ?_
            refine gx_Jgi (pc := 152) (ci := 16) (kk := 20) (by decide) (Or.inl rfl) (by decide) (by decide) q1694 (htX16_deliver_0 (152, .getfield 318, 3) (gx_m 86 rfl)) (fun v19 hv19 => ?_)
            refine gx_sipush (pc := 155) (v := 1500) (by decide) (htX16_deliver_0 (155, .sipush 1500, 3) (gx_m 87 rfl)) ?_
            refine gx_icmp_ne (pc := 158) (tgt := 167) (by decide) (htX16_deliver_0 (158, .if_icmp .ne 9, 3) (gx_m 88 rfl)) (fun c16 => ?_) (fun c16 => ?_)
            · exact hT4
            · exact hE4
      · refine gx_icmp_ne (pc := 51) (tgt := 143) (by decide) (htX16_deliver_0 (51, .if_icmp .ne 92, 3) (gx_m 30 rfl)) (fun c17 => ?_) (fun c17 => ?_)
        · refine gx_aload_n (pc := 54) (n := 0) (i := 0) rfl 2 rfl (htX16_deliver_0 (54, .aload_n 0, 1) (gx_m 31 rfl)) ?_
          refine gx_Jgs (pc := 55) (ci := 16) (kk := 30) (t2 := 102) (by decide) (by decide) rfl rfl rfl q1704 (htX16_deliver_0 (55, .getfield 76, 3) (gx_m 32 rfl)) ?_
          refine gx_iload (pc := 58) (i := 4) 0 rfl (htX16_deliver_0 (58, .iload 4, 2) (gx_m 33 rfl)) ?_
          refine gx_Jza (pc := 60) (htX16_deliver_0 (60, .baload, 1) (gx_m 34 rfl)) (fun v7 => ?_)
          refine gx_if_ne (pc := 61) (y := 0) (tgt := 143) (by decide) (htX16_deliver_0 (61, .ifCond .ne 82, 3) (gx_m 35 rfl)) (fun c18 => ?_) (fun c18 => ?_)
          · refine gx_aload_n (pc := 64) (n := 0) (i := 0) rfl 2 rfl (htX16_deliver_0 (64, .aload_n 0, 1) (gx_m 36 rfl)) ?_
            refine gx_Jgs (pc := 65) (ci := 16) (kk := 45) (t2 := 100) (by decide) (by decide) rfl rfl rfl q1719 (htX16_deliver_0 (65, .getfield 124, 3) (gx_m 37 rfl)) ?_
            refine gx_iload (pc := 68) (i := 4) 0 rfl (htX16_deliver_0 (68, .iload 4, 2) (gx_m 38 rfl)) ?_
            refine gx_Jia (pc := 70) (htX16_deliver_0 (70, .iaload, 1) (gx_m 39 rfl)) (fun v8 => ?_)
            refine gx_iconst (pc := 71) (v := 1) (by decide) (htX16_deliver_0 (71, .iconst 1, 1) (gx_m 40 rfl)) ?_
            refine gx_icmp_ne (pc := 72) (tgt := 143) (by decide) (htX16_deliver_0 (72, .if_icmp .ne 71, 3) (gx_m 41 rfl)) (fun c19 => ?_) (fun c19 => ?_)
            · refine gx_aload_n (pc := 75) (n := 0) (i := 0) rfl 2 rfl (htX16_deliver_0 (75, .aload_n 0, 1) (gx_m 42 rfl)) ?_
              refine gx_Jgs (pc := 76) (ci := 16) (kk := 67) (t2 := 100) (by decide) (by decide) rfl rfl rfl q1741 (htX16_deliver_0 (76, .getfield 190, 3) (gx_m 43 rfl)) ?_
              refine gx_iload_n (pc := 79) (n := 3) (i := 3) rfl 1 rfl (htX16_deliver_0 (79, .iload_n 3, 1) (gx_m 44 rfl)) ?_
              refine gx_Jia (pc := 80) (htX16_deliver_0 (80, .iaload, 1) (gx_m 45 rfl)) (fun v9 => ?_)
              refine gx_aload_n (pc := 81) (n := 0) (i := 0) rfl 2 rfl (htX16_deliver_0 (81, .aload_n 0, 1) (gx_m 46 rfl)) ?_
              refine gx_Jgs (pc := 82) (ci := 16) (kk := 31) (t2 := 100) (by decide) (by decide) rfl rfl rfl q1705 (htX16_deliver_0 (82, .getfield 80, 3) (gx_m 47 rfl)) ?_
              refine gx_iload (pc := 85) (i := 4) 0 rfl (htX16_deliver_0 (85, .iload 4, 2) (gx_m 48 rfl)) ?_
              refine gx_Jia (pc := 87) (htX16_deliver_0 (87, .iaload, 1) (gx_m 49 rfl)) (fun v10 => ?_)
              refine gx_icmp_ne (pc := 88) (tgt := 143) (by decide) (htX16_deliver_0 (88, .if_icmp .ne 55, 3) (gx_m 50 rfl)) (fun c20 => ?_) (fun c20 => ?_)
              · refine gx_aload_n (pc := 91) (n := 0) (i := 0) rfl 2 rfl (htX16_deliver_0 (91, .aload_n 0, 1) (gx_m 51 rfl)) ?_
                refine gx_Jgs (pc := 92) (ci := 16) (kk := 69) (t2 := 100) (by decide) (by decide) rfl rfl rfl q1743 (htX16_deliver_0 (92, .getfield 196, 3) (gx_m 52 rfl)) ?_
                refine gx_iload_n (pc := 95) (n := 3) (i := 3) rfl 1 rfl (htX16_deliver_0 (95, .iload_n 3, 1) (gx_m 53 rfl)) ?_
                refine gx_Jia (pc := 96) (htX16_deliver_0 (96, .iaload, 1) (gx_m 54 rfl)) (fun v11 => ?_)
                refine gx_iconst (pc := 97) (v := 1) (by decide) (htX16_deliver_0 (97, .iconst 1, 1) (gx_m 55 rfl)) ?_
                refine gx_icmp_ne (pc := 98) (tgt := 143) (by decide) (htX16_deliver_0 (98, .if_icmp .ne 45, 3) (gx_m 56 rfl)) (fun c21 => ?_) (fun c21 => ?_)
                · refine gx_iconst (pc := 101) (v := 2) (by decide) (htX16_deliver_0 (101, .iconst 2, 1) (gx_m 57 rfl)) ?_
                  refine gx_aload_n (pc := 102) (n := 0) (i := 0) rfl 2 rfl (htX16_deliver_0 (102, .aload_n 0, 1) (gx_m 58 rfl)) ?_
                  refine gx_iload (pc := 103) (i := 4) 0 rfl (htX16_deliver_0 (103, .iload 4, 2) (gx_m 59 rfl)) ?_
                  refine gx_Jci (pc := 105) (gx_hst (as := [gx_i v5]) (b := gx_r 17 (some x0))) (gx_runV (as := [gx_i v5]) (ci := 16) (ct_X16_grants Y x0 v5) (by decide) (Or.inl rfl) rfl rfl rfl rfl q2217 q2219 qs70 q117 q2220 rfl dd_X16_grants (by decide) (by decide) (Nat.le_of_ble_eq_true rfl) (htX16_deliver_0 (105, .invokevirtual 516, 3) (gx_m 60 rfl))) (fun v12 => ?_)
                  refine gx_aload_n (pc := 108) (n := 0) (i := 0) rfl 2 rfl (htX16_deliver_0 (108, .aload_n 0, 1) (gx_m 61 rfl)) ?_
                  refine gx_Jgs (pc := 109) (ci := 16) (kk := 56) (t2 := 106) (by decide) (by decide) rfl rfl rfl q1730 (htX16_deliver_0 (109, .getfield 159, 3) (gx_m 62 rfl)) ?_
                  refine gx_iload (pc := 112) (i := 4) 0 rfl (htX16_deliver_0 (112, .iload 4, 2) (gx_m 63 rfl)) ?_
                  refine gx_Jra (pc := 114) (t := 6) (t2 := 102) (by decide) (by decide) rfl (htX16_deliver_0 (114, .aaload, 1) (gx_m 64 rfl)) (fun v13 => ?_)
                  refine gx_aload_n (pc := 115) (n := 0) (i := 0) rfl 2 rfl (htX16_deliver_0 (115, .aload_n 0, 1) (gx_m 65 rfl)) ?_
                  refine gx_Jgs (pc := 116) (ci := 16) (kk := 65) (t2 := 100) (by decide) (by decide) rfl rfl rfl q1739 (htX16_deliver_0 (116, .getfield 184, 3) (gx_m 66 rfl)) ?_
                  refine gx_iload_n (pc := 119) (n := 3) (i := 3) rfl 1 rfl (htX16_deliver_0 (119, .iload_n 3, 1) (gx_m 67 rfl)) ?_
                  refine gx_Jia (pc := 120) (htX16_deliver_0 (120, .iaload, 1) (gx_m 68 rfl)) (fun v14 => ?_)
                  refine gx_Jza (pc := 121) (htX16_deliver_0 (121, .baload, 1) (gx_m 69 rfl)) (fun v15 => ?_)
                  refine gx_Jjoin (pcJ := 130) (lvJ := fun (j16 : Int32) => [(0, gx_r 17 (some x0)), (1, gx_i x1), (2, gx_i x2), (3, gx_i v4), (4, gx_i v5)]) (stJ := fun (j16 : Int32) => [gx_i j16, gx_i v12, gx_i 2]) (fun (j16 : Int32) => j16 &&& 1 = j16) (fun j16 hj16 => ?_) (fun kk22 hj22 => ?_)
                  · refine gx_iadd (pc := 130) (htX16_deliver_0 (130, .iadd, 1) (gx_m 74 rfl)) ?_
                    refine gx_imul (pc := 131) (htX16_deliver_0 (131, .imul, 1) (gx_m 75 rfl)) ?_
                    refine gx_aload_n (pc := 132) (n := 0) (i := 0) rfl 0 rfl (htX16_deliver_0 (132, .aload_n 0, 1) (gx_m 76 rfl)) ?_
                    refine gx_Jgi (pc := 133) (ci := 16) (kk := 29) (by decide) (Or.inl rfl) (by decide) (by decide) q1703 (htX16_deliver_0 (133, .getfield 315, 3) (gx_m 77 rfl)) (fun v17 hv17 => ?_)
                    refine gx_icmp_le (pc := 136) (tgt := 143) (by decide) (htX16_deliver_0 (136, .if_icmp .le 7, 3) (gx_m 78 rfl)) (fun c23 => ?_) (fun c23 => ?_)
                    · refine gx_iconst (pc := 143) (v := 0) (by decide) (htX16_deliver_0 (143, .iconst 0, 1) (gx_m 81 rfl)) ?_
                      exact hj3 (0 : Int32) gx_b0
                    · refine gx_iconst (pc := 139) (v := 1) (by decide) (htX16_deliver_0 (139, .iconst 1, 1) (gx_m 79 rfl)) ?_
                      refine gx_goto (pc := 140) (tgt := 144) (by decide) (htX16_deliver_0 (140, .goto 4, 3) (gx_m 80 rfl)) ?_
                      exact hj3 (1 : Int32) gx_b1
                  · refine gx_if_eq (pc := 122) (y := 0) (tgt := 129) (by decide) (htX16_deliver_0 (122, .ifCond .eq 7, 3) (gx_m 70 rfl)) (fun c24 => ?_) (fun c24 => ?_)
                    · refine gx_iconst (pc := 129) (v := 1) (by decide) (htX16_deliver_0 (129, .iconst 1, 1) (gx_m 73 rfl)) ?_
                      refine gx_Jw (lv := [(0, gx_r 17 (some x0)), (1, gx_i x1), (2, gx_i x2), (3, gx_i v4), (4, gx_i v5)]) [2, 3, 4, 1, 0] rfl ?_
                      exact hj22 (1 : Int32) gx_b1
                    · refine gx_iconst (pc := 125) (v := 0) (by decide) (htX16_deliver_0 (125, .iconst 0, 1) (gx_m 71 rfl)) ?_
                      refine gx_goto (pc := 126) (tgt := 130) (by decide) (htX16_deliver_0 (126, .goto 4, 3) (gx_m 72 rfl)) ?_
                      refine gx_Jw (lv := [(0, gx_r 17 (some x0)), (1, gx_i x1), (2, gx_i x2), (3, gx_i v4), (4, gx_i v5)]) [2, 3, 4, 1, 0] rfl ?_
                      exact hj22 (0 : Int32) gx_b0
                · refine gx_iconst (pc := 143) (v := 0) (by decide) (htX16_deliver_0 (143, .iconst 0, 1) (gx_m 81 rfl)) ?_
                  refine gx_Jw (lv := [(0, gx_r 17 (some x0)), (1, gx_i x1), (2, gx_i x2), (3, gx_i v4), (4, gx_i v5)]) [2, 3, 4, 1, 0] rfl ?_
                  exact hj3 (0 : Int32) gx_b0
              · refine gx_iconst (pc := 143) (v := 0) (by decide) (htX16_deliver_0 (143, .iconst 0, 1) (gx_m 81 rfl)) ?_
                refine gx_Jw (lv := [(0, gx_r 17 (some x0)), (1, gx_i x1), (2, gx_i x2), (3, gx_i v4), (4, gx_i v5)]) [2, 3, 4, 1, 0] rfl ?_
                exact hj3 (0 : Int32) gx_b0
            · refine gx_iconst (pc := 143) (v := 0) (by decide) (htX16_deliver_0 (143, .iconst 0, 1) (gx_m 81 rfl)) ?_
              refine gx_Jw (lv := [(0, gx_r 17 (some x0)), (1, gx_i x1), (2, gx_i x2), (3, gx_i v4), (4, gx_i v5)]) [2, 3, 4, 1, 0] rfl ?_
              exact hj3 (0 : Int32) gx_b0
          · refine gx_iconst (pc := 143) (v := 0) (by decide) (htX16_deliver_0 (143, .iconst 0, 1) (gx_m 81 rfl)) ?_
            refine gx_Jw (lv := [(0, gx_r 17 (some x0)), (1, gx_i x1), (2, gx_i x2), (3, gx_i v4), (4, gx_i v5)]) [2, 3, 4, 1, 0] rfl ?_
            exact hj3 (0 : Int32) gx_b0
        · refine gx_iconst (pc := 143) (v := 0) (by decide) (htX16_deliver_0 (143, .iconst 0, 1) (gx_m 81 rfl)) ?_
          refine gx_Jw (lv := [(0, gx_r 17 (some x0)), (1, gx_i x1), (2, gx_i x2), (3, gx_i v4), (4, gx_i v5)]) [2, 3, 4, 1, 0] rfl ?_
          exact hj3 (0 : Int32) gx_b0
    · exact gx_Jvret (pc := 28) rfl (fun _ => trivial) (fun _ _ => rfl) (htX16_deliver_0 (28, .return_, 1) (gx_m 14 rfl))
  · refine gx_if_lt (pc := 2) (y := 0) (tgt := 13) (by decide) (htX16_deliver_0 (2, .ifCond .lt 11, 3) (gx_m 2 rfl)) (fun c25 => ?_) (fun c25 => ?_)
    · refine gx_iconst (pc := 13) (v := 1) (by decide) (htX16_deliver_0 (13, .iconst 1, 1) (gx_m 7 rfl)) ?_
      refine gx_goto (pc := 14) (tgt := 18) (by decide) (htX16_deliver_0 (14, .goto 4, 3) (gx_m 8 rfl)) ?_
      exact hj1 (1 : Int32) gx_b1
    · refine gx_iload_n (pc := 5) (n := 1) (i := 1) rfl 1 rfl (htX16_deliver_0 (5, .iload_n 1, 1) (gx_m 3 rfl)) ?_
      refine gx_aload_n (pc := 6) (n := 0) (i := 0) rfl 0 rfl (htX16_deliver_0 (6, .aload_n 0, 1) (gx_m 4 rfl)) ?_
      refine gx_Jgi (pc := 7) (ci := 16) (kk := 78) (by decide) (Or.inl rfl) (by decide) (by decide) q1752 (htX16_deliver_0 (7, .getfield 333, 3) (gx_m 5 rfl)) (fun v1 hv1 => ?_)
      refine gx_icmp_lt (pc := 10) (tgt := 17) (by decide) (htX16_deliver_0 (10, .if_icmp .lt 7, 3) (gx_m 6 rfl)) (fun c26 => ?_) (fun c26 => ?_)
      · refine gx_iconst (pc := 17) (v := 0) (by decide) (htX16_deliver_0 (17, .iconst 0, 1) (gx_m 9 rfl)) ?_
        exact hj1 (0 : Int32) gx_b0
      · refine gx_iconst (pc := 13) (v := 1) (by decide) (htX16_deliver_0 (13, .iconst 1, 1) (gx_m 7 rfl)) ?_
        refine gx_goto (pc := 14) (tgt := 18) (by decide) (htX16_deliver_0 (14, .goto 4, 3) (gx_m 8 rfl)) ?_
        exact hj1 (1 : Int32) gx_b1
theorem ct_X16_lose (Y : gx_Y) (x0 : gx_Nm) (x1 : Int32) : gx_Ct Y yX16_lose (ws_ yX16_lose cX16_lose 2 none) 2 122 [gx_r 17 (some x0), gx_i x1] gx_Ov (f_X16_lose x0 x1) := by
  refine gx_start (lv := [(0, gx_r 17 (some x0)), (1, gx_i x1)]) gx_Ov_r pn_X16 (Nat.le_of_ble_eq_true rfl) rfl ?_
  unfold f_X16_lose
  refine gx_aload_n (pc := 0) (n := 0) (i := 0) rfl 0 rfl (htX16_lose (0, .aload_n 0, 1) (gx_m 0 rfl)) ?_
  refine gx_iload_n (pc := 1) (n := 1) (i := 1) rfl 1 rfl (htX16_lose (1, .iload_n 1, 1) (gx_m 1 rfl)) ?_
  refine gx_Jjoin (pcJ := 18) (lvJ := fun (j2 : Int32) => [(0, gx_r 17 (some x0)), (1, gx_i x1)]) (stJ := fun (j2 : Int32) => [gx_i j2, gx_r 17 (some x0)]) (fun (j2 : Int32) => j2 &&& 1 = j2) (fun j2 hj2 => ?_) (fun kk1 hj1 => ?_)
  · refine gx_Jpi (pc := 18) (ci := 16) (kk := 0) (by decide) (Or.inl rfl) (by decide) rfl rfl q1674 (Or.inl rfl) (htX16_lose (18, .putfield 312, 3) (gx_m 10 rfl)) ?_
    refine gx_aload_n (pc := 21) (n := 0) (i := 0) rfl 0 rfl (htX16_lose (21, .aload_n 0, 1) (gx_m 11 rfl)) ?_
    refine gx_Jgi (pc := 22) (ci := 16) (kk := 0) (by decide) (Or.inl rfl) (by decide) (by decide) q1674 (htX16_lose (22, .getfield 312, 3) (gx_m 12 rfl)) (fun v3 hv3 => ?_)
    refine gx_Jjoin (pcJ := 33) (lvJ := fun (j_2 : Unit) => []) (stJ := fun (j_2 : Unit) => []) (fun _ => True) (fun j_2 hj_2 => ?_) (fun kk2 hj2 => ?_)
    · exact gx_Jvret (pc := 33) rfl (fun _ => trivial) (fun _ _ => rfl) (htX16_lose (33, .return_, 1) (gx_m 17 rfl))
    · refine gx_if_ne (pc := 25) (y := 0) (tgt := 33) (by decide) (htX16_lose (25, .ifCond .ne 8, 3) (gx_m 13 rfl)) (fun c3 => ?_) (fun c3 => ?_)
      · refine gx_aload_n (pc := 28) (n := 0) (i := 0) rfl 0 rfl (htX16_lose (28, .aload_n 0, 1) (gx_m 14 rfl)) ?_
        refine gx_iload_n (pc := 29) (n := 1) (i := 1) rfl 1 rfl (htX16_lose (29, .iload_n 1, 1) (gx_m 15 rfl)) ?_
        refine gx_Jcv (pc := 30) (gx_hst (as := [gx_i x1]) (b := gx_r 17 (some x0))) (gx_runV (as := [gx_i x1]) (ci := 16) (ct_X16_drop Y x0 x1) (by decide) (Or.inl rfl) rfl rfl rfl rfl q2221 q2223 qs71 q117 q2224 rfl dd_X16_drop (by decide) (by decide) (Nat.le_of_ble_eq_true rfl) (htX16_lose (30, .invokevirtual 542, 3) (gx_m 16 rfl))) ?_
        refine gx_Jw (lv := []) [] rfl ?_
        exact hj2 () trivial
      · refine gx_Jw (lv := []) [] rfl ?_
        exact hj2 () trivial
  · refine gx_if_lt (pc := 2) (y := 0) (tgt := 13) (by decide) (htX16_lose (2, .ifCond .lt 11, 3) (gx_m 2 rfl)) (fun c4 => ?_) (fun c4 => ?_)
    · refine gx_iconst (pc := 13) (v := 1) (by decide) (htX16_lose (13, .iconst 1, 1) (gx_m 7 rfl)) ?_
      refine gx_goto (pc := 14) (tgt := 18) (by decide) (htX16_lose (14, .goto 4, 3) (gx_m 8 rfl)) ?_
      exact hj1 (1 : Int32) gx_b1
    · refine gx_iload_n (pc := 5) (n := 1) (i := 1) rfl 1 rfl (htX16_lose (5, .iload_n 1, 1) (gx_m 3 rfl)) ?_
      refine gx_aload_n (pc := 6) (n := 0) (i := 0) rfl 0 rfl (htX16_lose (6, .aload_n 0, 1) (gx_m 4 rfl)) ?_
      refine gx_Jgi (pc := 7) (ci := 16) (kk := 78) (by decide) (Or.inl rfl) (by decide) (by decide) q1752 (htX16_lose (7, .getfield 333, 3) (gx_m 5 rfl)) (fun v1 hv1 => ?_)
      refine gx_icmp_lt (pc := 10) (tgt := 17) (by decide) (htX16_lose (10, .if_icmp .lt 7, 3) (gx_m 6 rfl)) (fun c5 => ?_) (fun c5 => ?_)
      · refine gx_iconst (pc := 17) (v := 0) (by decide) (htX16_lose (17, .iconst 0, 1) (gx_m 9 rfl)) ?_
        exact hj1 (0 : Int32) gx_b0
      · refine gx_iconst (pc := 13) (v := 1) (by decide) (htX16_lose (13, .iconst 1, 1) (gx_m 7 rfl)) ?_
        refine gx_goto (pc := 14) (tgt := 18) (by decide) (htX16_lose (14, .goto 4, 3) (gx_m 8 rfl)) ?_
        exact hj1 (1 : Int32) gx_b1
theorem ct_X16_snapshot_2 (Y : gx_Y) (x0 : gx_Nm) (x1 : Int32) : gx_Ct Y yX16_snapshot_2 (ws_ yX16_snapshot_2 cX16_snapshot_2 2 (some .int)) 3 150 [gx_r 17 (some x0), gx_i x1] gx_Oi (f_X16_snapshot_2 x0 x1) := by
  refine gx_start (lv := [(0, gx_r 17 (some x0)), (1, gx_i x1)]) gx_Oi_r pn_X16 (Nat.le_of_ble_eq_true rfl) rfl ?_
  unfold f_X16_snapshot_2
  refine gx_aload_n (pc := 0) (n := 0) (i := 0) rfl 0 rfl (htX16_snapshot_2 (0, .aload_n 0, 1) (gx_m 0 rfl)) ?_
  refine gx_iload_n (pc := 1) (n := 1) (i := 1) rfl 1 rfl (htX16_snapshot_2 (1, .iload_n 1, 1) (gx_m 1 rfl)) ?_
  refine gx_Jcz (pc := 2) (gx_hst (as := [gx_i x1]) (b := gx_r 17 (some x0))) (gx_runV (as := [gx_i x1]) (ci := 16) (ct_X16_up Y x0 x1) (by decide) (Or.inl rfl) rfl rfl rfl rfl q2113 q2115 qs51 q117 q2116 rfl dd_X16_up (by decide) (by decide) (Nat.le_of_ble_eq_true rfl) (htX16_snapshot_2 (2, .invokevirtual 532, 3) (gx_m 2 rfl))) (fun v1 hv1 => ?_)
  refine gx_if_ne (pc := 5) (y := 0) (tgt := 14) (by decide) (htX16_snapshot_2 (5, .ifCond .ne 9, 3) (gx_m 3 rfl)) (fun c1 => ?_) (fun c1 => ?_)
  · refine gx_aload_n (pc := 8) (n := 0) (i := 0) rfl 0 rfl (htX16_snapshot_2 (8, .aload_n 0, 1) (gx_m 4 rfl)) ?_
    refine gx_iconst (pc := 9) (v := 2) (by decide) (htX16_snapshot_2 (9, .iconst 2, 1) (gx_m 5 rfl)) ?_
    refine gx_Jci (pc := 10) (gx_hst (as := [gx_i 2]) (b := gx_r 17 (some x0))) (gx_runV (as := [gx_i 2]) (ci := 16) (ct_X16_no Y x0 2) (by decide) (Or.inl rfl) rfl rfl rfl rfl q2062 q2064 qs46 q117 q2065 rfl dd_X16_no (by decide) (by decide) (Nat.le_of_ble_eq_true rfl) (htX16_snapshot_2 (10, .invokevirtual 370, 3) (gx_m 6 rfl))) (fun v2 => ?_)
    exact gx_Jiret (pc := 13) rfl (fun _ => trivial) (fun _ _ => rfl) (htX16_snapshot_2 (13, .ireturn, 1) (gx_m 7 rfl))
  · refine gx_aload_n (pc := 14) (n := 0) (i := 0) rfl 0 rfl (htX16_snapshot_2 (14, .aload_n 0, 1) (gx_m 8 rfl)) ?_
    refine gx_Jgs (pc := 15) (ci := 16) (kk := 47) (t2 := 100) (by decide) (by decide) rfl rfl rfl q1721 (htX16_snapshot_2 (15, .getfield 130, 3) (gx_m 9 rfl)) ?_
    refine gx_iload_n (pc := 18) (n := 1) (i := 1) rfl 1 rfl (htX16_snapshot_2 (18, .iload_n 1, 1) (gx_m 10 rfl)) ?_
    refine gx_Jia (pc := 19) (htX16_snapshot_2 (19, .iaload, 1) (gx_m 11 rfl)) (fun v3 => ?_)
    refine gx_aload_n (pc := 20) (n := 0) (i := 0) rfl 0 rfl (htX16_snapshot_2 (20, .aload_n 0, 1) (gx_m 12 rfl)) ?_
    refine gx_Jgs (pc := 21) (ci := 16) (kk := 33) (t2 := 100) (by decide) (by decide) rfl rfl rfl q1707 (htX16_snapshot_2 (21, .getfield 86, 3) (gx_m 13 rfl)) ?_
    refine gx_iload_n (pc := 24) (n := 1) (i := 1) rfl 1 rfl (htX16_snapshot_2 (24, .iload_n 1, 1) (gx_m 14 rfl)) ?_
    refine gx_Jia (pc := 25) (htX16_snapshot_2 (25, .iaload, 1) (gx_m 15 rfl)) (fun v4 => ?_)
    refine gx_icmp_ne (pc := 26) (tgt := 35) (by decide) (htX16_snapshot_2 (26, .if_icmp .ne 9, 3) (gx_m 16 rfl)) (fun c2 => ?_) (fun c2 => ?_)
    · refine gx_aload_n (pc := 29) (n := 0) (i := 0) rfl 0 rfl (htX16_snapshot_2 (29, .aload_n 0, 1) (gx_m 17 rfl)) ?_
      refine gx_iconst (pc := 30) (v := 1) (by decide) (htX16_snapshot_2 (30, .iconst 1, 1) (gx_m 18 rfl)) ?_
      refine gx_Jci (pc := 31) (gx_hst (as := [gx_i 1]) (b := gx_r 17 (some x0))) (gx_runV (as := [gx_i 1]) (ci := 16) (ct_X16_no Y x0 1) (by decide) (Or.inl rfl) rfl rfl rfl rfl q2062 q2064 qs46 q117 q2065 rfl dd_X16_no (by decide) (by decide) (Nat.le_of_ble_eq_true rfl) (htX16_snapshot_2 (31, .invokevirtual 370, 3) (gx_m 19 rfl))) (fun v5 => ?_)
      exact gx_Jiret (pc := 34) rfl (fun _ => trivial) (fun _ _ => rfl) (htX16_snapshot_2 (34, .ireturn, 1) (gx_m 20 rfl))
    · refine gx_aload_n (pc := 35) (n := 0) (i := 0) rfl 0 rfl (htX16_snapshot_2 (35, .aload_n 0, 1) (gx_m 21 rfl)) ?_
      refine gx_iconst (pc := 36) (v := 0) (by decide) (htX16_snapshot_2 (36, .iconst 0, 1) (gx_m 22 rfl)) ?_
      refine gx_Jpi (pc := 37) (ci := 16) (kk := 0) (by decide) (Or.inl rfl) (by decide) rfl rfl q1674 (Or.inl rfl) (htX16_snapshot_2 (37, .putfield 312, 3) (gx_m 23 rfl)) ?_
      refine gx_aload_n (pc := 40) (n := 0) (i := 0) rfl 0 rfl (htX16_snapshot_2 (40, .aload_n 0, 1) (gx_m 24 rfl)) ?_
      refine gx_iload_n (pc := 41) (n := 1) (i := 1) rfl 1 rfl (htX16_snapshot_2 (41, .iload_n 1, 1) (gx_m 25 rfl)) ?_
      refine gx_aload_n (pc := 42) (n := 0) (i := 0) rfl 0 rfl (htX16_snapshot_2 (42, .aload_n 0, 1) (gx_m 26 rfl)) ?_
      refine gx_Jgs (pc := 43) (ci := 16) (kk := 47) (t2 := 100) (by decide) (by decide) rfl rfl rfl q1721 (htX16_snapshot_2 (43, .getfield 130, 3) (gx_m 27 rfl)) ?_
      refine gx_iload_n (pc := 46) (n := 1) (i := 1) rfl 1 rfl (htX16_snapshot_2 (46, .iload_n 1, 1) (gx_m 28 rfl)) ?_
      refine gx_Jia (pc := 47) (htX16_snapshot_2 (47, .iaload, 1) (gx_m 29 rfl)) (fun v6 => ?_)
      refine gx_aload_n (pc := 48) (n := 0) (i := 0) rfl 0 rfl (htX16_snapshot_2 (48, .aload_n 0, 1) (gx_m 30 rfl)) ?_
      refine gx_iload_n (pc := 49) (n := 1) (i := 1) rfl 1 rfl (htX16_snapshot_2 (49, .iload_n 1, 1) (gx_m 31 rfl)) ?_
      refine gx_aload_n (pc := 50) (n := 0) (i := 0) rfl 0 rfl (htX16_snapshot_2 (50, .aload_n 0, 1) (gx_m 32 rfl)) ?_
      refine gx_Jgs (pc := 51) (ci := 16) (kk := 47) (t2 := 100) (by decide) (by decide) rfl rfl rfl q1721 (htX16_snapshot_2 (51, .getfield 130, 3) (gx_m 33 rfl)) ?_
      refine gx_iload_n (pc := 54) (n := 1) (i := 1) rfl 1 rfl (htX16_snapshot_2 (54, .iload_n 1, 1) (gx_m 34 rfl)) ?_
      refine gx_Jia (pc := 55) (htX16_snapshot_2 (55, .iaload, 1) (gx_m 35 rfl)) (fun v7 => ?_)
      refine gx_Jci (pc := 56) (gx_hst (as := [gx_i x1, gx_i v7]) (b := gx_r 17 (some x0))) (gx_runV (as := [gx_i x1, gx_i v7]) (ci := 16) (ct_X16_termAt Y x0 x1 v7) (by decide) (Or.inl rfl) rfl rfl rfl rfl q2150 q2152 qs60 q117 q2153 rfl dd_X16_termAt (by decide) (by decide) (Nat.le_of_ble_eq_true rfl) (htX16_snapshot_2 (56, .invokevirtual 461, 3) (gx_m 36 rfl))) (fun v8 => ?_)
      refine gx_aload_n (pc := 59) (n := 0) (i := 0) rfl 0 rfl (htX16_snapshot_2 (59, .aload_n 0, 1) (gx_m 37 rfl)) ?_
      refine gx_Jgs (pc := 60) (ci := 16) (kk := 48) (t2 := 100) (by decide) (by decide) rfl rfl rfl q1722 (htX16_snapshot_2 (60, .getfield 133, 3) (gx_m 38 rfl)) ?_
      refine gx_iload_n (pc := 63) (n := 1) (i := 1) rfl 1 rfl (htX16_snapshot_2 (63, .iload_n 1, 1) (gx_m 39 rfl)) ?_
      refine gx_Jia (pc := 64) (htX16_snapshot_2 (64, .iaload, 1) (gx_m 40 rfl)) (fun v9 => ?_)
      refine gx_Jcv (pc := 65) (gx_hst (as := [gx_i x1, gx_i v6, gx_i v8, gx_i v9]) (b := gx_r 17 (some x0))) (gx_runV (as := [gx_i x1, gx_i v6, gx_i v8, gx_i v9]) (ci := 16) (ct_X16_snapshot Y x0 x1 v6 v8 v9) (by decide) (Or.inl rfl) rfl rfl rfl rfl q2315 q2317 qs93 q117 q2318 rfl dd_X16_snapshot (by decide) (by decide) (Nat.le_of_ble_eq_true rfl) (htX16_snapshot_2 (65, .invokevirtual 528, 3) (gx_m 41 rfl))) ?_
      refine gx_aload_n (pc := 68) (n := 0) (i := 0) rfl 0 rfl (htX16_snapshot_2 (68, .aload_n 0, 1) (gx_m 42 rfl)) ?_
      refine gx_Jgs (pc := 69) (ci := 16) (kk := 33) (t2 := 100) (by decide) (by decide) rfl rfl rfl q1707 (htX16_snapshot_2 (69, .getfield 86, 3) (gx_m 43 rfl)) ?_
      refine gx_iload_n (pc := 72) (n := 1) (i := 1) rfl 1 rfl (htX16_snapshot_2 (72, .iload_n 1, 1) (gx_m 44 rfl)) ?_
      refine gx_Jia (pc := 73) (htX16_snapshot_2 (73, .iaload, 1) (gx_m 45 rfl)) (fun v10 => ?_)
      exact gx_Jiret (pc := 74) rfl (fun _ => trivial) (fun _ _ => rfl) (htX16_snapshot_2 (74, .ireturn, 1) (gx_m 46 rfl))
theorem ct_X16_readsWaiting (Y : gx_Y) (x0 : gx_Nm) (x1 : Int32) : gx_Ct Y yX16_readsWaiting (ws_ yX16_readsWaiting cX16_readsWaiting 4 (some .int)) 1 100 [gx_r 17 (some x0), gx_i x1] gx_Oi (f_X16_readsWaiting x0 x1) := by
  refine gx_start (lv := [(0, gx_r 17 (some x0)), (1, gx_i x1)]) gx_Oi_r pn_X16 (Nat.le_of_ble_eq_true rfl) rfl ?_
  unfold f_X16_readsWaiting
  refine gx_iconst (pc := 0) (v := 0) (by decide) (htX16_readsWaiting (0, .iconst 0, 1) (gx_m 0 rfl)) ?_
  refine gx_istore_n (pc := 1) (n := 2) (i := 2) (lv' := [(2, gx_i 0), (0, gx_r 17 (some x0)), (1, gx_i x1)]) rfl (by decide) rfl (htX16_readsWaiting (1, .istore_n 2, 1) (gx_m 1 rfl)) ?_
  refine gx_iconst (pc := 2) (v := 0) (by decide) (htX16_readsWaiting (2, .iconst 0, 1) (gx_m 2 rfl)) ?_
  refine gx_istore_n (pc := 3) (n := 3) (i := 3) (lv' := [(3, gx_i 0), (2, gx_i 0), (0, gx_r 17 (some x0)), (1, gx_i x1)]) rfl (by decide) rfl (htX16_readsWaiting (3, .istore_n 3, 1) (gx_m 3 rfl)) ?_
  refine gx_Jjoin (pcJ := 40) (lvJ := fun (j6 : Int32) => [(2, gx_i j6)]) (stJ := fun (j6 : Int32) => []) (fun _ => True) (fun j6 _ => ?_) (fun kk1 hj1 => ?_)
  · refine gx_iload_n (pc := 40) (n := 2) (i := 2) rfl 0 rfl (htX16_readsWaiting (40, .iload_n 2, 1) (gx_m 22 rfl)) ?_
    exact gx_Jiret (pc := 41) rfl (fun _ => trivial) (fun _ _ => rfl) (htX16_readsWaiting (41, .ireturn, 1) (gx_m 23 rfl))
  · refine gx_Jw (lv := [(0, gx_r 17 (some x0)), (1, gx_i x1), (2, gx_i 0), (3, gx_i 0)]) [2, 3, 1, 0] rfl ?_
    refine gx_Jlp (pc := 4) (lvh := fun (s1 : Int32 × Int32) => [(0, gx_r 17 (some x0)), (1, gx_i x1), (2, gx_i s1.1), (3, gx_i s1.2)]) (fun s1 kl1 ha1 hb1 => ?_) _
    unfold lb_X16_readsWaiting_1
    refine gx_iload_n (pc := 4) (n := 3) (i := 3) rfl 3 rfl (htX16_readsWaiting (4, .iload_n 3, 1) (gx_m 4 rfl)) ?_
    refine gx_aload_n (pc := 5) (n := 0) (i := 0) rfl 0 rfl (htX16_readsWaiting (5, .aload_n 0, 1) (gx_m 5 rfl)) ?_
    refine gx_Jgi (pc := 6) (ci := 16) (kk := 93) (by decide) (Or.inl rfl) (by decide) (by decide) q1767 (htX16_readsWaiting (6, .getfield 339, 3) (gx_m 6 rfl)) (fun v2 hv2 => ?_)
    refine gx_icmp_ge (pc := 9) (tgt := 40) (by decide) (htX16_readsWaiting (9, .if_icmp .ge 31, 3) (gx_m 7 rfl)) (fun c2 => ?_) (fun c2 => ?_)
    · refine gx_Jw (lv := [(2, gx_i s1.1)]) [2] rfl ?_
      exact gx_Jout hb1 (hj1 (s1.1 : Int32) trivial)
    · refine gx_aload_n (pc := 12) (n := 0) (i := 0) rfl 0 rfl (htX16_readsWaiting (12, .aload_n 0, 1) (gx_m 8 rfl)) ?_
      refine gx_Jgs (pc := 13) (ci := 16) (kk := 82) (t2 := 100) (by decide) (by decide) rfl rfl rfl q1756 (htX16_readsWaiting (13, .getfield 224, 3) (gx_m 9 rfl)) ?_
      refine gx_iload_n (pc := 16) (n := 3) (i := 3) rfl 3 rfl (htX16_readsWaiting (16, .iload_n 3, 1) (gx_m 10 rfl)) ?_
      refine gx_Jia (pc := 17) (htX16_readsWaiting (17, .iaload, 1) (gx_m 11 rfl)) (fun v3 => ?_)
      refine gx_iload_n (pc := 18) (n := 1) (i := 1) rfl 1 rfl (htX16_readsWaiting (18, .iload_n 1, 1) (gx_m 12 rfl)) ?_
      refine gx_Jjoin (pcJ := 34) (lvJ := fun (j5 : Int32) => [(0, gx_r 17 (some x0)), (1, gx_i x1), (2, gx_i j5), (3, gx_i s1.2)]) (stJ := fun (j5 : Int32) => []) (fun _ => True) (fun j5 hj5 => ?_) (fun kk3 hj3 => ?_)
      · refine gx_iinc (pc := 34) (i := 3) (j := 3) (v := (s1.2 + 1)) (lv' := [(3, gx_i (s1.2 + 1)), (0, gx_r 17 (some x0)), (1, gx_i x1), (2, gx_i j5)]) rfl (gx_iv (by decide)) (by decide) rfl (htX16_readsWaiting (34, .iinc 3 1, 3) (gx_m 20 rfl)) ?_
        refine gx_goto (pc := 37) (tgt := 4) (by decide) (htX16_readsWaiting (37, .goto (-33), 3) (gx_m 21 rfl)) ?_
        refine gx_Jw (lv := [(0, gx_r 17 (some x0)), (1, gx_i x1), (2, gx_i j5), (3, gx_i (s1.2 + 1))]) [1, 2, 3, 0] rfl ?_
        exact ha1 ((j5 : Int32), ((s1.2 + 1) : Int32))
      · refine gx_icmp_ne (pc := 19) (tgt := 34) (by decide) (htX16_readsWaiting (19, .if_icmp .ne 15, 3) (gx_m 13 rfl)) (fun c4 => ?_) (fun c4 => ?_)
        · refine gx_aload_n (pc := 22) (n := 0) (i := 0) rfl 0 rfl (htX16_readsWaiting (22, .aload_n 0, 1) (gx_m 14 rfl)) ?_
          refine gx_Jgs (pc := 23) (ci := 16) (kk := 87) (t2 := 102) (by decide) (by decide) rfl rfl rfl q1761 (htX16_readsWaiting (23, .getfield 239, 3) (gx_m 15 rfl)) ?_
          refine gx_iload_n (pc := 26) (n := 3) (i := 3) rfl 3 rfl (htX16_readsWaiting (26, .iload_n 3, 1) (gx_m 16 rfl)) ?_
          refine gx_Jza (pc := 27) (htX16_readsWaiting (27, .baload, 1) (gx_m 17 rfl)) (fun v4 => ?_)
          refine gx_if_ne (pc := 28) (y := 0) (tgt := 34) (by decide) (htX16_readsWaiting (28, .ifCond .ne 6, 3) (gx_m 18 rfl)) (fun c5 => ?_) (fun c5 => ?_)
          · refine gx_iinc (pc := 31) (i := 2) (j := 2) (v := (s1.1 + 1)) (lv' := [(2, gx_i (s1.1 + 1)), (0, gx_r 17 (some x0)), (1, gx_i x1), (3, gx_i s1.2)]) rfl (gx_iv (by decide)) (by decide) rfl (htX16_readsWaiting (31, .iinc 2 1, 3) (gx_m 19 rfl)) ?_
            refine gx_Jw (lv := [(0, gx_r 17 (some x0)), (1, gx_i x1), (2, gx_i (s1.1 + 1)), (3, gx_i s1.2)]) [1, 2, 0, 3] rfl ?_
            exact hj3 ((s1.1 + 1) : Int32) trivial
          · exact hj3 (s1.1 : Int32) trivial
        · exact hj3 (s1.1 : Int32) trivial
theorem ct_X16_read (Y : gx_Y) (x0 : gx_Nm) (x1 : Int32) : gx_Ct Y yX16_read (ws_ yX16_read cX16_read 5 (some .int)) 9 297 [gx_r 17 (some x0), gx_i x1] gx_Oi (f_X16_read x0 x1) := by
  refine gx_start (lv := [(0, gx_r 17 (some x0)), (1, gx_i x1)]) gx_Oi_r pn_X16 (Nat.le_of_ble_eq_true rfl) rfl ?_
  unfold f_X16_read
  refine gx_aload_n (pc := 0) (n := 0) (i := 0) rfl 0 rfl (htX16_read_0 (0, .aload_n 0, 1) (gx_m 0 rfl)) ?_
  refine gx_Jci (pc := 1) (gx_hst (as := []) (b := gx_r 17 (some x0))) (gx_runV (as := []) (ci := 16) (ct_X16_taken Y x0) (by decide) (Or.inl rfl) rfl rfl rfl rfl q2074 q2076 qs47 q117 q2077 rfl dd_X16_taken (by decide) (by decide) (Nat.le_of_ble_eq_true rfl) (htX16_read_0 (1, .invokevirtual 378, 3) (gx_m 1 rfl))) (fun v1 => ?_)
  refine gx_istore_n (pc := 4) (n := 2) (i := 2) (lv' := [(2, gx_i v1), (0, gx_r 17 (some x0)), (1, gx_i x1)]) rfl (by decide) rfl (htX16_read_0 (4, .istore_n 2, 1) (gx_m 2 rfl)) ?_
  refine gx_iload_n (pc := 5) (n := 2) (i := 2) rfl 0 rfl (htX16_read_0 (5, .iload_n 2, 1) (gx_m 3 rfl)) ?_
  refine gx_iconst (pc := 6) (v := 1) (by decide) (htX16_read_0 (6, .iconst 1, 1) (gx_m 4 rfl)) ?_
  refine gx_Jcond (pcT := 20) (pcE := 26) (lv2 := [(2, gx_i v1), (0, gx_r 17 (some x0)), (1, gx_i x1)]) (st2 := []) ?_ ?_ (fun kk1 hT1 hE1 => ?_)
  · refine gx_aload_n (pc := 20) (n := 0) (i := 0) rfl 1 rfl (htX16_read_0 (20, .aload_n 0, 1) (gx_m 10 rfl)) ?_
    refine gx_iconst (pc := 21) (v := 1) (by decide) (htX16_read_0 (21, .iconst 1, 1) (gx_m 11 rfl)) ?_
    refine gx_Jci (pc := 22) (gx_hst (as := [gx_i 1]) (b := gx_r 17 (some x0))) (gx_runV (as := [gx_i 1]) (ci := 16) (ct_X16_no Y x0 1) (by decide) (Or.inl rfl) rfl rfl rfl rfl q2062 q2064 qs46 q117 q2065 rfl dd_X16_no (by decide) (by decide) (Nat.le_of_ble_eq_true rfl) (htX16_read_0 (22, .invokevirtual 370, 3) (gx_m 12 rfl))) (fun v5 => ?_)
    exact gx_Jiret (pc := 25) rfl (fun _ => trivial) (fun _ _ => rfl) (htX16_read_0 (25, .ireturn, 1) (gx_m 13 rfl))
  · refine gx_aload_n (pc := 26) (n := 0) (i := 0) rfl 1 rfl (htX16_read_0 (26, .aload_n 0, 1) (gx_m 14 rfl)) ?_
    refine gx_iload_n (pc := 27) (n := 1) (i := 1) rfl 2 rfl (htX16_read_0 (27, .iload_n 1, 1) (gx_m 15 rfl)) ?_
    refine gx_Jcz (pc := 28) (gx_hst (as := [gx_i x1]) (b := gx_r 17 (some x0))) (gx_runV (as := [gx_i x1]) (ci := 16) (ct_X16_up Y x0 x1) (by decide) (Or.inl rfl) rfl rfl rfl rfl q2113 q2115 qs51 q117 q2116 rfl dd_X16_up (by decide) (by decide) (Nat.le_of_ble_eq_true rfl) (htX16_read_0 (28, .invokevirtual 532, 3) (gx_m 16 rfl))) (fun v6 hv6 => ?_)
    refine gx_if_ne (pc := 31) (y := 0) (tgt := 40) (by decide) (htX16_read_0 (31, .ifCond .ne 9, 3) (gx_m 17 rfl)) (fun c2 => ?_) (fun c2 => ?_)
    · refine gx_aload_n (pc := 34) (n := 0) (i := 0) rfl 1 rfl (htX16_read_0 (34, .aload_n 0, 1) (gx_m 18 rfl)) ?_
      refine gx_iconst (pc := 35) (v := 3) (by decide) (htX16_read_0 (35, .iconst 3, 1) (gx_m 19 rfl)) ?_
      refine gx_Jci (pc := 36) (gx_hst (as := [gx_i 3]) (b := gx_r 17 (some x0))) (gx_runV (as := [gx_i 3]) (ci := 16) (ct_X16_no Y x0 3) (by decide) (Or.inl rfl) rfl rfl rfl rfl q2062 q2064 qs46 q117 q2065 rfl dd_X16_no (by decide) (by decide) (Nat.le_of_ble_eq_true rfl) (htX16_read_0 (36, .invokevirtual 370, 3) (gx_m 20 rfl))) (fun v7 => ?_)
      exact gx_Jiret (pc := 39) rfl (fun _ => trivial) (fun _ _ => rfl) (htX16_read_0 (39, .ireturn, 1) (gx_m 21 rfl))
    · refine gx_aload_n (pc := 40) (n := 0) (i := 0) rfl 1 rfl (htX16_read_0 (40, .aload_n 0, 1) (gx_m 22 rfl)) ?_
      refine gx_Jgs (pc := 41) (ci := 16) (kk := 45) (t2 := 100) (by decide) (by decide) rfl rfl rfl q1719 (htX16_read_0 (41, .getfield 124, 3) (gx_m 23 rfl)) ?_
      refine gx_iload_n (pc := 44) (n := 1) (i := 1) rfl 2 rfl (htX16_read_0 (44, .iload_n 1, 1) (gx_m 24 rfl)) ?_
      refine gx_Jia (pc := 45) (htX16_read_0 (45, .iaload, 1) (gx_m 25 rfl)) (fun v8 => ?_)
      refine gx_iconst (pc := 46) (v := 2) (by decide) (htX16_read_0 (46, .iconst 2, 1) (gx_m 26 rfl)) ?_
      refine gx_Jcond (pcT := 70) (pcE := 76) (lv2 := [(2, gx_i v1), (0, gx_r 17 (some x0)), (1, gx_i x1)]) (st2 := []) ?_ ?_ (fun kk3 hT3 hE3 => ?_)
      · refine gx_aload_n (pc := 70) (n := 0) (i := 0) rfl 1 rfl (htX16_read_0 (70, .aload_n 0, 1) (gx_m 40 rfl)) ?_
        refine gx_iconst (pc := 71) (v := 2) (by decide) (htX16_read_0 (71, .iconst 2, 1) (gx_m 41 rfl)) ?_
        refine gx_Jci (pc := 72) (gx_hst (as := [gx_i 2]) (b := gx_r 17 (some x0))) (gx_runV (as := [gx_i 2]) (ci := 16) (ct_X16_no Y x0 2) (by decide) (Or.inl rfl) rfl rfl rfl rfl q2062 q2064 qs46 q117 q2065 rfl dd_X16_no (by decide) (by decide) (Nat.le_of_ble_eq_true rfl) (htX16_read_0 (72, .invokevirtual 370, 3) (gx_m 42 rfl))) (fun v13 => ?_)
        exact gx_Jiret (pc := 75) rfl (fun _ => trivial) (fun _ _ => rfl) (htX16_read_0 (75, .ireturn, 1) (gx_m 43 rfl))
      · refine gx_aload_n (pc := 76) (n := 0) (i := 0) rfl 1 rfl (htX16_read_0 (76, .aload_n 0, 1) (gx_m 44 rfl)) ?_
        refine gx_iload_n (pc := 77) (n := 1) (i := 1) rfl 2 rfl (htX16_read_0 (77, .iload_n 1, 1) (gx_m 45 rfl)) ?_
        refine gx_Jci (pc := 78) (gx_hst (as := [gx_i x1]) (b := gx_r 17 (some x0))) (gx_runV (as := [gx_i x1]) (ci := 16) (ct_X16_readsWaiting Y x0 x1) (by decide) (Or.inl rfl) rfl rfl rfl rfl q2331 q2333 qs94 q117 q2334 rfl dd_X16_readsWaiting (by decide) (by decide) (Nat.le_of_ble_eq_true rfl) (htX16_read_0 (78, .invokevirtual 563, 3) (gx_m 46 rfl))) (fun v14 => ?_)
        refine gx_bipush (pc := 81) (v := 16) (by decide) (htX16_read_0 (81, .bipush 16, 2) (gx_m 47 rfl)) ?_
        refine gx_icmp_ne (pc := 83) (tgt := 92) (by decide) (htX16_read_0 (83, .if_icmp .ne 9, 3) (gx_m 48 rfl)) (fun c4 => ?_) (fun c4 => ?_)
        · refine gx_aload_n (pc := 86) (n := 0) (i := 0) rfl 1 rfl (htX16_read_0 (86, .aload_n 0, 1) (gx_m 49 rfl)) ?_
          refine gx_iconst (pc := 87) (v := 4) (by decide) (htX16_read_0 (87, .iconst 4, 1) (gx_m 50 rfl)) ?_
          refine gx_Jci (pc := 88) (gx_hst (as := [gx_i 4]) (b := gx_r 17 (some x0))) (gx_runV (as := [gx_i 4]) (ci := 16) (ct_X16_no Y x0 4) (by decide) (Or.inl rfl) rfl rfl rfl rfl q2062 q2064 qs46 q117 q2065 rfl dd_X16_no (by decide) (by decide) (Nat.le_of_ble_eq_true rfl) (htX16_read_0 (88, .invokevirtual 370, 3) (gx_m 51 rfl))) (fun v15 => ?_)
          exact gx_Jiret (pc := 91) rfl (fun _ => trivial) (fun _ _ => rfl) (htX16_read_0 (91, .ireturn, 1) (gx_m 52 rfl))
        · refine gx_aload_n (pc := 92) (n := 0) (i := 0) rfl 1 rfl (htX16_read_0 (92, .aload_n 0, 1) (gx_m 53 rfl)) ?_
          refine gx_iconst (pc := 93) (v := 0) (by decide) (htX16_read_0 (93, .iconst 0, 1) (gx_m 54 rfl)) ?_
          refine gx_Jpi (pc := 94) (ci := 16) (kk := 0) (by decide) (Or.inl rfl) (by decide) rfl rfl q1674 (Or.inl rfl) (htX16_read_0 (94, .putfield 312, 3) (gx_m 55 rfl)) ?_
          refine gx_aload_n (pc := 97) (n := 0) (i := 0) rfl 1 rfl (htX16_read_0 (97, .aload_n 0, 1) (gx_m 56 rfl)) ?_
          refine gx_Jgi (pc := 98) (ci := 16) (kk := 93) (by decide) (Or.inl rfl) (by decide) (by decide) q1767 (htX16_read_0 (98, .getfield 339, 3) (gx_m 57 rfl)) (fun v16 hv16 => ?_)
          refine gx_istore_n (pc := 101) (n := 3) (i := 3) (lv' := [(3, gx_i v16), (2, gx_i v1), (0, gx_r 17 (some x0)), (1, gx_i x1)]) rfl (by decide) rfl (htX16_read_0 (101, .istore_n 3, 1) (gx_m 58 rfl)) ?_
          refine gx_aload_n (pc := 102) (n := 0) (i := 0) rfl 2 rfl (htX16_read_0 (102, .aload_n 0, 1) (gx_m 59 rfl)) ?_
          refine gx_dup (pc := 103) rfl (htX16_read_0 (103, .dup, 1) (gx_m 60 rfl)) ?_
          refine gx_Jgi (pc := 104) (ci := 16) (kk := 93) (by decide) (Or.inl rfl) (by decide) (by decide) q1767 (htX16_read_0 (104, .getfield 339, 3) (gx_m 61 rfl)) (fun v17 hv17 => ?_)
          refine gx_iconst (pc := 107) (v := 1) (by decide) (htX16_read_0 (107, .iconst 1, 1) (gx_m 62 rfl)) ?_
          refine gx_iadd (pc := 108) (htX16_read_0 (108, .iadd, 1) (gx_m 63 rfl)) ?_
          refine gx_Jpi (pc := 109) (ci := 16) (kk := 93) (by decide) (Or.inl rfl) (by decide) rfl rfl q1767 (Or.inl rfl) (htX16_read_0 (109, .putfield 339, 3) (gx_m 64 rfl)) ?_
          refine gx_aload_n (pc := 112) (n := 0) (i := 0) rfl 2 rfl (htX16_read_0 (112, .aload_n 0, 1) (gx_m 65 rfl)) ?_
          refine gx_Jgs (pc := 113) (ci := 16) (kk := 82) (t2 := 100) (by decide) (by decide) rfl rfl rfl q1756 (htX16_read_0 (113, .getfield 224, 3) (gx_m 66 rfl)) ?_
          refine gx_iload_n (pc := 116) (n := 3) (i := 3) rfl 0 rfl (htX16_read_0 (116, .iload_n 3, 1) (gx_m 67 rfl)) ?_
          refine gx_iload_n (pc := 117) (n := 1) (i := 1) rfl 3 rfl (htX16_read_0 (117, .iload_n 1, 1) (gx_m 68 rfl)) ?_
          refine gx_Jis (pc := 118) (htX16_read_0 (118, .iastore, 1) (gx_m 69 rfl)) ?_
          refine gx_aload_n (pc := 119) (n := 0) (i := 0) rfl 2 rfl (htX16_read_0 (119, .aload_n 0, 1) (gx_m 70 rfl)) ?_
          refine gx_Jgs (pc := 120) (ci := 16) (kk := 83) (t2 := 100) (by decide) (by decide) rfl rfl rfl q1757 (htX16_read_0 (120, .getfield 227, 3) (gx_m 71 rfl)) ?_
          refine gx_iload_n (pc := 123) (n := 3) (i := 3) rfl 0 rfl (htX16_read_0 (123, .iload_n 3, 1) (gx_m 72 rfl)) ?_
          refine gx_aload_n (pc := 124) (n := 0) (i := 0) rfl 2 rfl (htX16_read_0 (124, .aload_n 0, 1) (gx_m 73 rfl)) ?_
          refine gx_Jgs (pc := 125) (ci := 16) (kk := 94) (t2 := 100) (by decide) (by decide) rfl rfl rfl q1768 (htX16_read_0 (125, .getfield 258, 3) (gx_m 74 rfl)) ?_
          refine gx_iload_n (pc := 128) (n := 1) (i := 1) rfl 3 rfl (htX16_read_0 (128, .iload_n 1, 1) (gx_m 75 rfl)) ?_
          refine gx_Jia (pc := 129) (htX16_read_0 (129, .iaload, 1) (gx_m 76 rfl)) (fun v18 => ?_)
          refine gx_Jis (pc := 130) (htX16_read_0 (130, .iastore, 1) (gx_m 77 rfl)) ?_
          refine gx_aload_n (pc := 131) (n := 0) (i := 0) rfl 2 rfl (htX16_read_0 (131, .aload_n 0, 1) (gx_m 78 rfl)) ?_
          refine gx_Jgs (pc := 132) (ci := 16) (kk := 94) (t2 := 100) (by decide) (by decide) rfl rfl rfl q1768 (htX16_read_0 (132, .getfield 258, 3) (gx_m 79 rfl)) ?_
          refine gx_iload_n (pc := 135) (n := 1) (i := 1) rfl 3 rfl (htX16_read_0 (135, .iload_n 1, 1) (gx_m 80 rfl)) ?_
          refine gx_dup2 (pc := 136) rfl rfl (htX16_read_0 (136, .dup2, 1) (gx_m 81 rfl)) ?_
          refine gx_Jia (pc := 137) (htX16_read_0 (137, .iaload, 1) (gx_m 82 rfl)) (fun v19 => ?_)
          refine gx_iconst (pc := 138) (v := 1) (by decide) (htX16_read_0 (138, .iconst 1, 1) (gx_m 83 rfl)) ?_
          refine gx_iadd (pc := 139) (htX16_read_0 (139, .iadd, 1) (gx_m 84 rfl)) ?_
          refine gx_Jis (pc := 140) (htX16_read_0 (140, .iastore, 1) (gx_m 85 rfl)) ?_
          refine gx_aload_n (pc := 141) (n := 0) (i := 0) rfl 2 rfl (htX16_read_0 (141, .aload_n 0, 1) (gx_m 86 rfl)) ?_
          refine gx_Jgs (pc := 142) (ci := 16) (kk := 84) (t2 := 100) (by decide) (by decide) rfl rfl rfl q1758 (htX16_read_0 (142, .getfield 230, 3) (gx_m 87 rfl)) ?_
          refine gx_iload_n (pc := 145) (n := 3) (i := 3) rfl 0 rfl (htX16_read_0 (145, .iload_n 3, 1) (gx_m 88 rfl)) ?_
          refine gx_aload_n (pc := 146) (n := 0) (i := 0) rfl 2 rfl (htX16_read_0 (146, .aload_n 0, 1) (gx_m 89 rfl)) ?_
          refine gx_Jgi (pc := 147) (ci := 16) (kk := 115) (by decide) (Or.inl rfl) (by decide) (by decide) q1789 (htX16_read_0 (147, .getfield 345, 3) (gx_m 90 rfl)) (fun v20 hv20 => ?_)
          refine gx_Jis (pc := 150) (htX16_read_0 (150, .iastore, 1) (gx_m 91 rfl)) ?_
          refine gx_aload_n (pc := 151) (n := 0) (i := 0) rfl 2 rfl (htX16_read_0 (151, .aload_n 0, 1) (gx_m 92 rfl)) ?_
          refine gx_Jgs (pc := 152) (ci := 16) (kk := 51) (t2 := 100) (by decide) (by decide) rfl rfl rfl q1725 (htX16_read_0 (152, .getfield 142, 3) (gx_m 93 rfl)) ?_
          refine gx_iload_n (pc := 155) (n := 1) (i := 1) rfl 3 rfl (htX16_read_0 (155, .iload_n 1, 1) (gx_m 94 rfl)) ?_
          refine gx_dup2 (pc := 156) rfl rfl (htX16_read_0 (156, .dup2, 1) (gx_m 95 rfl)) ?_
          refine gx_Jia (pc := 157) (htX16_read_0 (157, .iaload, 1) (gx_m 96 rfl)) (fun v21 => ?_)
          refine gx_iconst (pc := 158) (v := 1) (by decide) (htX16_read_0 (158, .iconst 1, 1) (gx_m 97 rfl)) ?_
          refine gx_iadd (pc := 159) (htX16_read_0 (159, .iadd, 1) (gx_m 98 rfl)) ?_
          refine gx_Jis (pc := 160) (htX16_read_0 (160, .iastore, 1) (gx_m 99 rfl)) ?_
          refine gx_aload_n (pc := 161) (n := 0) (i := 0) rfl 2 rfl (htX16_read_1 (161, .aload_n 0, 1) (gx_m 0 rfl)) ?_
          refine gx_Jgs (pc := 162) (ci := 16) (kk := 85) (t2 := 100) (by decide) (by decide) rfl rfl rfl q1759 (htX16_read_1 (162, .getfield 233, 3) (gx_m 1 rfl)) ?_
          refine gx_iload_n (pc := 165) (n := 3) (i := 3) rfl 0 rfl (htX16_read_1 (165, .iload_n 3, 1) (gx_m 2 rfl)) ?_
          refine gx_aload_n (pc := 166) (n := 0) (i := 0) rfl 2 rfl (htX16_read_1 (166, .aload_n 0, 1) (gx_m 3 rfl)) ?_
          refine gx_Jgs (pc := 167) (ci := 16) (kk := 51) (t2 := 100) (by decide) (by decide) rfl rfl rfl q1725 (htX16_read_1 (167, .getfield 142, 3) (gx_m 4 rfl)) ?_
          refine gx_iload_n (pc := 170) (n := 1) (i := 1) rfl 3 rfl (htX16_read_1 (170, .iload_n 1, 1) (gx_m 5 rfl)) ?_
          refine gx_Jia (pc := 171) (htX16_read_1 (171, .iaload, 1) (gx_m 6 rfl)) (fun v22 => ?_)
          refine gx_Jis (pc := 172) (htX16_read_1 (172, .iastore, 1) (gx_m 7 rfl)) ?_
          refine gx_aload_n (pc := 173) (n := 0) (i := 0) rfl 2 rfl (htX16_read_1 (173, .aload_n 0, 1) (gx_m 8 rfl)) ?_
          refine gx_Jgs (pc := 174) (ci := 16) (kk := 87) (t2 := 102) (by decide) (by decide) rfl rfl rfl q1761 (htX16_read_1 (174, .getfield 239, 3) (gx_m 9 rfl)) ?_
          refine gx_iload_n (pc := 177) (n := 3) (i := 3) rfl 0 rfl (htX16_read_1 (177, .iload_n 3, 1) (gx_m 10 rfl)) ?_
          refine gx_iconst (pc := 178) (v := 0) (by decide) (htX16_read_1 (178, .iconst 0, 1) (gx_m 11 rfl)) ?_
          refine gx_Jzs (pc := 179) (htX16_read_1 (179, .bastore, 1) (gx_m 12 rfl)) ?_
          refine gx_aload_n (pc := 180) (n := 0) (i := 0) rfl 2 rfl (htX16_read_1 (180, .aload_n 0, 1) (gx_m 13 rfl)) ?_
          refine gx_Jgs (pc := 181) (ci := 16) (kk := 86) (t2 := 100) (by decide) (by decide) rfl rfl rfl q1760 (htX16_read_1 (181, .getfield 236, 3) (gx_m 14 rfl)) ?_
          refine gx_iload_n (pc := 184) (n := 3) (i := 3) rfl 0 rfl (htX16_read_1 (184, .iload_n 3, 1) (gx_m 15 rfl)) ?_
          refine gx_aload_n (pc := 185) (n := 0) (i := 0) rfl 2 rfl (htX16_read_1 (185, .aload_n 0, 1) (gx_m 16 rfl)) ?_
          refine gx_Jgi (pc := 186) (ci := 16) (kk := 5) (by decide) (Or.inl rfl) (by decide) (by decide) q1679 (htX16_read_1 (186, .getfield 364, 3) (gx_m 17 rfl)) (fun v23 hv23 => ?_)
          refine gx_Jis (pc := 189) (htX16_read_1 (189, .iastore, 1) (gx_m 18 rfl)) ?_
          refine gx_iconst (pc := 190) (v := 0) (by decide) (htX16_read_1 (190, .iconst 0, 1) (gx_m 19 rfl)) ?_
          refine gx_istore (pc := 191) (i := 4) (lv' := [(4, gx_i 0), (3, gx_i v16), (2, gx_i v1), (0, gx_r 17 (some x0)), (1, gx_i x1)]) (by decide) rfl (htX16_read_1 (191, .istore 4, 2) (gx_m 20 rfl)) ?_
          refine gx_Jjoin (pcJ := 227) (lvJ := fun (j_5 : Unit) => [(0, gx_r 17 (some x0)), (1, gx_i x1), (3, gx_i v16)]) (stJ := fun (j_5 : Unit) => []) (fun _ => True) (fun j_5 _ => ?_) (fun kk5 hj5 => ?_)
          · refine gx_aload_n (pc := 227) (n := 0) (i := 0) rfl 0 rfl (htX16_read_1 (227, .aload_n 0, 1) (gx_m 39 rfl)) ?_
            refine gx_iload_n (pc := 228) (n := 1) (i := 1) rfl 1 rfl (htX16_read_1 (228, .iload_n 1, 1) (gx_m 40 rfl)) ?_
            refine gx_Jcv (pc := 229) (gx_hst (as := [gx_i x1]) (b := gx_r 17 (some x0))) (gx_runV (as := [gx_i x1]) (ci := 16) (ct_X16_appendAll Y x0 x1) (by decide) (Or.inl rfl) rfl rfl rfl rfl q2130 q2132 qs55 q117 q2133 rfl dd_X16_appendAll (by decide) (by decide) (Nat.le_of_ble_eq_true rfl) (htX16_read_1 (229, .invokevirtual 501, 3) (gx_m 41 rfl))) ?_
            refine gx_aload_n (pc := 232) (n := 0) (i := 0) rfl 0 rfl (htX16_read_1 (232, .aload_n 0, 1) (gx_m 42 rfl)) ?_
            refine gx_iload_n (pc := 233) (n := 1) (i := 1) rfl 1 rfl (htX16_read_1 (233, .iload_n 1, 1) (gx_m 43 rfl)) ?_
            refine gx_Jcv (pc := 234) (gx_hst (as := [gx_i x1]) (b := gx_r 17 (some x0))) (gx_runV (as := [gx_i x1]) (ci := 16) (ct_X16_lookAtReads Y x0 x1) (by decide) (Or.inl rfl) rfl rfl rfl rfl q2252 q2254 qs78 q117 q2255 rfl dd_X16_lookAtReads (by decide) (by decide) (Nat.le_of_ble_eq_true rfl) (htX16_read_1 (234, .invokevirtual 525, 3) (gx_m 44 rfl))) ?_
            refine gx_aload_n (pc := 237) (n := 0) (i := 0) rfl 0 rfl (htX16_read_1 (237, .aload_n 0, 1) (gx_m 45 rfl)) ?_
            refine gx_Jgs (pc := 238) (ci := 16) (kk := 83) (t2 := 100) (by decide) (by decide) rfl rfl rfl q1757 (htX16_read_1 (238, .getfield 227, 3) (gx_m 46 rfl)) ?_
            refine gx_iload_n (pc := 241) (n := 3) (i := 3) rfl 2 rfl (htX16_read_1 (241, .iload_n 3, 1) (gx_m 47 rfl)) ?_
            refine gx_Jia (pc := 242) (htX16_read_1 (242, .iaload, 1) (gx_m 48 rfl)) (fun v27 => ?_)
            exact gx_Jiret (pc := 243) rfl (fun _ => trivial) (fun _ _ => rfl) (htX16_read_1 (243, .ireturn, 1) (gx_m 49 rfl))
          · refine gx_Jw (lv := [(0, gx_r 17 (some x0)), (1, gx_i x1), (3, gx_i v16), (4, gx_i 0)]) [3, 4, 1, 0] rfl ?_
            refine gx_Jlp (pc := 193) (lvh := fun (s24 : Int32) => [(0, gx_r 17 (some x0)), (1, gx_i x1), (3, gx_i v16), (4, gx_i s24)]) (fun s24 kl5 ha5 hb5 => ?_) _
            unfold lb_X16_read_1
            refine gx_iload (pc := 193) (i := 4) 3 rfl (htX16_read_1 (193, .iload 4, 2) (gx_m 21 rfl)) ?_
            refine gx_aload_n (pc := 195) (n := 0) (i := 0) rfl 0 rfl (htX16_read_1 (195, .aload_n 0, 1) (gx_m 22 rfl)) ?_
            refine gx_Jgi (pc := 196) (ci := 16) (kk := 5) (by decide) (Or.inl rfl) (by decide) (by decide) q1679 (htX16_read_1 (196, .getfield 364, 3) (gx_m 23 rfl)) (fun v25 hv25 => ?_)
            refine gx_icmp_ge (pc := 199) (tgt := 227) (by decide) (htX16_read_1 (199, .if_icmp .ge 28, 3) (gx_m 24 rfl)) (fun c6 => ?_) (fun c6 => ?_)
            · refine gx_Jw (lv := [(0, gx_r 17 (some x0)), (1, gx_i x1), (3, gx_i v16)]) [0, 1, 2] rfl ?_
              exact gx_Jout hb5 (hj5 () trivial)
            · refine gx_aload_n (pc := 202) (n := 0) (i := 0) rfl 0 rfl (htX16_read_1 (202, .aload_n 0, 1) (gx_m 25 rfl)) ?_
              refine gx_Jgs (pc := 203) (ci := 16) (kk := 92) (t2 := 101) (by decide) (by decide) rfl rfl rfl q1766 (htX16_read_1 (203, .getfield 255, 3) (gx_m 26 rfl)) ?_
              refine gx_bipush (pc := 206) (v := 32) (by decide) (htX16_read_1 (206, .bipush 32, 2) (gx_m 27 rfl)) ?_
              refine gx_iload_n (pc := 208) (n := 3) (i := 3) rfl 2 rfl (htX16_read_1 (208, .iload_n 3, 1) (gx_m 28 rfl)) ?_
              refine gx_imul (pc := 209) (htX16_read_1 (209, .imul, 1) (gx_m 29 rfl)) ?_
              refine gx_iload (pc := 210) (i := 4) 3 rfl (htX16_read_1 (210, .iload 4, 2) (gx_m 30 rfl)) ?_
              refine gx_iadd (pc := 212) (htX16_read_1 (212, .iadd, 1) (gx_m 31 rfl)) ?_
              refine gx_aload_n (pc := 213) (n := 0) (i := 0) rfl 0 rfl (htX16_read_1 (213, .aload_n 0, 1) (gx_m 32 rfl)) ?_
              refine gx_Jgs (pc := 214) (ci := 16) (kk := 2) (t2 := 101) (by decide) (by decide) rfl rfl rfl q1676 (htX16_read_1 (214, .getfield 13, 3) (gx_m 33 rfl)) ?_
              refine gx_iload (pc := 217) (i := 4) 3 rfl (htX16_read_1 (217, .iload 4, 2) (gx_m 34 rfl)) ?_
              refine gx_Jba (pc := 219) (htX16_read_1 (219, .baload, 1) (gx_m 35 rfl)) (fun v26 => ?_)
              refine gx_Jbs (pc := 220) (htX16_read_1 (220, .bastore, 1) (gx_m 36 rfl)) ?_
              refine gx_iinc (pc := 221) (i := 4) (j := 3) (v := (s24 + 1)) (lv' := [(4, gx_i (s24 + 1)), (0, gx_r 17 (some x0)), (1, gx_i x1), (3, gx_i v16)]) rfl (gx_iv (by decide)) (by decide) rfl (htX16_read_1 (221, .iinc 4 1, 3) (gx_m 37 rfl)) ?_
              refine gx_goto (pc := 224) (tgt := 193) (by decide) (htX16_read_1 (224, .goto (-31), 3) (gx_m 38 rfl)) ?_
              refine gx_Jw (lv := [(0, gx_r 17 (some x0)), (1, gx_i x1), (3, gx_i v16), (4, gx_i (s24 + 1))]) [1, 2, 3, 0] rfl ?_
              exact ha5 ((s24 + 1) : Int32)
      · refine gx_icmp_ne (pc := 47) (tgt := 70) (by decide) (htX16_read_0 (47, .if_icmp .ne 23, 3) (gx_m 27 rfl)) (fun c7 => ?_) (fun c7 => ?_)
        · refine gx_aload_n (pc := 50) (n := 0) (i := 0) rfl 1 rfl (htX16_read_0 (50, .aload_n 0, 1) (gx_m 28 rfl)) ?_
          refine gx_iload_n (pc := 51) (n := 1) (i := 1) rfl 2 rfl (htX16_read_0 (51, .iload_n 1, 1) (gx_m 29 rfl)) ?_
          refine gx_aload_n (pc := 52) (n := 0) (i := 0) rfl 1 rfl (htX16_read_0 (52, .aload_n 0, 1) (gx_m 30 rfl)) ?_
          refine gx_Jgs (pc := 53) (ci := 16) (kk := 47) (t2 := 100) (by decide) (by decide) rfl rfl rfl q1721 (htX16_read_0 (53, .getfield 130, 3) (gx_m 31 rfl)) ?_
          refine gx_iload_n (pc := 56) (n := 1) (i := 1) rfl 2 rfl (htX16_read_0 (56, .iload_n 1, 1) (gx_m 32 rfl)) ?_
          refine gx_Jia (pc := 57) (htX16_read_0 (57, .iaload, 1) (gx_m 33 rfl)) (fun v9 => ?_)
          refine gx_Jci (pc := 58) (gx_hst (as := [gx_i x1, gx_i v9]) (b := gx_r 17 (some x0))) (gx_runV (as := [gx_i x1, gx_i v9]) (ci := 16) (ct_X16_termAt Y x0 x1 v9) (by decide) (Or.inl rfl) rfl rfl rfl rfl q2150 q2152 qs60 q117 q2153 rfl dd_X16_termAt (by decide) (by decide) (Nat.le_of_ble_eq_true rfl) (htX16_read_0 (58, .invokevirtual 461, 3) (gx_m 34 rfl))) (fun v10 => ?_)
          refine gx_aload_n (pc := 61) (n := 0) (i := 0) rfl 1 rfl (htX16_read_0 (61, .aload_n 0, 1) (gx_m 35 rfl)) ?_
          refine gx_Jgs (pc := 62) (ci := 16) (kk := 31) (t2 := 100) (by decide) (by decide) rfl rfl rfl q1705 (htX16_read_0 (62, .getfield 80, 3) (gx_m 36 rfl)) ?_
          refine gx_iload_n (pc := 65) (n := 1) (i := 1) rfl 2 rfl (htX16_read_0 (65, .iload_n 1, 1) (gx_m 37 rfl)) ?_
          refine gx_Jia (pc := 66) (htX16_read_0 (66, .iaload, 1) (gx_m 38 rfl)) (fun v11 => ?_)
          refine gx_icmp_eq (pc := 67) (tgt := 76) (by decide) (htX16_read_0 (67, .if_icmp .eq 9, 3) (gx_m 39 rfl)) (fun c8 => ?_) (fun c8 => ?_)
          · exact hE3
          · exact hT3
        · exact hT3
  · refine gx_icmp_ne (pc := 7) (tgt := 20) (by decide) (htX16_read_0 (7, .if_icmp .ne 13, 3) (gx_m 5 rfl)) (fun c9 => ?_) (fun c9 => ?_)
    · refine gx_aload_n (pc := 10) (n := 0) (i := 0) rfl 1 rfl (htX16_read_0 (10, .aload_n 0, 1) (gx_m 6 rfl)) ?_
      refine gx_Jgi (pc := 11) (ci := 16) (kk := 5) (by decide) (Or.inl rfl) (by decide) (by decide) q1679 (htX16_read_0 (11, .getfield 364, 3) (gx_m 7 rfl)) (fun v2 hv2 => ?_)
      refine gx_Jcz (pc := 14) (gx_hstS (as := [gx_i v2])) (gx_runS (as := [gx_i v2]) (ct_X16_isKey Y v2) rfl rfl rfl q2078 q2079 q117 q2080 rfl dd_X16_isKey (by decide) (by decide) (Nat.le_of_ble_eq_true rfl) (htX16_read_0 (14, .invokestatic 382, 3) (gx_m 8 rfl))) (fun v3 hv3 => ?_)
      refine gx_if_ne (pc := 17) (y := 0) (tgt := 26) (by decide) (htX16_read_0 (17, .ifCond .ne 9, 3) (gx_m 9 rfl)) (fun c10 => ?_) (fun c10 => ?_)
      · exact hT1
      · exact hE1
    · exact hT1
theorem ct_X16_answer (Y : gx_Y) (x0 : gx_Nm) (x1 : Int32) (x2 : Int32) (x3 : Int32) : gx_Ct Y yX16_answer (ws_ yX16_answer cX16_answer 5 (some .int)) 2 121 [gx_r 17 (some x0), gx_i x1, gx_i x2, gx_i x3] gx_Oi (f_X16_answer x0 x1 x2 x3) := by
  refine gx_start (lv := [(0, gx_r 17 (some x0)), (1, gx_i x1), (2, gx_i x2), (3, gx_i x3)]) gx_Oi_r pn_X16 (Nat.le_of_ble_eq_true rfl) rfl ?_
  unfold f_X16_answer
  refine gx_iload_n (pc := 0) (n := 3) (i := 3) rfl 3 rfl (htX16_answer (0, .iload_n 3, 1) (gx_m 0 rfl)) ?_
  refine gx_Jcond (pcT := 9) (pcE := 15) (lv2 := [(0, gx_r 17 (some x0)), (1, gx_i x1), (2, gx_i x2), (3, gx_i x3)]) (st2 := []) ?_ ?_ (fun kk1 hT1 hE1 => ?_)
  · refine gx_aload_n (pc := 9) (n := 0) (i := 0) rfl 0 rfl (htX16_answer (9, .aload_n 0, 1) (gx_m 5 rfl)) ?_
    refine gx_iconst (pc := 10) (v := 1) (by decide) (htX16_answer (10, .iconst 1, 1) (gx_m 6 rfl)) ?_
    refine gx_Jci (pc := 11) (gx_hst (as := [gx_i 1]) (b := gx_r 17 (some x0))) (gx_runV (as := [gx_i 1]) (ci := 16) (ct_X16_no Y x0 1) (by decide) (Or.inl rfl) rfl rfl rfl rfl q2062 q2064 qs46 q117 q2065 rfl dd_X16_no (by decide) (by decide) (Nat.le_of_ble_eq_true rfl) (htX16_answer (11, .invokevirtual 370, 3) (gx_m 7 rfl))) (fun v2 => ?_)
    exact gx_Jiret (pc := 14) rfl (fun _ => trivial) (fun _ _ => rfl) (htX16_answer (14, .ireturn, 1) (gx_m 8 rfl))
  · refine gx_iconst (pc := 15) (v := 0) (by decide) (htX16_answer (15, .iconst 0, 1) (gx_m 9 rfl)) ?_
    refine gx_istore (pc := 16) (i := 4) (lv' := [(4, gx_i 0), (0, gx_r 17 (some x0)), (1, gx_i x1), (2, gx_i x2), (3, gx_i x3)]) (by decide) rfl (htX16_answer (16, .istore 4, 2) (gx_m 10 rfl)) ?_
    refine gx_JjoinE (pcJ := 129) (lvJ := fun (j_2 : Unit) => [(0, gx_r 17 (some x0))]) (stJ := fun (j_2 : Unit) => []) (gr := fun r => gx_rt r) (fun _ => rfl) (fun _ => rfl) (fun j_2 => ?_) (fun kk2 hj2 he2 => ?_)
    · refine gx_aload_n (pc := 129) (n := 0) (i := 0) rfl 0 rfl (htX16_answer (129, .aload_n 0, 1) (gx_m 68 rfl)) ?_
      refine gx_iconst (pc := 130) (v := 2) (by decide) (htX16_answer (130, .iconst 2, 1) (gx_m 69 rfl)) ?_
      refine gx_Jci (pc := 131) (gx_hst (as := [gx_i 2]) (b := gx_r 17 (some x0))) (gx_runV (as := [gx_i 2]) (ci := 16) (ct_X16_no Y x0 2) (by decide) (Or.inl rfl) rfl rfl rfl rfl q2062 q2064 qs46 q117 q2065 rfl dd_X16_no (by decide) (by decide) (Nat.le_of_ble_eq_true rfl) (htX16_answer (131, .invokevirtual 370, 3) (gx_m 70 rfl))) (fun v15 => ?_)
      exact gx_Jiret (pc := 134) rfl (fun _ => trivial) (fun _ _ => rfl) (htX16_answer (134, .ireturn, 1) (gx_m 71 rfl))
    · refine gx_Jw (lv := [(0, gx_r 17 (some x0)), (1, gx_i x1), (2, gx_i x2), (3, gx_i x3), (4, gx_i 0)]) [1, 2, 3, 4, 0] rfl ?_
      refine gx_Jlp (pc := 18) (lvh := fun (s3 : Int32) => [(0, gx_r 17 (some x0)), (1, gx_i x1), (2, gx_i x2), (3, gx_i x3), (4, gx_i s3)]) (fun s3 kl2 ha2 hb2 => ?_) _
      unfold lb_X16_answer_1
      refine gx_iload (pc := 18) (i := 4) 4 rfl (htX16_answer (18, .iload 4, 2) (gx_m 11 rfl)) ?_
      refine gx_aload_n (pc := 20) (n := 0) (i := 0) rfl 0 rfl (htX16_answer (20, .aload_n 0, 1) (gx_m 12 rfl)) ?_
      refine gx_Jgi (pc := 21) (ci := 16) (kk := 93) (by decide) (Or.inl rfl) (by decide) (by decide) q1767 (htX16_answer (21, .getfield 339, 3) (gx_m 13 rfl)) (fun v4 hv4 => ?_)
      refine gx_icmp_ge (pc := 24) (tgt := 129) (by decide) (htX16_answer (24, .if_icmp .ge 105, 3) (gx_m 14 rfl)) (fun c3 => ?_) (fun c3 => ?_)
      · refine gx_Jw (lv := [(0, gx_r 17 (some x0))]) [0] rfl ?_
        exact gx_Jout hb2 (hj2 ())
      · refine gx_iload_n (pc := 27) (n := 1) (i := 1) rfl 1 rfl (htX16_answer (27, .iload_n 1, 1) (gx_m 15 rfl)) ?_
        refine gx_if_lt (pc := 28) (y := 0) (tgt := 129) (by decide) (htX16_answer (28, .ifCond .lt 101, 3) (gx_m 16 rfl)) (fun c4 => ?_) (fun c4 => ?_)
        · refine gx_Jw (lv := [(0, gx_r 17 (some x0))]) [0] rfl ?_
          exact gx_Jout hb2 (hj2 ())
        · refine gx_aload_n (pc := 31) (n := 0) (i := 0) rfl 0 rfl (htX16_answer (31, .aload_n 0, 1) (gx_m 17 rfl)) ?_
          refine gx_Jgs (pc := 32) (ci := 16) (kk := 82) (t2 := 100) (by decide) (by decide) rfl rfl rfl q1756 (htX16_answer (32, .getfield 224, 3) (gx_m 18 rfl)) ?_
          refine gx_iload (pc := 35) (i := 4) 4 rfl (htX16_answer (35, .iload 4, 2) (gx_m 19 rfl)) ?_
          refine gx_Jia (pc := 37) (htX16_answer (37, .iaload, 1) (gx_m 20 rfl)) (fun v5 => ?_)
          refine gx_iload_n (pc := 38) (n := 1) (i := 1) rfl 1 rfl (htX16_answer (38, .iload_n 1, 1) (gx_m 21 rfl)) ?_
          refine gx_icmp_ne (pc := 39) (tgt := 123) (by decide) (htX16_answer (39, .if_icmp .ne 84, 3) (gx_m 22 rfl)) (fun c5 => ?_) (fun c5 => ?_)
          · refine gx_aload_n (pc := 42) (n := 0) (i := 0) rfl 0 rfl (htX16_answer (42, .aload_n 0, 1) (gx_m 23 rfl)) ?_
            refine gx_Jgs (pc := 43) (ci := 16) (kk := 83) (t2 := 100) (by decide) (by decide) rfl rfl rfl q1757 (htX16_answer (43, .getfield 227, 3) (gx_m 24 rfl)) ?_
            refine gx_iload (pc := 46) (i := 4) 4 rfl (htX16_answer (46, .iload 4, 2) (gx_m 25 rfl)) ?_
            refine gx_Jia (pc := 48) (htX16_answer (48, .iaload, 1) (gx_m 26 rfl)) (fun v6 => ?_)
            refine gx_iload_n (pc := 49) (n := 2) (i := 2) rfl 2 rfl (htX16_answer (49, .iload_n 2, 1) (gx_m 27 rfl)) ?_
            refine gx_icmp_ne (pc := 50) (tgt := 123) (by decide) (htX16_answer (50, .if_icmp .ne 73, 3) (gx_m 28 rfl)) (fun c6 => ?_) (fun c6 => ?_)
            · refine gx_aload_n (pc := 53) (n := 0) (i := 0) rfl 0 rfl (htX16_answer (53, .aload_n 0, 1) (gx_m 29 rfl)) ?_
              refine gx_Jgs (pc := 54) (ci := 16) (kk := 87) (t2 := 102) (by decide) (by decide) rfl rfl rfl q1761 (htX16_answer (54, .getfield 239, 3) (gx_m 30 rfl)) ?_
              refine gx_iload (pc := 57) (i := 4) 4 rfl (htX16_answer (57, .iload 4, 2) (gx_m 31 rfl)) ?_
              refine gx_Jza (pc := 59) (htX16_answer (59, .baload, 1) (gx_m 32 rfl)) (fun v7 => ?_)
              refine gx_if_ne (pc := 60) (y := 0) (tgt := 66) (by decide) (htX16_answer (60, .ifCond .ne 6, 3) (gx_m 33 rfl)) (fun c7 => ?_) (fun c7 => ?_)
              · refine gx_goto (pc := 63) (tgt := 123) (by decide) (htX16_answer (63, .goto 60, 3) (gx_m 34 rfl)) ?_
                refine gx_iinc (pc := 123) (i := 4) (j := 4) (v := (s3 + 1)) (lv' := [(4, gx_i (s3 + 1)), (0, gx_r 17 (some x0)), (1, gx_i x1), (2, gx_i x2), (3, gx_i x3)]) rfl (gx_iv (by decide)) (by decide) rfl (htX16_answer (123, .iinc 4 1, 3) (gx_m 66 rfl)) ?_
                refine gx_goto (pc := 126) (tgt := 18) (by decide) (htX16_answer (126, .goto (-108), 3) (gx_m 67 rfl)) ?_
                refine gx_Jw (lv := [(0, gx_r 17 (some x0)), (1, gx_i x1), (2, gx_i x2), (3, gx_i x3), (4, gx_i (s3 + 1))]) [1, 2, 3, 4, 0] rfl ?_
                exact ha2 ((s3 + 1) : Int32)
              · refine gx_aload_n (pc := 66) (n := 0) (i := 0) rfl 0 rfl (htX16_answer (66, .aload_n 0, 1) (gx_m 35 rfl)) ?_
                refine gx_iconst (pc := 67) (v := 0) (by decide) (htX16_answer (67, .iconst 0, 1) (gx_m 36 rfl)) ?_
                refine gx_Jpi (pc := 68) (ci := 16) (kk := 0) (by decide) (Or.inl rfl) (by decide) rfl rfl q1674 (Or.inl rfl) (htX16_answer (68, .putfield 312, 3) (gx_m 37 rfl)) ?_
                refine gx_iload_n (pc := 71) (n := 3) (i := 3) rfl 3 rfl (htX16_answer (71, .iload_n 3, 1) (gx_m 38 rfl)) ?_
                refine gx_Jjoin (pcJ := 122) (lvJ := fun (j12 : Int32) => []) (stJ := fun (j12 : Int32) => [gx_i j12]) (fun _ => True) (fun j12 hj12 => ?_) (fun kk8 hj8 => ?_)
                · refine gx_Jret ((hb2 _).trans (he2 _)) ?_
                  exact gx_Jiret (pc := 122) rfl (fun _ => trivial) (fun _ _ => rfl) (htX16_answer (122, .ireturn, 1) (gx_m 65 rfl))
                · refine gx_if_ne (pc := 72) (y := 0) (tgt := 85) (by decide) (htX16_answer (72, .ifCond .ne 13, 3) (gx_m 39 rfl)) (fun c9 => ?_) (fun c9 => ?_)
                  · refine gx_aload_n (pc := 75) (n := 0) (i := 0) rfl 0 rfl (htX16_answer (75, .aload_n 0, 1) (gx_m 40 rfl)) ?_
                    refine gx_Jgs (pc := 76) (ci := 16) (kk := 88) (t2 := 100) (by decide) (by decide) rfl rfl rfl q1762 (htX16_answer (76, .getfield 242, 3) (gx_m 41 rfl)) ?_
                    refine gx_iload (pc := 79) (i := 4) 4 rfl (htX16_answer (79, .iload 4, 2) (gx_m 42 rfl)) ?_
                    refine gx_Jia (pc := 81) (htX16_answer (81, .iaload, 1) (gx_m 43 rfl)) (fun v8 => ?_)
                    refine gx_goto (pc := 82) (tgt := 122) (by decide) (htX16_answer (82, .goto 40, 3) (gx_m 44 rfl)) ?_
                    refine gx_Jw (lv := []) [] rfl ?_
                    exact hj8 (v8 : Int32) trivial
                  · refine gx_iload_n (pc := 85) (n := 3) (i := 3) rfl 3 rfl (htX16_answer (85, .iload_n 3, 1) (gx_m 45 rfl)) ?_
                    refine gx_iconst (pc := 86) (v := 1) (by decide) (htX16_answer (86, .iconst 1, 1) (gx_m 46 rfl)) ?_
                    refine gx_icmp_ne (pc := 87) (tgt := 100) (by decide) (htX16_answer (87, .if_icmp .ne 13, 3) (gx_m 47 rfl)) (fun c10 => ?_) (fun c10 => ?_)
                    · refine gx_aload_n (pc := 90) (n := 0) (i := 0) rfl 0 rfl (htX16_answer (90, .aload_n 0, 1) (gx_m 48 rfl)) ?_
                      refine gx_Jgs (pc := 91) (ci := 16) (kk := 89) (t2 := 100) (by decide) (by decide) rfl rfl rfl q1763 (htX16_answer (91, .getfield 245, 3) (gx_m 49 rfl)) ?_
                      refine gx_iload (pc := 94) (i := 4) 4 rfl (htX16_answer (94, .iload 4, 2) (gx_m 50 rfl)) ?_
                      refine gx_Jia (pc := 96) (htX16_answer (96, .iaload, 1) (gx_m 51 rfl)) (fun v9 => ?_)
                      refine gx_goto (pc := 97) (tgt := 122) (by decide) (htX16_answer (97, .goto 25, 3) (gx_m 52 rfl)) ?_
                      refine gx_Jw (lv := []) [] rfl ?_
                      exact hj8 (v9 : Int32) trivial
                    · refine gx_iload_n (pc := 100) (n := 3) (i := 3) rfl 3 rfl (htX16_answer (100, .iload_n 3, 1) (gx_m 53 rfl)) ?_
                      refine gx_iconst (pc := 101) (v := 2) (by decide) (htX16_answer (101, .iconst 2, 1) (gx_m 54 rfl)) ?_
                      refine gx_icmp_ne (pc := 102) (tgt := 115) (by decide) (htX16_answer (102, .if_icmp .ne 13, 3) (gx_m 55 rfl)) (fun c11 => ?_) (fun c11 => ?_)
                      · refine gx_aload_n (pc := 105) (n := 0) (i := 0) rfl 0 rfl (htX16_answer (105, .aload_n 0, 1) (gx_m 56 rfl)) ?_
                        refine gx_Jgs (pc := 106) (ci := 16) (kk := 90) (t2 := 100) (by decide) (by decide) rfl rfl rfl q1764 (htX16_answer (106, .getfield 248, 3) (gx_m 57 rfl)) ?_
                        refine gx_iload (pc := 109) (i := 4) 4 rfl (htX16_answer (109, .iload 4, 2) (gx_m 58 rfl)) ?_
                        refine gx_Jia (pc := 111) (htX16_answer (111, .iaload, 1) (gx_m 59 rfl)) (fun v10 => ?_)
                        refine gx_goto (pc := 112) (tgt := 122) (by decide) (htX16_answer (112, .goto 10, 3) (gx_m 60 rfl)) ?_
                        refine gx_Jw (lv := []) [] rfl ?_
                        exact hj8 (v10 : Int32) trivial
                      · refine gx_aload_n (pc := 115) (n := 0) (i := 0) rfl 0 rfl (htX16_answer (115, .aload_n 0, 1) (gx_m 61 rfl)) ?_
                        refine gx_Jgs (pc := 116) (ci := 16) (kk := 91) (t2 := 100) (by decide) (by decide) rfl rfl rfl q1765 (htX16_answer (116, .getfield 251, 3) (gx_m 62 rfl)) ?_
                        refine gx_iload (pc := 119) (i := 4) 4 rfl (htX16_answer (119, .iload 4, 2) (gx_m 63 rfl)) ?_
                        refine gx_Jia (pc := 121) (htX16_answer (121, .iaload, 1) (gx_m 64 rfl)) (fun v11 => ?_)
                        refine gx_Jw (lv := []) [] rfl ?_
                        exact hj8 (v11 : Int32) trivial
            · refine gx_iinc (pc := 123) (i := 4) (j := 4) (v := (s3 + 1)) (lv' := [(4, gx_i (s3 + 1)), (0, gx_r 17 (some x0)), (1, gx_i x1), (2, gx_i x2), (3, gx_i x3)]) rfl (gx_iv (by decide)) (by decide) rfl (htX16_answer (123, .iinc 4 1, 3) (gx_m 66 rfl)) ?_
              refine gx_goto (pc := 126) (tgt := 18) (by decide) (htX16_answer (126, .goto (-108), 3) (gx_m 67 rfl)) ?_
              refine gx_Jw (lv := [(0, gx_r 17 (some x0)), (1, gx_i x1), (2, gx_i x2), (3, gx_i x3), (4, gx_i (s3 + 1))]) [1, 2, 3, 4, 0] rfl ?_
              exact ha2 ((s3 + 1) : Int32)
          · refine gx_iinc (pc := 123) (i := 4) (j := 4) (v := (s3 + 1)) (lv' := [(4, gx_i (s3 + 1)), (0, gx_r 17 (some x0)), (1, gx_i x1), (2, gx_i x2), (3, gx_i x3)]) rfl (gx_iv (by decide)) (by decide) rfl (htX16_answer (123, .iinc 4 1, 3) (gx_m 66 rfl)) ?_
            refine gx_goto (pc := 126) (tgt := 18) (by decide) (htX16_answer (126, .goto (-108), 3) (gx_m 67 rfl)) ?_
            refine gx_Jw (lv := [(0, gx_r 17 (some x0)), (1, gx_i x1), (2, gx_i x2), (3, gx_i x3), (4, gx_i (s3 + 1))]) [1, 2, 3, 4, 0] rfl ?_
            exact ha2 ((s3 + 1) : Int32)
  · refine gx_if_lt (pc := 1) (y := 0) (tgt := 9) (by decide) (htX16_answer (1, .ifCond .lt 8, 3) (gx_m 1 rfl)) (fun c12 => ?_) (fun c12 => ?_)
    · exact hT1
    · refine gx_iload_n (pc := 4) (n := 3) (i := 3) rfl 3 rfl (htX16_answer (4, .iload_n 3, 1) (gx_m 2 rfl)) ?_
      refine gx_iconst (pc := 5) (v := 3) (by decide) (htX16_answer (5, .iconst 3, 1) (gx_m 3 rfl)) ?_
      refine gx_icmp_le (pc := 6) (tgt := 15) (by decide) (htX16_answer (6, .if_icmp .le 9, 3) (gx_m 4 rfl)) (fun c13 => ?_) (fun c13 => ?_)
      · exact hE1
      · exact hT1
theorem ct_X16_at (Y : gx_Y) (x0 : gx_Nm) (x1 : Int32) (x2 : Int32) (x3 : Int32) (x4 : Int32) : gx_Ct Y yX16_at (ws_ yX16_at cX16_at 5 (some .int)) 8 273 [gx_r 17 (some x0), gx_i x1, gx_i x2, gx_i x3, gx_i x4] gx_Oi (f_X16_at x0 x1 x2 x3 x4) := by
  refine gx_start (lv := [(0, gx_r 17 (some x0)), (1, gx_i x1), (2, gx_i x2), (3, gx_i x3), (4, gx_i x4)]) gx_Oi_r pn_X16 (Nat.le_of_ble_eq_true rfl) rfl ?_
  unfold f_X16_at
  refine gx_aload_n (pc := 0) (n := 0) (i := 0) rfl 0 rfl (htX16_at (0, .aload_n 0, 1) (gx_m 0 rfl)) ?_
  refine gx_iload_n (pc := 1) (n := 1) (i := 1) rfl 1 rfl (htX16_at (1, .iload_n 1, 1) (gx_m 1 rfl)) ?_
  refine gx_Jcz (pc := 2) (gx_hst (as := [gx_i x1]) (b := gx_r 17 (some x0))) (gx_runV (as := [gx_i x1]) (ci := 16) (ct_X16_up Y x0 x1) (by decide) (Or.inl rfl) rfl rfl rfl rfl q2113 q2115 qs51 q117 q2116 rfl dd_X16_up (by decide) (by decide) (Nat.le_of_ble_eq_true rfl) (htX16_at (2, .invokevirtual 532, 3) (gx_m 2 rfl))) (fun v1 hv1 => ?_)
  refine gx_if_ne (pc := 5) (y := 0) (tgt := 10) (by decide) (htX16_at (5, .ifCond .ne 5, 3) (gx_m 3 rfl)) (fun c1 => ?_) (fun c1 => ?_)
  · refine gx_iload_n (pc := 8) (n := 3) (i := 3) rfl 3 rfl (htX16_at (8, .iload_n 3, 1) (gx_m 4 rfl)) ?_
    exact gx_Jiret (pc := 9) rfl (fun _ => trivial) (fun _ _ => rfl) (htX16_at (9, .ireturn, 1) (gx_m 5 rfl))
  · refine gx_aload_n (pc := 10) (n := 0) (i := 0) rfl 0 rfl (htX16_at (10, .aload_n 0, 1) (gx_m 6 rfl)) ?_
    refine gx_iload_n (pc := 11) (n := 1) (i := 1) rfl 1 rfl (htX16_at (11, .iload_n 1, 1) (gx_m 7 rfl)) ?_
    refine gx_Jcv (pc := 12) (gx_hst (as := [gx_i x1]) (b := gx_r 17 (some x0))) (gx_runV (as := [gx_i x1]) (ci := 16) (ct_X16_now Y x0 x1) (by decide) (Or.inl rfl) rfl rfl rfl rfl q2256 q2258 qs79 q117 q2259 rfl dd_X16_now (by decide) (by decide) (Nat.le_of_ble_eq_true rfl) (htX16_at (12, .invokevirtual 507, 3) (gx_m 8 rfl))) ?_
    refine gx_iload_n (pc := 15) (n := 2) (i := 2) rfl 2 rfl (htX16_at (15, .iload_n 2, 1) (gx_m 9 rfl)) ?_
    refine gx_aload_n (pc := 16) (n := 0) (i := 0) rfl 0 rfl (htX16_at (16, .aload_n 0, 1) (gx_m 10 rfl)) ?_
    refine gx_Jgi (pc := 17) (ci := 16) (kk := 108) (by decide) (Or.inl rfl) (by decide) (by decide) q1782 (htX16_at (17, .getfield 433, 3) (gx_m 11 rfl)) (fun v2 hv2 => ?_)
    refine gx_Jcond (pcT := 37) (pcE := 40) (lv2 := [(0, gx_r 17 (some x0)), (1, gx_i x1), (2, gx_i x2), (3, gx_i x3), (4, gx_i x4)]) (st2 := []) ?_ ?_ (fun kk2 hT2 hE2 => ?_)
    · refine gx_iload (pc := 37) (i := 4) 4 rfl (htX16_at (37, .iload 4, 2) (gx_m 21 rfl)) ?_
      exact gx_Jiret (pc := 39) rfl (fun _ => trivial) (fun _ _ => rfl) (htX16_at (39, .ireturn, 1) (gx_m 22 rfl))
    · refine gx_iload_n (pc := 40) (n := 2) (i := 2) rfl 2 rfl (htX16_at (40, .iload_n 2, 1) (gx_m 23 rfl)) ?_
      refine gx_Jjoin (pcJ := 66) (lvJ := fun (j_3 : Unit) => []) (stJ := fun (j_3 : Unit) => []) (fun _ => True) (fun j_3 hj_3 => ?_) (fun kk3 hj3 => ?_)
      · refine gx_iconst (pc := 66) (v := 0) (by decide) (htX16_at (66, .iconst 0, 1) (gx_m 37 rfl)) ?_
        exact gx_Jiret (pc := 67) rfl (fun _ => trivial) (fun _ _ => rfl) (htX16_at (67, .ireturn, 1) (gx_m 38 rfl))
      · refine gx_if_eq (pc := 41) (y := 0) (tgt := 66) (by decide) (htX16_at (41, .ifCond .eq 25, 3) (gx_m 24 rfl)) (fun c4 => ?_) (fun c4 => ?_)
        · refine gx_Jw (lv := []) [] rfl ?_
          exact hj3 () trivial
        · refine gx_iload_n (pc := 44) (n := 2) (i := 2) rfl 2 rfl (htX16_at (44, .iload_n 2, 1) (gx_m 25 rfl)) ?_
          refine gx_aload_n (pc := 45) (n := 0) (i := 0) rfl 0 rfl (htX16_at (45, .aload_n 0, 1) (gx_m 26 rfl)) ?_
          refine gx_Jgi (pc := 46) (ci := 16) (kk := 108) (by decide) (Or.inl rfl) (by decide) (by decide) q1782 (htX16_at (46, .getfield 433, 3) (gx_m 27 rfl)) (fun v5 hv5 => ?_)
          refine gx_icmp_ge (pc := 49) (tgt := 66) (by decide) (htX16_at (49, .if_icmp .ge 17, 3) (gx_m 28 rfl)) (fun c5 => ?_) (fun c5 => ?_)
          · refine gx_Jw (lv := []) [] rfl ?_
            exact hj3 () trivial
          · refine gx_aload_n (pc := 52) (n := 0) (i := 0) rfl 0 rfl (htX16_at (52, .aload_n 0, 1) (gx_m 29 rfl)) ?_
            refine gx_aload_n (pc := 53) (n := 0) (i := 0) rfl 0 rfl (htX16_at (53, .aload_n 0, 1) (gx_m 30 rfl)) ?_
            refine gx_Jgs (pc := 54) (ci := 16) (kk := 48) (t2 := 100) (by decide) (by decide) rfl rfl rfl q1722 (htX16_at (54, .getfield 133, 3) (gx_m 31 rfl)) ?_
            refine gx_iload_n (pc := 57) (n := 1) (i := 1) rfl 1 rfl (htX16_at (57, .iload_n 1, 1) (gx_m 32 rfl)) ?_
            refine gx_Jia (pc := 58) (htX16_at (58, .iaload, 1) (gx_m 33 rfl)) (fun v6 => ?_)
            refine gx_sipush (pc := 59) (v := 1501) (by decide) (htX16_at (59, .sipush 1501, 3) (gx_m 34 rfl)) ?_
            refine gx_iload_n (pc := 62) (n := 2) (i := 2) rfl 2 rfl (htX16_at (62, .iload_n 2, 1) (gx_m 35 rfl)) ?_
            refine gx_Jcv (pc := 63) (gx_hst (as := [gx_i v6, gx_i 1501, gx_i x2]) (b := gx_r 17 (some x0))) (gx_runV (as := [gx_i v6, gx_i 1501, gx_i x2]) (ci := 16) (ct_X16_store Y x0 v6 1501 x2) (by decide) (Or.inl rfl) rfl rfl rfl rfl q2260 q2262 qs80 q117 q2263 rfl dd_X16_store (by decide) (by decide) (Nat.le_of_ble_eq_true rfl) (htX16_at (63, .invokevirtual 454, 3) (gx_m 36 rfl))) ?_
            refine gx_Jw (lv := []) [] rfl ?_
            exact hj3 () trivial
    · refine gx_icmp_gt (pc := 20) (tgt := 37) (by decide) (htX16_at (20, .if_icmp .gt 17, 3) (gx_m 12 rfl)) (fun c6 => ?_) (fun c6 => ?_)
      · exact hT2
      · refine gx_iload_n (pc := 23) (n := 2) (i := 2) rfl 2 rfl (htX16_at (23, .iload_n 2, 1) (gx_m 13 rfl)) ?_
        refine gx_if_eq (pc := 24) (y := 0) (tgt := 40) (by decide) (htX16_at (24, .ifCond .eq 16, 3) (gx_m 14 rfl)) (fun c7 => ?_) (fun c7 => ?_)
        · exact hE2
        · refine gx_iload_n (pc := 27) (n := 2) (i := 2) rfl 2 rfl (htX16_at (27, .iload_n 2, 1) (gx_m 15 rfl)) ?_
          refine gx_aload_n (pc := 28) (n := 0) (i := 0) rfl 0 rfl (htX16_at (28, .aload_n 0, 1) (gx_m 16 rfl)) ?_
          refine gx_Jgs (pc := 29) (ci := 16) (kk := 50) (t2 := 100) (by decide) (by decide) rfl rfl rfl q1724 (htX16_at (29, .getfield 139, 3) (gx_m 17 rfl)) ?_
          refine gx_iload_n (pc := 32) (n := 1) (i := 1) rfl 1 rfl (htX16_at (32, .iload_n 1, 1) (gx_m 18 rfl)) ?_
          refine gx_Jia (pc := 33) (htX16_at (33, .iaload, 1) (gx_m 19 rfl)) (fun v3 => ?_)
          refine gx_icmp_ge (pc := 34) (tgt := 40) (by decide) (htX16_at (34, .if_icmp .ge 6, 3) (gx_m 20 rfl)) (fun c8 => ?_) (fun c8 => ?_)
          · exact hE2
          · exact hT2
theorem ct_X16_pair (Y : gx_Y) (x0 : gx_Nm) (x1 : Int32) (x2 : Int32) (x3 : Int32) : gx_Ct Y yX16_pair (ws_ yX16_pair cX16_pair 7 (some .int)) 9 297 [gx_r 17 (some x0), gx_i x1, gx_i x2, gx_i x3] gx_Oi (f_X16_pair x0 x1 x2 x3) := by
  refine gx_start (lv := [(0, gx_r 17 (some x0)), (1, gx_i x1), (2, gx_i x2), (3, gx_i x3)]) gx_Oi_r pn_X16 (Nat.le_of_ble_eq_true rfl) rfl ?_
  unfold f_X16_pair
  refine gx_aload_n (pc := 0) (n := 0) (i := 0) rfl 0 rfl (htX16_pair (0, .aload_n 0, 1) (gx_m 0 rfl)) ?_
  refine gx_Jci (pc := 1) (gx_hst (as := []) (b := gx_r 17 (some x0))) (gx_runV (as := []) (ci := 16) (ct_X16_taken Y x0) (by decide) (Or.inl rfl) rfl rfl rfl rfl q2074 q2076 qs47 q117 q2077 rfl dd_X16_taken (by decide) (by decide) (Nat.le_of_ble_eq_true rfl) (htX16_pair (1, .invokevirtual 378, 3) (gx_m 1 rfl))) (fun v1 => ?_)
  refine gx_istore (pc := 4) (i := 4) (lv' := [(4, gx_i v1), (0, gx_r 17 (some x0)), (1, gx_i x1), (2, gx_i x2), (3, gx_i x3)]) (by decide) rfl (htX16_pair (4, .istore 4, 2) (gx_m 2 rfl)) ?_
  refine gx_iload (pc := 6) (i := 4) 0 rfl (htX16_pair (6, .iload 4, 2) (gx_m 3 rfl)) ?_
  refine gx_iconst (pc := 8) (v := 1) (by decide) (htX16_pair (8, .iconst 1, 1) (gx_m 4 rfl)) ?_
  refine gx_Jcond (pcT := 35) (pcE := 41) (lv2 := [(4, gx_i v1), (0, gx_r 17 (some x0)), (1, gx_i x1), (2, gx_i x2), (3, gx_i x3)]) (st2 := []) ?_ ?_ (fun kk1 hT1 hE1 => ?_)
  · refine gx_aload_n (pc := 35) (n := 0) (i := 0) rfl 1 rfl (htX16_pair (35, .aload_n 0, 1) (gx_m 17 rfl)) ?_
    refine gx_iconst (pc := 36) (v := 1) (by decide) (htX16_pair (36, .iconst 1, 1) (gx_m 18 rfl)) ?_
    refine gx_Jci (pc := 37) (gx_hst (as := [gx_i 1]) (b := gx_r 17 (some x0))) (gx_runV (as := [gx_i 1]) (ci := 16) (ct_X16_no Y x0 1) (by decide) (Or.inl rfl) rfl rfl rfl rfl q2062 q2064 qs46 q117 q2065 rfl dd_X16_no (by decide) (by decide) (Nat.le_of_ble_eq_true rfl) (htX16_pair (37, .invokevirtual 370, 3) (gx_m 19 rfl))) (fun v5 => ?_)
    exact gx_Jiret (pc := 40) rfl (fun _ => trivial) (fun _ _ => rfl) (htX16_pair (40, .ireturn, 1) (gx_m 20 rfl))
  · refine gx_aload_n (pc := 41) (n := 0) (i := 0) rfl 1 rfl (htX16_pair (41, .aload_n 0, 1) (gx_m 21 rfl)) ?_
    refine gx_iload_n (pc := 42) (n := 1) (i := 1) rfl 2 rfl (htX16_pair (42, .iload_n 1, 1) (gx_m 22 rfl)) ?_
    refine gx_iload_n (pc := 43) (n := 2) (i := 2) rfl 3 rfl (htX16_pair (43, .iload_n 2, 1) (gx_m 23 rfl)) ?_
    refine gx_iconst (pc := 44) (v := 3) (by decide) (htX16_pair (44, .iconst 3, 1) (gx_m 24 rfl)) ?_
    refine gx_iconst (pc := 45) (v := 2) (by decide) (htX16_pair (45, .iconst 2, 1) (gx_m 25 rfl)) ?_
    refine gx_Jci (pc := 46) (gx_hst (as := [gx_i x1, gx_i x2, gx_i 3, gx_i 2]) (b := gx_r 17 (some x0))) (gx_runV (as := [gx_i x1, gx_i x2, gx_i 3, gx_i 2]) (ci := 16) (ct_X16_at Y x0 x1 x2 3 2) (by decide) (Or.inl rfl) rfl rfl rfl rfl q2343 q2345 qs95 q117 q2346 rfl dd_X16_at (by decide) (by decide) (Nat.le_of_ble_eq_true rfl) (htX16_pair (46, .invokevirtual 566, 3) (gx_m 26 rfl))) (fun v6 => ?_)
    refine gx_istore (pc := 49) (i := 5) (lv' := [(5, gx_i v6), (4, gx_i v1), (0, gx_r 17 (some x0)), (1, gx_i x1), (2, gx_i x2), (3, gx_i x3)]) (by decide) rfl (htX16_pair (49, .istore 5, 2) (gx_m 27 rfl)) ?_
    refine gx_iload (pc := 51) (i := 5) 0 rfl (htX16_pair (51, .iload 5, 2) (gx_m 28 rfl)) ?_
    refine gx_if_eq (pc := 53) (y := 0) (tgt := 63) (by decide) (htX16_pair (53, .ifCond .eq 10, 3) (gx_m 29 rfl)) (fun c2 => ?_) (fun c2 => ?_)
    · refine gx_aload_n (pc := 63) (n := 0) (i := 0) rfl 2 rfl (htX16_pair (63, .aload_n 0, 1) (gx_m 34 rfl)) ?_
      refine gx_iconst (pc := 64) (v := 0) (by decide) (htX16_pair (64, .iconst 0, 1) (gx_m 35 rfl)) ?_
      refine gx_Jpi (pc := 65) (ci := 16) (kk := 0) (by decide) (Or.inl rfl) (by decide) rfl rfl q1674 (Or.inl rfl) (htX16_pair (65, .putfield 312, 3) (gx_m 36 rfl)) ?_
      refine gx_aload_n (pc := 68) (n := 0) (i := 0) rfl 2 rfl (htX16_pair (68, .aload_n 0, 1) (gx_m 37 rfl)) ?_
      refine gx_aload_n (pc := 69) (n := 0) (i := 0) rfl 2 rfl (htX16_pair (69, .aload_n 0, 1) (gx_m 38 rfl)) ?_
      refine gx_Jgs (pc := 70) (ci := 16) (kk := 2) (t2 := 101) (by decide) (by decide) rfl rfl rfl q1676 (htX16_pair (70, .getfield 13, 3) (gx_m 39 rfl)) ?_
      refine gx_iconst (pc := 73) (v := 0) (by decide) (htX16_pair (73, .iconst 0, 1) (gx_m 40 rfl)) ?_
      refine gx_aload_n (pc := 74) (n := 0) (i := 0) rfl 2 rfl (htX16_pair (74, .aload_n 0, 1) (gx_m 41 rfl)) ?_
      refine gx_Jgi (pc := 75) (ci := 16) (kk := 5) (by decide) (Or.inl rfl) (by decide) (by decide) q1679 (htX16_pair (75, .getfield 364, 3) (gx_m 42 rfl)) (fun v7 hv7 => ?_)
      refine gx_Jci (pc := 78) (gx_hst (as := [gx_r 101 (some (2 :: x0)), gx_i 0, gx_i v7]) (b := gx_r 17 (some x0))) (gx_runV (as := [gx_r 101 (some (2 :: x0)), gx_i 0, gx_i v7]) (ci := 16) (ct_X16_findPair Y x0 (2 :: x0) 0 v7) (by decide) (Or.inl rfl) rfl rfl rfl rfl q2280 q2282 qs85 q117 q2283 rfl dd_X16_findPair (by decide) (by decide) (Nat.le_of_ble_eq_true rfl) (htX16_pair (78, .invokevirtual 408, 3) (gx_m 43 rfl))) (fun v8 => ?_)
      refine gx_istore (pc := 81) (i := 6) (lv' := [(6, gx_i v8), (5, gx_i v6), (4, gx_i v1), (0, gx_r 17 (some x0)), (1, gx_i x1), (2, gx_i x2), (3, gx_i x3)]) (by decide) rfl (htX16_pair (81, .istore 6, 2) (gx_m 44 rfl)) ?_
      refine gx_iload (pc := 83) (i := 6) 0 rfl (htX16_pair (83, .iload 6, 2) (gx_m 45 rfl)) ?_
      refine gx_if_ge (pc := 85) (y := 0) (tgt := 90) (by decide) (htX16_pair (85, .ifCond .ge 5, 3) (gx_m 46 rfl)) (fun c3 => ?_) (fun c3 => ?_)
      · refine gx_iload_n (pc := 90) (n := 3) (i := 3) rfl 6 rfl (htX16_pair (90, .iload_n 3, 1) (gx_m 49 rfl)) ?_
        refine gx_Jite (fun c4 => ?_) (fun c4 => ?_)
        · refine gx_Jtab (pc := 91) (tgt := 124) (htX16_pair (91, .tableswitch 67 0 4 #[33, 35, 43, 51, 59], 33) (gx_m 50 rfl)) (by decide) (gx_tD c4 (by decide)) (gx_tI c4 (by decide)) ?_
          refine gx_iconst (pc := 124) (v := 1) (by decide) (htX16_pair (124, .iconst 1, 1) (gx_m 51 rfl)) ?_
          exact gx_Jiret (pc := 125) rfl (fun _ => trivial) (fun _ _ => rfl) (htX16_pair (125, .ireturn, 1) (gx_m 52 rfl))
        · refine gx_Jite (fun c5 => ?_) (fun c5 => ?_)
          · refine gx_Jtab (pc := 91) (tgt := 126) (htX16_pair (91, .tableswitch 67 0 4 #[33, 35, 43, 51, 59], 33) (gx_m 50 rfl)) (by decide) (gx_tD c5 (by decide)) (gx_tI c5 (by decide)) ?_
            refine gx_aload_n (pc := 126) (n := 0) (i := 0) rfl 3 rfl (htX16_pair (126, .aload_n 0, 1) (gx_m 53 rfl)) ?_
            refine gx_Jgs (pc := 127) (ci := 16) (kk := 101) (t2 := 100) (by decide) (by decide) rfl rfl rfl q1775 (htX16_pair (127, .getfield 276, 3) (gx_m 54 rfl)) ?_
            refine gx_iload (pc := 130) (i := 6) 0 rfl (htX16_pair (130, .iload 6, 2) (gx_m 55 rfl)) ?_
            refine gx_Jia (pc := 132) (htX16_pair (132, .iaload, 1) (gx_m 56 rfl)) (fun v9 => ?_)
            exact gx_Jiret (pc := 133) rfl (fun _ => trivial) (fun _ _ => rfl) (htX16_pair (133, .ireturn, 1) (gx_m 57 rfl))
          · refine gx_Jite (fun c6 => ?_) (fun c6 => ?_)
            · refine gx_Jtab (pc := 91) (tgt := 134) (htX16_pair (91, .tableswitch 67 0 4 #[33, 35, 43, 51, 59], 33) (gx_m 50 rfl)) (by decide) (gx_tD c6 (by decide)) (gx_tI c6 (by decide)) ?_
              refine gx_aload_n (pc := 134) (n := 0) (i := 0) rfl 3 rfl (htX16_pair (134, .aload_n 0, 1) (gx_m 58 rfl)) ?_
              refine gx_Jgs (pc := 135) (ci := 16) (kk := 102) (t2 := 100) (by decide) (by decide) rfl rfl rfl q1776 (htX16_pair (135, .getfield 279, 3) (gx_m 59 rfl)) ?_
              refine gx_iload (pc := 138) (i := 6) 0 rfl (htX16_pair (138, .iload 6, 2) (gx_m 60 rfl)) ?_
              refine gx_Jia (pc := 140) (htX16_pair (140, .iaload, 1) (gx_m 61 rfl)) (fun v10 => ?_)
              exact gx_Jiret (pc := 141) rfl (fun _ => trivial) (fun _ _ => rfl) (htX16_pair (141, .ireturn, 1) (gx_m 62 rfl))
            · refine gx_Jite (fun c7 => ?_) (fun c7 => ?_)
              · refine gx_Jtab (pc := 91) (tgt := 142) (htX16_pair (91, .tableswitch 67 0 4 #[33, 35, 43, 51, 59], 33) (gx_m 50 rfl)) (by decide) (gx_tD c7 (by decide)) (gx_tI c7 (by decide)) ?_
                refine gx_aload_n (pc := 142) (n := 0) (i := 0) rfl 3 rfl (htX16_pair (142, .aload_n 0, 1) (gx_m 63 rfl)) ?_
                refine gx_Jgs (pc := 143) (ci := 16) (kk := 103) (t2 := 100) (by decide) (by decide) rfl rfl rfl q1777 (htX16_pair (143, .getfield 282, 3) (gx_m 64 rfl)) ?_
                refine gx_iload (pc := 146) (i := 6) 0 rfl (htX16_pair (146, .iload 6, 2) (gx_m 65 rfl)) ?_
                refine gx_Jia (pc := 148) (htX16_pair (148, .iaload, 1) (gx_m 66 rfl)) (fun v11 => ?_)
                exact gx_Jiret (pc := 149) rfl (fun _ => trivial) (fun _ _ => rfl) (htX16_pair (149, .ireturn, 1) (gx_m 67 rfl))
              · refine gx_Jite (fun c8 => ?_) (fun c8 => ?_)
                · refine gx_Jtab (pc := 91) (tgt := 150) (htX16_pair (91, .tableswitch 67 0 4 #[33, 35, 43, 51, 59], 33) (gx_m 50 rfl)) (by decide) (gx_tD c8 (by decide)) (gx_tI c8 (by decide)) ?_
                  refine gx_aload_n (pc := 150) (n := 0) (i := 0) rfl 3 rfl (htX16_pair (150, .aload_n 0, 1) (gx_m 68 rfl)) ?_
                  refine gx_Jgs (pc := 151) (ci := 16) (kk := 104) (t2 := 100) (by decide) (by decide) rfl rfl rfl q1778 (htX16_pair (151, .getfield 285, 3) (gx_m 69 rfl)) ?_
                  refine gx_iload (pc := 154) (i := 6) 0 rfl (htX16_pair (154, .iload 6, 2) (gx_m 70 rfl)) ?_
                  refine gx_Jia (pc := 156) (htX16_pair (156, .iaload, 1) (gx_m 71 rfl)) (fun v12 => ?_)
                  exact gx_Jiret (pc := 157) rfl (fun _ => trivial) (fun _ _ => rfl) (htX16_pair (157, .ireturn, 1) (gx_m 72 rfl))
                · refine gx_Jtab (pc := 91) (tgt := 158) (htX16_pair (91, .tableswitch 67 0 4 #[33, 35, 43, 51, 59], 33) (gx_m 50 rfl)) (by decide) (fun _ => by decide) (gx_tN (ks := [0, 1, 2, 3, 4]) (by simp only [List.mem_cons, List.not_mem_nil, or_false, not_or]; exact ⟨c4, c5, c6, c7, c8⟩) (by decide)) ?_
                  refine gx_aload_n (pc := 158) (n := 0) (i := 0) rfl 3 rfl (htX16_pair (158, .aload_n 0, 1) (gx_m 73 rfl)) ?_
                  refine gx_Jgs (pc := 159) (ci := 16) (kk := 100) (t2 := 100) (by decide) (by decide) rfl rfl rfl q1774 (htX16_pair (159, .getfield 273, 3) (gx_m 74 rfl)) ?_
                  refine gx_iload (pc := 162) (i := 6) 0 rfl (htX16_pair (162, .iload 6, 2) (gx_m 75 rfl)) ?_
                  refine gx_Jia (pc := 164) (htX16_pair (164, .iaload, 1) (gx_m 76 rfl)) (fun v13 => ?_)
                  exact gx_Jiret (pc := 165) rfl (fun _ => trivial) (fun _ _ => rfl) (htX16_pair (165, .ireturn, 1) (gx_m 77 rfl))
      · refine gx_iconst (pc := 88) (v := 0) (by decide) (htX16_pair (88, .iconst 0, 1) (gx_m 47 rfl)) ?_
        exact gx_Jiret (pc := 89) rfl (fun _ => trivial) (fun _ _ => rfl) (htX16_pair (89, .ireturn, 1) (gx_m 48 rfl))
    · refine gx_aload_n (pc := 56) (n := 0) (i := 0) rfl 2 rfl (htX16_pair (56, .aload_n 0, 1) (gx_m 30 rfl)) ?_
      refine gx_iload (pc := 57) (i := 5) 0 rfl (htX16_pair (57, .iload 5, 2) (gx_m 31 rfl)) ?_
      refine gx_Jci (pc := 59) (gx_hst (as := [gx_i v6]) (b := gx_r 17 (some x0))) (gx_runV (as := [gx_i v6]) (ci := 16) (ct_X16_no Y x0 v6) (by decide) (Or.inl rfl) rfl rfl rfl rfl q2062 q2064 qs46 q117 q2065 rfl dd_X16_no (by decide) (by decide) (Nat.le_of_ble_eq_true rfl) (htX16_pair (59, .invokevirtual 370, 3) (gx_m 32 rfl))) (fun v14 => ?_)
      exact gx_Jiret (pc := 62) rfl (fun _ => trivial) (fun _ _ => rfl) (htX16_pair (62, .ireturn, 1) (gx_m 33 rfl))
  · refine gx_icmp_ne (pc := 9) (tgt := 35) (by decide) (htX16_pair (9, .if_icmp .ne 26, 3) (gx_m 5 rfl)) (fun c9 => ?_) (fun c9 => ?_)
    · refine gx_aload_n (pc := 12) (n := 0) (i := 0) rfl 1 rfl (htX16_pair (12, .aload_n 0, 1) (gx_m 6 rfl)) ?_
      refine gx_Jgi (pc := 13) (ci := 16) (kk := 5) (by decide) (Or.inl rfl) (by decide) (by decide) q1679 (htX16_pair (13, .getfield 364, 3) (gx_m 7 rfl)) (fun v2 hv2 => ?_)
      refine gx_Jcz (pc := 16) (gx_hstS (as := [gx_i v2])) (gx_runS (as := [gx_i v2]) (ct_X16_isKey Y v2) rfl rfl rfl q2078 q2079 q117 q2080 rfl dd_X16_isKey (by decide) (by decide) (Nat.le_of_ble_eq_true rfl) (htX16_pair (16, .invokestatic 382, 3) (gx_m 8 rfl))) (fun v3 hv3 => ?_)
      refine gx_if_eq (pc := 19) (y := 0) (tgt := 35) (by decide) (htX16_pair (19, .ifCond .eq 16, 3) (gx_m 9 rfl)) (fun c10 => ?_) (fun c10 => ?_)
      · exact hT1
      · refine gx_iload_n (pc := 22) (n := 3) (i := 3) rfl 4 rfl (htX16_pair (22, .iload_n 3, 1) (gx_m 10 rfl)) ?_
        refine gx_if_lt (pc := 23) (y := 0) (tgt := 35) (by decide) (htX16_pair (23, .ifCond .lt 12, 3) (gx_m 11 rfl)) (fun c11 => ?_) (fun c11 => ?_)
        · exact hT1
        · refine gx_iload_n (pc := 26) (n := 3) (i := 3) rfl 4 rfl (htX16_pair (26, .iload_n 3, 1) (gx_m 12 rfl)) ?_
          refine gx_iconst (pc := 27) (v := 5) (by decide) (htX16_pair (27, .iconst 5, 1) (gx_m 13 rfl)) ?_
          refine gx_icmp_gt (pc := 28) (tgt := 35) (by decide) (htX16_pair (28, .if_icmp .gt 7, 3) (gx_m 14 rfl)) (fun c12 => ?_) (fun c12 => ?_)
          · exact hT1
          · refine gx_iload_n (pc := 31) (n := 2) (i := 2) rfl 3 rfl (htX16_pair (31, .iload_n 2, 1) (gx_m 15 rfl)) ?_
            refine gx_if_ge (pc := 32) (y := 0) (tgt := 41) (by decide) (htX16_pair (32, .ifCond .ge 9, 3) (gx_m 16 rfl)) (fun c13 => ?_) (fun c13 => ?_)
            · exact hE1
            · exact hT1
    · exact hT1
theorem ct_X16_range (Y : gx_Y) (x0 : gx_Nm) (x1 : Int32) (x2 : Int32) (x3 : Int32) (x4 : Int32) (x5 : Int32) : gx_Ct Y yX16_range (ws_ yX16_range cX16_range 11 (some .int)) 9 297 [gx_r 17 (some x0), gx_i x1, gx_i x2, gx_i x3, gx_i x4, gx_i x5] gx_Oi (f_X16_range x0 x1 x2 x3 x4 x5) := by
  refine gx_start (lv := [(0, gx_r 17 (some x0)), (1, gx_i x1), (2, gx_i x2), (3, gx_i x3), (4, gx_i x4), (5, gx_i x5)]) gx_Oi_r pn_X16 (Nat.le_of_ble_eq_true rfl) rfl ?_
  unfold f_X16_range
  refine gx_aload_n (pc := 0) (n := 0) (i := 0) rfl 0 rfl (htX16_range_0 (0, .aload_n 0, 1) (gx_m 0 rfl)) ?_
  refine gx_Jci (pc := 1) (gx_hst (as := []) (b := gx_r 17 (some x0))) (gx_runV (as := []) (ci := 16) (ct_X16_taken Y x0) (by decide) (Or.inl rfl) rfl rfl rfl rfl q2074 q2076 qs47 q117 q2077 rfl dd_X16_taken (by decide) (by decide) (Nat.le_of_ble_eq_true rfl) (htX16_range_0 (1, .invokevirtual 378, 3) (gx_m 1 rfl))) (fun v1 => ?_)
  refine gx_istore (pc := 4) (i := 6) (lv' := [(6, gx_i v1), (0, gx_r 17 (some x0)), (1, gx_i x1), (2, gx_i x2), (3, gx_i x3), (4, gx_i x4), (5, gx_i x5)]) (by decide) rfl (htX16_range_0 (4, .istore 6, 2) (gx_m 2 rfl)) ?_
  refine gx_iload (pc := 6) (i := 6) 0 rfl (htX16_range_0 (6, .iload 6, 2) (gx_m 3 rfl)) ?_
  refine gx_iconst (pc := 8) (v := 2) (by decide) (htX16_range_0 (8, .iconst 2, 1) (gx_m 4 rfl)) ?_
  refine gx_Jcond (pcT := 44) (pcE := 50) (lv2 := [(6, gx_i v1), (0, gx_r 17 (some x0)), (1, gx_i x1), (2, gx_i x2), (3, gx_i x3), (4, gx_i x4), (5, gx_i x5)]) (st2 := []) ?_ ?_ (fun kk1 hT1 hE1 => ?_)
  · refine gx_aload_n (pc := 44) (n := 0) (i := 0) rfl 1 rfl (htX16_range_0 (44, .aload_n 0, 1) (gx_m 21 rfl)) ?_
    refine gx_iconst (pc := 45) (v := 1) (by decide) (htX16_range_0 (45, .iconst 1, 1) (gx_m 22 rfl)) ?_
    refine gx_Jci (pc := 46) (gx_hst (as := [gx_i 1]) (b := gx_r 17 (some x0))) (gx_runV (as := [gx_i 1]) (ci := 16) (ct_X16_no Y x0 1) (by decide) (Or.inl rfl) rfl rfl rfl rfl q2062 q2064 qs46 q117 q2065 rfl dd_X16_no (by decide) (by decide) (Nat.le_of_ble_eq_true rfl) (htX16_range_0 (46, .invokevirtual 370, 3) (gx_m 23 rfl))) (fun v6 => ?_)
    exact gx_Jiret (pc := 49) rfl (fun _ => trivial) (fun _ _ => rfl) (htX16_range_0 (49, .ireturn, 1) (gx_m 24 rfl))
  · refine gx_aload_n (pc := 50) (n := 0) (i := 0) rfl 1 rfl (htX16_range_0 (50, .aload_n 0, 1) (gx_m 25 rfl)) ?_
    refine gx_iload_n (pc := 51) (n := 1) (i := 1) rfl 2 rfl (htX16_range_0 (51, .iload_n 1, 1) (gx_m 26 rfl)) ?_
    refine gx_iload_n (pc := 52) (n := 2) (i := 2) rfl 3 rfl (htX16_range_0 (52, .iload_n 2, 1) (gx_m 27 rfl)) ?_
    refine gx_iconst (pc := 53) (v := 3) (by decide) (htX16_range_0 (53, .iconst 3, 1) (gx_m 28 rfl)) ?_
    refine gx_iconst (pc := 54) (v := 2) (by decide) (htX16_range_0 (54, .iconst 2, 1) (gx_m 29 rfl)) ?_
    refine gx_Jci (pc := 55) (gx_hst (as := [gx_i x1, gx_i x2, gx_i 3, gx_i 2]) (b := gx_r 17 (some x0))) (gx_runV (as := [gx_i x1, gx_i x2, gx_i 3, gx_i 2]) (ci := 16) (ct_X16_at Y x0 x1 x2 3 2) (by decide) (Or.inl rfl) rfl rfl rfl rfl q2343 q2345 qs95 q117 q2346 rfl dd_X16_at (by decide) (by decide) (Nat.le_of_ble_eq_true rfl) (htX16_range_0 (55, .invokevirtual 566, 3) (gx_m 30 rfl))) (fun v7 => ?_)
    refine gx_istore (pc := 58) (i := 7) (lv' := [(7, gx_i v7), (6, gx_i v1), (0, gx_r 17 (some x0)), (1, gx_i x1), (2, gx_i x2), (3, gx_i x3), (4, gx_i x4), (5, gx_i x5)]) (by decide) rfl (htX16_range_0 (58, .istore 7, 2) (gx_m 31 rfl)) ?_
    refine gx_iload (pc := 60) (i := 7) 0 rfl (htX16_range_0 (60, .iload 7, 2) (gx_m 32 rfl)) ?_
    refine gx_if_eq (pc := 62) (y := 0) (tgt := 72) (by decide) (htX16_range_0 (62, .ifCond .eq 10, 3) (gx_m 33 rfl)) (fun c2 => ?_) (fun c2 => ?_)
    · refine gx_iconst (pc := 72) (v := 0) (by decide) (htX16_range_0 (72, .iconst 0, 1) (gx_m 38 rfl)) ?_
      refine gx_istore (pc := 73) (i := 8) (lv' := [(8, gx_i 0), (7, gx_i v7), (6, gx_i v1), (0, gx_r 17 (some x0)), (1, gx_i x1), (2, gx_i x2), (3, gx_i x3), (4, gx_i x4), (5, gx_i x5)]) (by decide) rfl (htX16_range_0 (73, .istore 8, 2) (gx_m 39 rfl)) ?_
      refine gx_iconst (pc := 75) (v := (-1)) (by decide) (htX16_range_0 (75, .iconst (-1), 1) (gx_m 40 rfl)) ?_
      refine gx_istore (pc := 76) (i := 9) (lv' := [(9, gx_i (-1)), (8, gx_i 0), (7, gx_i v7), (6, gx_i v1), (0, gx_r 17 (some x0)), (1, gx_i x1), (2, gx_i x2), (3, gx_i x3), (4, gx_i x4), (5, gx_i x5)]) (by decide) rfl (htX16_range_0 (76, .istore 9, 2) (gx_m 41 rfl)) ?_
      refine gx_iconst (pc := 78) (v := 0) (by decide) (htX16_range_0 (78, .iconst 0, 1) (gx_m 42 rfl)) ?_
      refine gx_istore (pc := 79) (i := 10) (lv' := [(10, gx_i 0), (9, gx_i (-1)), (8, gx_i 0), (7, gx_i v7), (6, gx_i v1), (0, gx_r 17 (some x0)), (1, gx_i x1), (2, gx_i x2), (3, gx_i x3), (4, gx_i x4), (5, gx_i x5)]) (by decide) rfl (htX16_range_0 (79, .istore 10, 2) (gx_m 43 rfl)) ?_
      refine gx_Jjoin (pcJ := 140) (lvJ := fun (j15 : Int32 × Int32) => [(0, gx_r 17 (some x0)), (3, gx_i x3), (5, gx_i x5), (8, gx_i j15.1), (9, gx_i j15.2)]) (stJ := fun (j15 : Int32 × Int32) => []) (fun _ => True) (fun j15 _ => ?_) (fun kk3 hj3 => ?_)
      · refine gx_aload_n (pc := 140) (n := 0) (i := 0) rfl 0 rfl (htX16_range_0 (140, .aload_n 0, 1) (gx_m 71 rfl)) ?_
        refine gx_iconst (pc := 141) (v := 0) (by decide) (htX16_range_0 (141, .iconst 0, 1) (gx_m 72 rfl)) ?_
        refine gx_Jpi (pc := 142) (ci := 16) (kk := 0) (by decide) (Or.inl rfl) (by decide) rfl rfl q1674 (Or.inl rfl) (htX16_range_0 (142, .putfield 312, 3) (gx_m 73 rfl)) ?_
        refine gx_iload_n (pc := 145) (n := 3) (i := 3) rfl 1 rfl (htX16_range_0 (145, .iload_n 3, 1) (gx_m 74 rfl)) ?_
        refine gx_if_ne (pc := 146) (y := 0) (tgt := 152) (by decide) (htX16_range_0 (146, .ifCond .ne 6, 3) (gx_m 75 rfl)) (fun c4 => ?_) (fun c4 => ?_)
        · refine gx_iload (pc := 149) (i := 8) 3 rfl (htX16_range_0 (149, .iload 8, 2) (gx_m 76 rfl)) ?_
          exact gx_Jiret (pc := 151) rfl (fun _ => trivial) (fun _ _ => rfl) (htX16_range_0 (151, .ireturn, 1) (gx_m 77 rfl))
        · refine gx_iload (pc := 152) (i := 9) 4 rfl (htX16_range_0 (152, .iload 9, 2) (gx_m 78 rfl)) ?_
          refine gx_if_ge (pc := 154) (y := 0) (tgt := 163) (by decide) (htX16_range_0 (154, .ifCond .ge 9, 3) (gx_m 79 rfl)) (fun c5 => ?_) (fun c5 => ?_)
          · refine gx_iload_n (pc := 163) (n := 3) (i := 3) rfl 1 rfl (htX16_range_0 (163, .iload_n 3, 1) (gx_m 84 rfl)) ?_
            refine gx_iconst (pc := 164) (v := 1) (by decide) (htX16_range_0 (164, .iconst 1, 1) (gx_m 85 rfl)) ?_
            refine gx_icmp_ne (pc := 165) (tgt := 176) (by decide) (htX16_range_0 (165, .if_icmp .ne 11, 3) (gx_m 86 rfl)) (fun c6 => ?_) (fun c6 => ?_)
            · refine gx_aload_n (pc := 168) (n := 0) (i := 0) rfl 0 rfl (htX16_range_0 (168, .aload_n 0, 1) (gx_m 87 rfl)) ?_
              refine gx_Jgs (pc := 169) (ci := 16) (kk := 98) (t2 := 100) (by decide) (by decide) rfl rfl rfl q1772 (htX16_range_0 (169, .getfield 267, 3) (gx_m 88 rfl)) ?_
              refine gx_iload (pc := 172) (i := 9) 4 rfl (htX16_range_0 (172, .iload 9, 2) (gx_m 89 rfl)) ?_
              refine gx_Jia (pc := 174) (htX16_range_0 (174, .iaload, 1) (gx_m 90 rfl)) (fun v16 => ?_)
              exact gx_Jiret (pc := 175) rfl (fun _ => trivial) (fun _ _ => rfl) (htX16_range_0 (175, .ireturn, 1) (gx_m 91 rfl))
            · refine gx_iload_n (pc := 176) (n := 3) (i := 3) rfl 1 rfl (htX16_range_0 (176, .iload_n 3, 1) (gx_m 92 rfl)) ?_
              refine gx_iconst (pc := 177) (v := 2) (by decide) (htX16_range_0 (177, .iconst 2, 1) (gx_m 93 rfl)) ?_
              refine gx_Jjoin (pcJ := 198) (lvJ := fun (j19 : Int32) => [(0, gx_r 17 (some x0)), (3, gx_i x3), (5, gx_i x5), (9, gx_i j15.2)]) (stJ := fun (j19 : Int32) => [gx_i j19]) (fun _ => True) (fun j19 hj19 => ?_) (fun kk7 hj7 => ?_)
              · refine gx_istore (pc := 198) (i := 10) (lv' := [(10, gx_i j19), (0, gx_r 17 (some x0)), (3, gx_i x3), (5, gx_i x5), (9, gx_i j15.2)]) (by decide) rfl (htX16_range_1 (198, .istore 10, 2) (gx_m 4 rfl)) ?_
                refine gx_iload (pc := 200) (i := 5) 3 rfl (htX16_range_1 (200, .iload 5, 2) (gx_m 5 rfl)) ?_
                refine gx_Jcond (pcT := 212) (pcE := 218) (lv2 := [(10, gx_i j19), (0, gx_r 17 (some x0)), (3, gx_i x3), (5, gx_i x5), (9, gx_i j15.2)]) (st2 := []) ?_ ?_ (fun kk8 hT8 hE8 => ?_)
                · refine gx_aload_n (pc := 212) (n := 0) (i := 0) rfl 1 rfl (htX16_range_1 (212, .aload_n 0, 1) (gx_m 10 rfl)) ?_
                  refine gx_iconst (pc := 213) (v := 3) (by decide) (htX16_range_1 (213, .iconst 3, 1) (gx_m 11 rfl)) ?_
                  refine gx_Jci (pc := 214) (gx_hst (as := [gx_i 3]) (b := gx_r 17 (some x0))) (gx_runV (as := [gx_i 3]) (ci := 16) (ct_X16_no Y x0 3) (by decide) (Or.inl rfl) rfl rfl rfl rfl q2062 q2064 qs46 q117 q2065 rfl dd_X16_no (by decide) (by decide) (Nat.le_of_ble_eq_true rfl) (htX16_range_1 (214, .invokevirtual 370, 3) (gx_m 12 rfl))) (fun v21 => ?_)
                  exact gx_Jiret (pc := 217) rfl (fun _ => trivial) (fun _ _ => rfl) (htX16_range_1 (217, .ireturn, 1) (gx_m 13 rfl))
                · refine gx_aload_n (pc := 218) (n := 0) (i := 0) rfl 1 rfl (htX16_range_1 (218, .aload_n 0, 1) (gx_m 14 rfl)) ?_
                  refine gx_Jgs (pc := 219) (ci := 16) (kk := 19) (t2 := 101) (by decide) (by decide) rfl rfl rfl q1693 (htX16_range_1 (219, .getfield 54, 3) (gx_m 15 rfl)) ?_
                  refine gx_iload_n (pc := 222) (n := 3) (i := 3) rfl 2 rfl (htX16_range_1 (222, .iload_n 3, 1) (gx_m 16 rfl)) ?_
                  refine gx_iconst (pc := 223) (v := 2) (by decide) (htX16_range_1 (223, .iconst 2, 1) (gx_m 17 rfl)) ?_
                  refine gx_Jjoin (pcJ := 244) (lvJ := fun (j24 : Int32) => [(5, gx_i x5)]) (stJ := fun (j24 : Int32) => [gx_i j24, gx_r 101 (some (19 :: x0))]) (fun _ => True) (fun j24 hj24 => ?_) (fun kk9 hj9 => ?_)
                  · refine gx_iload (pc := 244) (i := 5) 0 rfl (htX16_range_1 (244, .iload 5, 2) (gx_m 28 rfl)) ?_
                    refine gx_iadd (pc := 246) (htX16_range_1 (246, .iadd, 1) (gx_m 29 rfl)) ?_
                    refine gx_Jba (pc := 247) (htX16_range_1 (247, .baload, 1) (gx_m 30 rfl)) (fun v25 => ?_)
                    refine gx_sipush (pc := 248) (v := 255) (by decide) (htX16_range_1 (248, .sipush 255, 3) (gx_m 31 rfl)) ?_
                    refine gx_iand (pc := 251) (htX16_range_1 (251, .iand, 1) (gx_m 32 rfl)) ?_
                    exact gx_Jiret (pc := 252) rfl (fun _ => trivial) (fun _ _ => rfl) (htX16_range_1 (252, .ireturn, 1) (gx_m 33 rfl))
                  · refine gx_icmp_ne (pc := 224) (tgt := 237) (by decide) (htX16_range_1 (224, .if_icmp .ne 13, 3) (gx_m 18 rfl)) (fun c10 => ?_) (fun c10 => ?_)
                    · refine gx_aload_n (pc := 227) (n := 0) (i := 0) rfl 1 rfl (htX16_range_1 (227, .aload_n 0, 1) (gx_m 19 rfl)) ?_
                      refine gx_Jgs (pc := 228) (ci := 16) (kk := 97) (t2 := 100) (by decide) (by decide) rfl rfl rfl q1771 (htX16_range_1 (228, .getfield 264, 3) (gx_m 20 rfl)) ?_
                      refine gx_iload (pc := 231) (i := 9) 4 rfl (htX16_range_1 (231, .iload 9, 2) (gx_m 21 rfl)) ?_
                      refine gx_Jia (pc := 233) (htX16_range_1 (233, .iaload, 1) (gx_m 22 rfl)) (fun v22 => ?_)
                      refine gx_goto (pc := 234) (tgt := 244) (by decide) (htX16_range_1 (234, .goto 10, 3) (gx_m 23 rfl)) ?_
                      refine gx_Jw (lv := [(5, gx_i x5)]) [3] rfl ?_
                      exact hj9 (v22 : Int32) trivial
                    · refine gx_aload_n (pc := 237) (n := 0) (i := 0) rfl 1 rfl (htX16_range_1 (237, .aload_n 0, 1) (gx_m 24 rfl)) ?_
                      refine gx_Jgs (pc := 238) (ci := 16) (kk := 99) (t2 := 100) (by decide) (by decide) rfl rfl rfl q1773 (htX16_range_1 (238, .getfield 270, 3) (gx_m 25 rfl)) ?_
                      refine gx_iload (pc := 241) (i := 9) 4 rfl (htX16_range_1 (241, .iload 9, 2) (gx_m 26 rfl)) ?_
                      refine gx_Jia (pc := 243) (htX16_range_1 (243, .iaload, 1) (gx_m 27 rfl)) (fun v23 => ?_)
                      refine gx_Jw (lv := [(5, gx_i x5)]) [3] rfl ?_
                      exact hj9 (v23 : Int32) trivial
                · refine gx_if_lt (pc := 202) (y := 0) (tgt := 212) (by decide) (htX16_range_1 (202, .ifCond .lt 10, 3) (gx_m 6 rfl)) (fun c11 => ?_) (fun c11 => ?_)
                  · exact hT8
                  · refine gx_iload (pc := 205) (i := 5) 3 rfl (htX16_range_1 (205, .iload 5, 2) (gx_m 7 rfl)) ?_
                    refine gx_iload (pc := 207) (i := 10) 0 rfl (htX16_range_1 (207, .iload 10, 2) (gx_m 8 rfl)) ?_
                    refine gx_icmp_lt (pc := 209) (tgt := 218) (by decide) (htX16_range_1 (209, .if_icmp .lt 9, 3) (gx_m 9 rfl)) (fun c12 => ?_) (fun c12 => ?_)
                    · exact hE8
                    · exact hT8
              · refine gx_icmp_ne (pc := 178) (tgt := 191) (by decide) (htX16_range_0 (178, .if_icmp .ne 13, 3) (gx_m 94 rfl)) (fun c13 => ?_) (fun c13 => ?_)
                · refine gx_aload_n (pc := 181) (n := 0) (i := 0) rfl 0 rfl (htX16_range_0 (181, .aload_n 0, 1) (gx_m 95 rfl)) ?_
                  refine gx_Jgs (pc := 182) (ci := 16) (kk := 98) (t2 := 100) (by decide) (by decide) rfl rfl rfl q1772 (htX16_range_0 (182, .getfield 267, 3) (gx_m 96 rfl)) ?_
                  refine gx_iload (pc := 185) (i := 9) 4 rfl (htX16_range_0 (185, .iload 9, 2) (gx_m 97 rfl)) ?_
                  refine gx_Jia (pc := 187) (htX16_range_0 (187, .iaload, 1) (gx_m 98 rfl)) (fun v17 => ?_)
                  refine gx_goto (pc := 188) (tgt := 198) (by decide) (htX16_range_0 (188, .goto 10, 3) (gx_m 99 rfl)) ?_
                  refine gx_Jw (lv := [(0, gx_r 17 (some x0)), (3, gx_i x3), (5, gx_i x5), (9, gx_i j15.2)]) [0, 1, 2, 4] rfl ?_
                  exact hj7 (v17 : Int32) trivial
                · refine gx_aload_n (pc := 191) (n := 0) (i := 0) rfl 0 rfl (htX16_range_1 (191, .aload_n 0, 1) (gx_m 0 rfl)) ?_
                  refine gx_Jgs (pc := 192) (ci := 16) (kk := 100) (t2 := 100) (by decide) (by decide) rfl rfl rfl q1774 (htX16_range_1 (192, .getfield 273, 3) (gx_m 1 rfl)) ?_
                  refine gx_iload (pc := 195) (i := 9) 4 rfl (htX16_range_1 (195, .iload 9, 2) (gx_m 2 rfl)) ?_
                  refine gx_Jia (pc := 197) (htX16_range_1 (197, .iaload, 1) (gx_m 3 rfl)) (fun v18 => ?_)
                  refine gx_Jw (lv := [(0, gx_r 17 (some x0)), (3, gx_i x3), (5, gx_i x5), (9, gx_i j15.2)]) [0, 1, 2, 4] rfl ?_
                  exact hj7 (v18 : Int32) trivial
          · refine gx_aload_n (pc := 157) (n := 0) (i := 0) rfl 0 rfl (htX16_range_0 (157, .aload_n 0, 1) (gx_m 80 rfl)) ?_
            refine gx_iconst (pc := 158) (v := 3) (by decide) (htX16_range_0 (158, .iconst 3, 1) (gx_m 81 rfl)) ?_
            refine gx_Jci (pc := 159) (gx_hst (as := [gx_i 3]) (b := gx_r 17 (some x0))) (gx_runV (as := [gx_i 3]) (ci := 16) (ct_X16_no Y x0 3) (by decide) (Or.inl rfl) rfl rfl rfl rfl q2062 q2064 qs46 q117 q2065 rfl dd_X16_no (by decide) (by decide) (Nat.le_of_ble_eq_true rfl) (htX16_range_0 (159, .invokevirtual 370, 3) (gx_m 82 rfl))) (fun v26 => ?_)
            exact gx_Jiret (pc := 162) rfl (fun _ => trivial) (fun _ _ => rfl) (htX16_range_0 (162, .ireturn, 1) (gx_m 83 rfl))
      · refine gx_Jw (lv := [(0, gx_r 17 (some x0)), (3, gx_i x3), (4, gx_i x4), (5, gx_i x5), (8, gx_i 0), (9, gx_i (-1)), (10, gx_i 0)]) [5, 8, 9, 10, 2, 1, 0] rfl ?_
        refine gx_Jlp (pc := 81) (lvh := fun (s8 : Int32 × Int32 × Int32) => [(0, gx_r 17 (some x0)), (3, gx_i x3), (4, gx_i x4), (5, gx_i x5), (8, gx_i s8.1), (9, gx_i s8.2.1), (10, gx_i s8.2.2)]) (fun s8 kl3 ha3 hb3 => ?_) _
        unfold lb_X16_range_1
        refine gx_iload (pc := 81) (i := 10) 6 rfl (htX16_range_0 (81, .iload 10, 2) (gx_m 44 rfl)) ?_
        refine gx_aload_n (pc := 83) (n := 0) (i := 0) rfl 0 rfl (htX16_range_0 (83, .aload_n 0, 1) (gx_m 45 rfl)) ?_
        refine gx_Jgi (pc := 84) (ci := 16) (kk := 107) (by decide) (Or.inl rfl) (by decide) (by decide) q1781 (htX16_range_0 (84, .getfield 394, 3) (gx_m 46 rfl)) (fun v9 hv9 => ?_)
        refine gx_icmp_ge (pc := 87) (tgt := 140) (by decide) (htX16_range_0 (87, .if_icmp .ge 53, 3) (gx_m 47 rfl)) (fun c14 => ?_) (fun c14 => ?_)
        · refine gx_Jw (lv := [(0, gx_r 17 (some x0)), (3, gx_i x3), (5, gx_i x5), (8, gx_i s8.1), (9, gx_i s8.2.1)]) [0, 1, 3, 4, 5] rfl ?_
          exact gx_Jout hb3 (hj3 ((s8.1 : Int32), (s8.2.1 : Int32)) trivial)
        · refine gx_aload_n (pc := 90) (n := 0) (i := 0) rfl 0 rfl (htX16_range_0 (90, .aload_n 0, 1) (gx_m 48 rfl)) ?_
          refine gx_iload (pc := 91) (i := 10) 6 rfl (htX16_range_0 (91, .iload 10, 2) (gx_m 49 rfl)) ?_
          refine gx_aload_n (pc := 93) (n := 0) (i := 0) rfl 0 rfl (htX16_range_0 (93, .aload_n 0, 1) (gx_m 50 rfl)) ?_
          refine gx_Jgs (pc := 94) (ci := 16) (kk := 2) (t2 := 101) (by decide) (by decide) rfl rfl rfl q1676 (htX16_range_0 (94, .getfield 13, 3) (gx_m 51 rfl)) ?_
          refine gx_iconst (pc := 97) (v := 0) (by decide) (htX16_range_0 (97, .iconst 0, 1) (gx_m 52 rfl)) ?_
          refine gx_aload_n (pc := 98) (n := 0) (i := 0) rfl 0 rfl (htX16_range_0 (98, .aload_n 0, 1) (gx_m 53 rfl)) ?_
          refine gx_Jgi (pc := 99) (ci := 16) (kk := 5) (by decide) (Or.inl rfl) (by decide) (by decide) q1679 (htX16_range_0 (99, .getfield 364, 3) (gx_m 54 rfl)) (fun v10 hv10 => ?_)
          refine gx_aload_n (pc := 102) (n := 0) (i := 0) rfl 0 rfl (htX16_range_0 (102, .aload_n 0, 1) (gx_m 55 rfl)) ?_
          refine gx_Jgs (pc := 103) (ci := 16) (kk := 3) (t2 := 101) (by decide) (by decide) rfl rfl rfl q1677 (htX16_range_0 (103, .getfield 16, 3) (gx_m 56 rfl)) ?_
          refine gx_iconst (pc := 106) (v := 0) (by decide) (htX16_range_0 (106, .iconst 0, 1) (gx_m 57 rfl)) ?_
          refine gx_aload_n (pc := 107) (n := 0) (i := 0) rfl 0 rfl (htX16_range_0 (107, .aload_n 0, 1) (gx_m 58 rfl)) ?_
          refine gx_Jgi (pc := 108) (ci := 16) (kk := 6) (by decide) (Or.inl rfl) (by decide) (by decide) q1680 (htX16_range_0 (108, .getfield 367, 3) (gx_m 59 rfl)) (fun v11 hv11 => ?_)
          refine gx_Jcz (pc := 111) (gx_hst (as := [gx_i s8.2.2, gx_r 101 (some (2 :: x0)), gx_i 0, gx_i v10, gx_r 101 (some (3 :: x0)), gx_i 0, gx_i v11]) (b := gx_r 17 (some x0))) (gx_runV (as := [gx_i s8.2.2, gx_r 101 (some (2 :: x0)), gx_i 0, gx_i v10, gx_r 101 (some (3 :: x0)), gx_i 0, gx_i v11]) (ci := 16) (ct_X16_inRange Y x0 s8.2.2 (2 :: x0) 0 v10 (3 :: x0) 0 v11) (by decide) (Or.inl rfl) rfl rfl rfl rfl q2295 q2297 qs88 q117 q2298 rfl dd_X16_inRange (by decide) (by decide) (Nat.le_of_ble_eq_true rfl) (htX16_range_0 (111, .invokevirtual 420, 3) (gx_m 60 rfl))) (fun v12 hv12 => ?_)
          refine gx_Jjoin (pcJ := 134) (lvJ := fun (j14 : Int32 × Int32) => [(0, gx_r 17 (some x0)), (3, gx_i x3), (4, gx_i x4), (5, gx_i x5), (8, gx_i j14.1), (9, gx_i j14.2), (10, gx_i s8.2.2)]) (stJ := fun (j14 : Int32 × Int32) => []) (fun _ => True) (fun j14 hj14 => ?_) (fun kk15 hj15 => ?_)
          · refine gx_iinc (pc := 134) (i := 10) (j := 6) (v := (s8.2.2 + 1)) (lv' := [(10, gx_i (s8.2.2 + 1)), (0, gx_r 17 (some x0)), (3, gx_i x3), (4, gx_i x4), (5, gx_i x5), (8, gx_i j14.1), (9, gx_i j14.2)]) rfl (gx_iv (by decide)) (by decide) rfl (htX16_range_0 (134, .iinc 10 1, 3) (gx_m 69 rfl)) ?_
            refine gx_goto (pc := 137) (tgt := 81) (by decide) (htX16_range_0 (137, .goto (-56), 3) (gx_m 70 rfl)) ?_
            refine gx_Jw (lv := [(0, gx_r 17 (some x0)), (3, gx_i x3), (4, gx_i x4), (5, gx_i x5), (8, gx_i j14.1), (9, gx_i j14.2), (10, gx_i (s8.2.2 + 1))]) [1, 2, 3, 4, 5, 6, 0] rfl ?_
            exact ha3 ((j14.1 : Int32), (j14.2 : Int32), ((s8.2.2 + 1) : Int32))
          · refine gx_if_ne (pc := 114) (y := 0) (tgt := 120) (by decide) (htX16_range_0 (114, .ifCond .ne 6, 3) (gx_m 61 rfl)) (fun c16 => ?_) (fun c16 => ?_)
            · refine gx_goto (pc := 117) (tgt := 134) (by decide) (htX16_range_0 (117, .goto 17, 3) (gx_m 62 rfl)) ?_
              exact hj15 ((s8.1 : Int32), (s8.2.1 : Int32)) trivial
            · refine gx_iload (pc := 120) (i := 8) 4 rfl (htX16_range_0 (120, .iload 8, 2) (gx_m 63 rfl)) ?_
              refine gx_iload (pc := 122) (i := 4) 2 rfl (htX16_range_0 (122, .iload 4, 2) (gx_m 64 rfl)) ?_
              refine gx_Jjoin (pcJ := 131) (lvJ := fun (j13 : Int32) => [(0, gx_r 17 (some x0)), (3, gx_i x3), (4, gx_i x4), (5, gx_i x5), (8, gx_i s8.1), (9, gx_i j13), (10, gx_i s8.2.2)]) (stJ := fun (j13 : Int32) => []) (fun _ => True) (fun j13 hj13 => ?_) (fun kk17 hj17 => ?_)
              · refine gx_iinc (pc := 131) (i := 8) (j := 4) (v := (s8.1 + 1)) (lv' := [(8, gx_i (s8.1 + 1)), (0, gx_r 17 (some x0)), (3, gx_i x3), (4, gx_i x4), (5, gx_i x5), (9, gx_i j13), (10, gx_i s8.2.2)]) rfl (gx_iv (by decide)) (by decide) rfl (htX16_range_0 (131, .iinc 8 1, 3) (gx_m 68 rfl)) ?_
                refine gx_Jw (lv := [(0, gx_r 17 (some x0)), (3, gx_i x3), (4, gx_i x4), (5, gx_i x5), (8, gx_i (s8.1 + 1)), (9, gx_i j13), (10, gx_i s8.2.2)]) [1, 2, 3, 4, 0, 5, 6] rfl ?_
                exact hj15 (((s8.1 + 1) : Int32), (j13 : Int32)) trivial
              · refine gx_icmp_ne (pc := 124) (tgt := 131) (by decide) (htX16_range_0 (124, .if_icmp .ne 7, 3) (gx_m 65 rfl)) (fun c18 => ?_) (fun c18 => ?_)
                · refine gx_iload (pc := 127) (i := 10) 6 rfl (htX16_range_0 (127, .iload 10, 2) (gx_m 66 rfl)) ?_
                  refine gx_istore (pc := 129) (i := 9) (lv' := [(9, gx_i s8.2.2), (0, gx_r 17 (some x0)), (3, gx_i x3), (4, gx_i x4), (5, gx_i x5), (8, gx_i s8.1), (10, gx_i s8.2.2)]) (by decide) rfl (htX16_range_0 (129, .istore 9, 2) (gx_m 67 rfl)) ?_
                  refine gx_Jw (lv := [(0, gx_r 17 (some x0)), (3, gx_i x3), (4, gx_i x4), (5, gx_i x5), (8, gx_i s8.1), (9, gx_i s8.2.2), (10, gx_i s8.2.2)]) [1, 2, 3, 4, 5, 0, 6] rfl ?_
                  exact hj17 (s8.2.2 : Int32) trivial
                · exact hj17 (s8.2.1 : Int32) trivial
    · refine gx_aload_n (pc := 65) (n := 0) (i := 0) rfl 2 rfl (htX16_range_0 (65, .aload_n 0, 1) (gx_m 34 rfl)) ?_
      refine gx_iload (pc := 66) (i := 7) 0 rfl (htX16_range_0 (66, .iload 7, 2) (gx_m 35 rfl)) ?_
      refine gx_Jci (pc := 68) (gx_hst (as := [gx_i v7]) (b := gx_r 17 (some x0))) (gx_runV (as := [gx_i v7]) (ci := 16) (ct_X16_no Y x0 v7) (by decide) (Or.inl rfl) rfl rfl rfl rfl q2062 q2064 qs46 q117 q2065 rfl dd_X16_no (by decide) (by decide) (Nat.le_of_ble_eq_true rfl) (htX16_range_0 (68, .invokevirtual 370, 3) (gx_m 36 rfl))) (fun v27 => ?_)
      exact gx_Jiret (pc := 71) rfl (fun _ => trivial) (fun _ _ => rfl) (htX16_range_0 (71, .ireturn, 1) (gx_m 37 rfl))
  · refine gx_icmp_ne (pc := 9) (tgt := 44) (by decide) (htX16_range_0 (9, .if_icmp .ne 35, 3) (gx_m 5 rfl)) (fun c19 => ?_) (fun c19 => ?_)
    · refine gx_aload_n (pc := 12) (n := 0) (i := 0) rfl 1 rfl (htX16_range_0 (12, .aload_n 0, 1) (gx_m 6 rfl)) ?_
      refine gx_Jgi (pc := 13) (ci := 16) (kk := 5) (by decide) (Or.inl rfl) (by decide) (by decide) q1679 (htX16_range_0 (13, .getfield 364, 3) (gx_m 7 rfl)) (fun v2 hv2 => ?_)
      refine gx_Jcz (pc := 16) (gx_hstS (as := [gx_i v2])) (gx_runS (as := [gx_i v2]) (ct_X16_isKey Y v2) rfl rfl rfl q2078 q2079 q117 q2080 rfl dd_X16_isKey (by decide) (by decide) (Nat.le_of_ble_eq_true rfl) (htX16_range_0 (16, .invokestatic 382, 3) (gx_m 8 rfl))) (fun v3 hv3 => ?_)
      refine gx_if_eq (pc := 19) (y := 0) (tgt := 44) (by decide) (htX16_range_0 (19, .ifCond .eq 25, 3) (gx_m 9 rfl)) (fun c20 => ?_) (fun c20 => ?_)
      · exact hT1
      · refine gx_aload_n (pc := 22) (n := 0) (i := 0) rfl 1 rfl (htX16_range_0 (22, .aload_n 0, 1) (gx_m 10 rfl)) ?_
        refine gx_Jgi (pc := 23) (ci := 16) (kk := 6) (by decide) (Or.inl rfl) (by decide) (by decide) q1680 (htX16_range_0 (23, .getfield 367, 3) (gx_m 11 rfl)) (fun v4 hv4 => ?_)
        refine gx_bipush (pc := 26) (v := 64) (by decide) (htX16_range_0 (26, .bipush 64, 2) (gx_m 12 rfl)) ?_
        refine gx_icmp_gt (pc := 28) (tgt := 44) (by decide) (htX16_range_0 (28, .if_icmp .gt 16, 3) (gx_m 13 rfl)) (fun c21 => ?_) (fun c21 => ?_)
        · exact hT1
        · refine gx_iload_n (pc := 31) (n := 3) (i := 3) rfl 4 rfl (htX16_range_0 (31, .iload_n 3, 1) (gx_m 14 rfl)) ?_
          refine gx_if_lt (pc := 32) (y := 0) (tgt := 44) (by decide) (htX16_range_0 (32, .ifCond .lt 12, 3) (gx_m 15 rfl)) (fun c22 => ?_) (fun c22 => ?_)
          · exact hT1
          · refine gx_iload_n (pc := 35) (n := 3) (i := 3) rfl 4 rfl (htX16_range_0 (35, .iload_n 3, 1) (gx_m 16 rfl)) ?_
            refine gx_iconst (pc := 36) (v := 3) (by decide) (htX16_range_0 (36, .iconst 3, 1) (gx_m 17 rfl)) ?_
            refine gx_icmp_gt (pc := 37) (tgt := 44) (by decide) (htX16_range_0 (37, .if_icmp .gt 7, 3) (gx_m 18 rfl)) (fun c23 => ?_) (fun c23 => ?_)
            · exact hT1
            · refine gx_iload_n (pc := 40) (n := 2) (i := 2) rfl 3 rfl (htX16_range_0 (40, .iload_n 2, 1) (gx_m 19 rfl)) ?_
              refine gx_if_ge (pc := 41) (y := 0) (tgt := 50) (by decide) (htX16_range_0 (41, .ifCond .ge 9, 3) (gx_m 20 rfl)) (fun c24 => ?_) (fun c24 => ?_)
              · exact hE1
              · exact hT1
    · exact hT1
theorem ct_X16_event_2 (Y : gx_Y) (x0 : gx_Nm) (x1 : Int32) (x2 : Int32) (x3 : Int32) : gx_Ct Y yX16_event_2 (ws_ yX16_event_2 cX16_event_2 5 none) 2 128 [gx_r 17 (some x0), gx_i x1, gx_i x2, gx_i x3] gx_Ov (f_X16_event_2 x0 x1 x2 x3) := by
  refine gx_start (lv := [(0, gx_r 17 (some x0)), (1, gx_i x1), (2, gx_i x2), (3, gx_i x3)]) gx_Ov_r pn_X16 (Nat.le_of_ble_eq_true rfl) rfl ?_
  unfold f_X16_event_2
  refine gx_aload_n (pc := 0) (n := 0) (i := 0) rfl 0 rfl (htX16_event_2 (0, .aload_n 0, 1) (gx_m 0 rfl)) ?_
  refine gx_Jgi (pc := 1) (ci := 16) (kk := 121) (by decide) (Or.inl rfl) (by decide) (by decide) q1795 (htX16_event_2 (1, .getfield 570, 3) (gx_m 1 rfl)) (fun v1 hv1 => ?_)
  refine gx_istore (pc := 4) (i := 4) (lv' := [(4, gx_i v1), (0, gx_r 17 (some x0)), (1, gx_i x1), (2, gx_i x2), (3, gx_i x3)]) (by decide) rfl (htX16_event_2 (4, .istore 4, 2) (gx_m 2 rfl)) ?_
  refine gx_Jjoin (pcJ := 99) (lvJ := fun (j9 : Int32) => [(0, gx_r 17 (some x0)), (1, gx_i x1), (2, gx_i x2), (3, gx_i x3), (4, gx_i j9)]) (stJ := fun (j9 : Int32) => []) (fun _ => True) (fun j9 _ => ?_) (fun kk1 hj1 => ?_)
  · refine gx_aload_n (pc := 99) (n := 0) (i := 0) rfl 0 rfl (htX16_event_2 (99, .aload_n 0, 1) (gx_m 57 rfl)) ?_
    refine gx_Jgs (pc := 100) (ci := 16) (kk := 116) (t2 := 100) (by decide) (by decide) rfl rfl rfl q1790 (htX16_event_2 (100, .getfield 300, 3) (gx_m 58 rfl)) ?_
    refine gx_iload (pc := 103) (i := 4) 4 rfl (htX16_event_2 (103, .iload 4, 2) (gx_m 59 rfl)) ?_
    refine gx_iload_n (pc := 105) (n := 1) (i := 1) rfl 1 rfl (htX16_event_2 (105, .iload_n 1, 1) (gx_m 60 rfl)) ?_
    refine gx_Jis (pc := 106) (htX16_event_2 (106, .iastore, 1) (gx_m 61 rfl)) ?_
    refine gx_aload_n (pc := 107) (n := 0) (i := 0) rfl 0 rfl (htX16_event_2 (107, .aload_n 0, 1) (gx_m 62 rfl)) ?_
    refine gx_Jgs (pc := 108) (ci := 16) (kk := 117) (t2 := 100) (by decide) (by decide) rfl rfl rfl q1791 (htX16_event_2 (108, .getfield 303, 3) (gx_m 63 rfl)) ?_
    refine gx_iload (pc := 111) (i := 4) 4 rfl (htX16_event_2 (111, .iload 4, 2) (gx_m 64 rfl)) ?_
    refine gx_iload_n (pc := 113) (n := 2) (i := 2) rfl 2 rfl (htX16_event_2 (113, .iload_n 2, 1) (gx_m 65 rfl)) ?_
    refine gx_Jis (pc := 114) (htX16_event_2 (114, .iastore, 1) (gx_m 66 rfl)) ?_
    refine gx_aload_n (pc := 115) (n := 0) (i := 0) rfl 0 rfl (htX16_event_2 (115, .aload_n 0, 1) (gx_m 67 rfl)) ?_
    refine gx_Jgs (pc := 116) (ci := 16) (kk := 118) (t2 := 102) (by decide) (by decide) rfl rfl rfl q1792 (htX16_event_2 (116, .getfield 306, 3) (gx_m 68 rfl)) ?_
    refine gx_iload (pc := 119) (i := 4) 4 rfl (htX16_event_2 (119, .iload 4, 2) (gx_m 69 rfl)) ?_
    refine gx_iload_n (pc := 121) (n := 3) (i := 3) rfl 3 rfl (htX16_event_2 (121, .iload_n 3, 1) (gx_m 70 rfl)) ?_
    refine gx_Jzs (pc := 122) (htX16_event_2 (122, .bastore, 1) (gx_m 71 rfl)) ?_
    refine gx_aload_n (pc := 123) (n := 0) (i := 0) rfl 0 rfl (htX16_event_2 (123, .aload_n 0, 1) (gx_m 72 rfl)) ?_
    refine gx_dup (pc := 124) rfl (htX16_event_2 (124, .dup, 1) (gx_m 73 rfl)) ?_
    refine gx_Jgi (pc := 125) (ci := 16) (kk := 121) (by decide) (Or.inl rfl) (by decide) (by decide) q1795 (htX16_event_2 (125, .getfield 570, 3) (gx_m 74 rfl)) (fun v10 hv10 => ?_)
    refine gx_iconst (pc := 128) (v := 1) (by decide) (htX16_event_2 (128, .iconst 1, 1) (gx_m 75 rfl)) ?_
    refine gx_iadd (pc := 129) (htX16_event_2 (129, .iadd, 1) (gx_m 76 rfl)) ?_
    refine gx_Jpi (pc := 130) (ci := 16) (kk := 121) (by decide) (Or.inl rfl) (by decide) rfl rfl q1795 (Or.inl rfl) (htX16_event_2 (130, .putfield 570, 3) (gx_m 77 rfl)) ?_
    exact gx_Jvret (pc := 133) rfl (fun _ => trivial) (fun _ _ => rfl) (htX16_event_2 (133, .return_, 1) (gx_m 78 rfl))
  · refine gx_Jw (lv := [(0, gx_r 17 (some x0)), (1, gx_i x1), (2, gx_i x2), (3, gx_i x3), (4, gx_i v1)]) [1, 2, 3, 4, 0] rfl ?_
    refine gx_Jlp (pc := 6) (lvh := fun (s2 : Int32) => [(0, gx_r 17 (some x0)), (1, gx_i x1), (2, gx_i x2), (3, gx_i x3), (4, gx_i s2)]) (fun s2 kl1 ha1 hb1 => ?_) _
    unfold lb_X16_event_2_1
    refine gx_iload (pc := 6) (i := 4) 4 rfl (htX16_event_2 (6, .iload 4, 2) (gx_m 3 rfl)) ?_
    refine gx_if_le (pc := 8) (y := 0) (tgt := 99) (by decide) (htX16_event_2 (8, .ifCond .le 91, 3) (gx_m 4 rfl)) (fun c2 => ?_) (fun c2 => ?_)
    · exact gx_Jout hb1 (hj1 (s2 : Int32) trivial)
    · refine gx_aload_n (pc := 11) (n := 0) (i := 0) rfl 0 rfl (htX16_event_2 (11, .aload_n 0, 1) (gx_m 5 rfl)) ?_
      refine gx_Jgs (pc := 12) (ci := 16) (kk := 19) (t2 := 101) (by decide) (by decide) rfl rfl rfl q1693 (htX16_event_2 (12, .getfield 54, 3) (gx_m 6 rfl)) ?_
      refine gx_aload_n (pc := 15) (n := 0) (i := 0) rfl 0 rfl (htX16_event_2 (15, .aload_n 0, 1) (gx_m 7 rfl)) ?_
      refine gx_Jgs (pc := 16) (ci := 16) (kk := 116) (t2 := 100) (by decide) (by decide) rfl rfl rfl q1790 (htX16_event_2 (16, .getfield 300, 3) (gx_m 8 rfl)) ?_
      refine gx_iload (pc := 19) (i := 4) 4 rfl (htX16_event_2 (19, .iload 4, 2) (gx_m 9 rfl)) ?_
      refine gx_iconst (pc := 21) (v := 1) (by decide) (htX16_event_2 (21, .iconst 1, 1) (gx_m 10 rfl)) ?_
      refine gx_isub (pc := 22) (htX16_event_2 (22, .isub, 1) (gx_m 11 rfl)) ?_
      refine gx_Jia (pc := 23) (htX16_event_2 (23, .iaload, 1) (gx_m 12 rfl)) (fun v3 => ?_)
      refine gx_aload_n (pc := 24) (n := 0) (i := 0) rfl 0 rfl (htX16_event_2 (24, .aload_n 0, 1) (gx_m 13 rfl)) ?_
      refine gx_Jgs (pc := 25) (ci := 16) (kk := 117) (t2 := 100) (by decide) (by decide) rfl rfl rfl q1791 (htX16_event_2 (25, .getfield 303, 3) (gx_m 14 rfl)) ?_
      refine gx_iload (pc := 28) (i := 4) 4 rfl (htX16_event_2 (28, .iload 4, 2) (gx_m 15 rfl)) ?_
      refine gx_iconst (pc := 30) (v := 1) (by decide) (htX16_event_2 (30, .iconst 1, 1) (gx_m 16 rfl)) ?_
      refine gx_isub (pc := 31) (htX16_event_2 (31, .isub, 1) (gx_m 17 rfl)) ?_
      refine gx_Jia (pc := 32) (htX16_event_2 (32, .iaload, 1) (gx_m 18 rfl)) (fun v4 => ?_)
      refine gx_aload_n (pc := 33) (n := 0) (i := 0) rfl 0 rfl (htX16_event_2 (33, .aload_n 0, 1) (gx_m 19 rfl)) ?_
      refine gx_Jgs (pc := 34) (ci := 16) (kk := 19) (t2 := 101) (by decide) (by decide) rfl rfl rfl q1693 (htX16_event_2 (34, .getfield 54, 3) (gx_m 20 rfl)) ?_
      refine gx_iload_n (pc := 37) (n := 1) (i := 1) rfl 1 rfl (htX16_event_2 (37, .iload_n 1, 1) (gx_m 21 rfl)) ?_
      refine gx_iload_n (pc := 38) (n := 2) (i := 2) rfl 2 rfl (htX16_event_2 (38, .iload_n 2, 1) (gx_m 22 rfl)) ?_
      refine gx_Jci (pc := 39) (gx_hstS (as := [gx_r 101 (some (19 :: x0)), gx_i v3, gx_i v4, gx_r 101 (some (19 :: x0)), gx_i x1, gx_i x2])) (gx_runS (as := [gx_r 101 (some (19 :: x0)), gx_i v3, gx_i v4, gx_r 101 (some (19 :: x0)), gx_i x1, gx_i x2]) (ct_X16_compare Y (19 :: x0) v3 v4 (19 :: x0) x1 x2) rfl rfl rfl q2284 q2285 q117 q2286 rfl dd_X16_compare (by decide) (by decide) (Nat.le_of_ble_eq_true rfl) (htX16_event_2 (39, .invokestatic 397, 3) (gx_m 23 rfl))) (fun v5 => ?_)
      refine gx_if_le (pc := 42) (y := 0) (tgt := 99) (by decide) (htX16_event_2 (42, .ifCond .le 57, 3) (gx_m 24 rfl)) (fun c3 => ?_) (fun c3 => ?_)
      · exact gx_Jout hb1 (hj1 (s2 : Int32) trivial)
      · refine gx_aload_n (pc := 45) (n := 0) (i := 0) rfl 0 rfl (htX16_event_2 (45, .aload_n 0, 1) (gx_m 25 rfl)) ?_
        refine gx_Jgs (pc := 46) (ci := 16) (kk := 116) (t2 := 100) (by decide) (by decide) rfl rfl rfl q1790 (htX16_event_2 (46, .getfield 300, 3) (gx_m 26 rfl)) ?_
        refine gx_iload (pc := 49) (i := 4) 4 rfl (htX16_event_2 (49, .iload 4, 2) (gx_m 27 rfl)) ?_
        refine gx_aload_n (pc := 51) (n := 0) (i := 0) rfl 0 rfl (htX16_event_2 (51, .aload_n 0, 1) (gx_m 28 rfl)) ?_
        refine gx_Jgs (pc := 52) (ci := 16) (kk := 116) (t2 := 100) (by decide) (by decide) rfl rfl rfl q1790 (htX16_event_2 (52, .getfield 300, 3) (gx_m 29 rfl)) ?_
        refine gx_iload (pc := 55) (i := 4) 4 rfl (htX16_event_2 (55, .iload 4, 2) (gx_m 30 rfl)) ?_
        refine gx_iconst (pc := 57) (v := 1) (by decide) (htX16_event_2 (57, .iconst 1, 1) (gx_m 31 rfl)) ?_
        refine gx_isub (pc := 58) (htX16_event_2 (58, .isub, 1) (gx_m 32 rfl)) ?_
        refine gx_Jia (pc := 59) (htX16_event_2 (59, .iaload, 1) (gx_m 33 rfl)) (fun v6 => ?_)
        refine gx_Jis (pc := 60) (htX16_event_2 (60, .iastore, 1) (gx_m 34 rfl)) ?_
        refine gx_aload_n (pc := 61) (n := 0) (i := 0) rfl 0 rfl (htX16_event_2 (61, .aload_n 0, 1) (gx_m 35 rfl)) ?_
        refine gx_Jgs (pc := 62) (ci := 16) (kk := 117) (t2 := 100) (by decide) (by decide) rfl rfl rfl q1791 (htX16_event_2 (62, .getfield 303, 3) (gx_m 36 rfl)) ?_
        refine gx_iload (pc := 65) (i := 4) 4 rfl (htX16_event_2 (65, .iload 4, 2) (gx_m 37 rfl)) ?_
        refine gx_aload_n (pc := 67) (n := 0) (i := 0) rfl 0 rfl (htX16_event_2 (67, .aload_n 0, 1) (gx_m 38 rfl)) ?_
        refine gx_Jgs (pc := 68) (ci := 16) (kk := 117) (t2 := 100) (by decide) (by decide) rfl rfl rfl q1791 (htX16_event_2 (68, .getfield 303, 3) (gx_m 39 rfl)) ?_
        refine gx_iload (pc := 71) (i := 4) 4 rfl (htX16_event_2 (71, .iload 4, 2) (gx_m 40 rfl)) ?_
        refine gx_iconst (pc := 73) (v := 1) (by decide) (htX16_event_2 (73, .iconst 1, 1) (gx_m 41 rfl)) ?_
        refine gx_isub (pc := 74) (htX16_event_2 (74, .isub, 1) (gx_m 42 rfl)) ?_
        refine gx_Jia (pc := 75) (htX16_event_2 (75, .iaload, 1) (gx_m 43 rfl)) (fun v7 => ?_)
        refine gx_Jis (pc := 76) (htX16_event_2 (76, .iastore, 1) (gx_m 44 rfl)) ?_
        refine gx_aload_n (pc := 77) (n := 0) (i := 0) rfl 0 rfl (htX16_event_2 (77, .aload_n 0, 1) (gx_m 45 rfl)) ?_
        refine gx_Jgs (pc := 78) (ci := 16) (kk := 118) (t2 := 102) (by decide) (by decide) rfl rfl rfl q1792 (htX16_event_2 (78, .getfield 306, 3) (gx_m 46 rfl)) ?_
        refine gx_iload (pc := 81) (i := 4) 4 rfl (htX16_event_2 (81, .iload 4, 2) (gx_m 47 rfl)) ?_
        refine gx_aload_n (pc := 83) (n := 0) (i := 0) rfl 0 rfl (htX16_event_2 (83, .aload_n 0, 1) (gx_m 48 rfl)) ?_
        refine gx_Jgs (pc := 84) (ci := 16) (kk := 118) (t2 := 102) (by decide) (by decide) rfl rfl rfl q1792 (htX16_event_2 (84, .getfield 306, 3) (gx_m 49 rfl)) ?_
        refine gx_iload (pc := 87) (i := 4) 4 rfl (htX16_event_2 (87, .iload 4, 2) (gx_m 50 rfl)) ?_
        refine gx_iconst (pc := 89) (v := 1) (by decide) (htX16_event_2 (89, .iconst 1, 1) (gx_m 51 rfl)) ?_
        refine gx_isub (pc := 90) (htX16_event_2 (90, .isub, 1) (gx_m 52 rfl)) ?_
        refine gx_Jza (pc := 91) (htX16_event_2 (91, .baload, 1) (gx_m 53 rfl)) (fun v8 => ?_)
        refine gx_Jzs (pc := 92) (htX16_event_2 (92, .bastore, 1) (gx_m 54 rfl)) ?_
        refine gx_iinc (pc := 93) (i := 4) (j := 4) (v := (s2 + (-1))) (lv' := [(4, gx_i (s2 + (-1))), (0, gx_r 17 (some x0)), (1, gx_i x1), (2, gx_i x2), (3, gx_i x3)]) rfl (gx_iv (by decide)) (by decide) rfl (htX16_event_2 (93, .iinc 4 (-1), 3) (gx_m 55 rfl)) ?_
        refine gx_goto (pc := 96) (tgt := 6) (by decide) (htX16_event_2 (96, .goto (-90), 3) (gx_m 56 rfl)) ?_
        refine gx_Jw (lv := [(0, gx_r 17 (some x0)), (1, gx_i x1), (2, gx_i x2), (3, gx_i x3), (4, gx_i (s2 + (-1)))]) [1, 2, 3, 4, 0] rfl ?_
        exact ha1 ((s2 + (-1)) : Int32)
theorem ct_X16_sameOld (Y : gx_Y) (x0 : gx_Nm) (x1 : Int32) (x2 : Int32) : gx_Ct Y yX16_sameOld (ws_ yX16_sameOld cX16_sameOld 4 (some .boolean)) 2 121 [gx_r 17 (some x0), gx_i x1, gx_i x2] gx_Oz (f_X16_sameOld x0 x1 x2) := by
  refine gx_start (lv := [(0, gx_r 17 (some x0)), (1, gx_i x1), (2, gx_i x2)]) gx_Oz_r pn_X16 (Nat.le_of_ble_eq_true rfl) rfl ?_
  unfold f_X16_sameOld
  refine gx_iconst (pc := 0) (v := 2) (by decide) (htX16_sameOld (0, .iconst 2, 1) (gx_m 0 rfl)) ?_
  refine gx_istore_n (pc := 1) (n := 3) (i := 3) (lv' := [(3, gx_i 2), (0, gx_r 17 (some x0)), (1, gx_i x1), (2, gx_i x2)]) rfl (by decide) rfl (htX16_sameOld (1, .istore_n 3, 1) (gx_m 1 rfl)) ?_
  refine gx_JjoinE (pcJ := 34) (lvJ := fun (j_1 : Unit) => []) (stJ := fun (j_1 : Unit) => []) (gr := fun r => gx_rt r) (fun _ => rfl) (fun _ => rfl) (fun j_1 => ?_) (fun kk1 hj1 he1 => ?_)
  · refine gx_iconst (pc := 34) (v := 1) (by decide) (htX16_sameOld (34, .iconst 1, 1) (gx_m 21 rfl)) ?_
    exact gx_Jzret (pc := 35) rfl gx_b1 (fun _ => gx_b1) (fun _ _ => rfl) (htX16_sameOld (35, .ireturn, 1) (gx_m 22 rfl))
  · refine gx_Jw (lv := [(0, gx_r 17 (some x0)), (1, gx_i x1), (2, gx_i x2), (3, gx_i 2)]) [1, 2, 3, 0] rfl ?_
    refine gx_Jlp (pc := 2) (lvh := fun (s1 : Int32) => [(0, gx_r 17 (some x0)), (1, gx_i x1), (2, gx_i x2), (3, gx_i s1)]) (fun s1 kl1 ha1 hb1 => ?_) _
    unfold lb_X16_sameOld_1
    refine gx_iload_n (pc := 2) (n := 3) (i := 3) rfl 3 rfl (htX16_sameOld (2, .iload_n 3, 1) (gx_m 2 rfl)) ?_
    refine gx_bipush (pc := 3) (v := 8) (by decide) (htX16_sameOld (3, .bipush 8, 2) (gx_m 3 rfl)) ?_
    refine gx_icmp_ge (pc := 5) (tgt := 34) (by decide) (htX16_sameOld (5, .if_icmp .ge 29, 3) (gx_m 4 rfl)) (fun c2 => ?_) (fun c2 => ?_)
    · refine gx_Jw (lv := []) [] rfl ?_
      exact gx_Jout hb1 (hj1 ())
    · refine gx_aload_n (pc := 8) (n := 0) (i := 0) rfl 0 rfl (htX16_sameOld (8, .aload_n 0, 1) (gx_m 5 rfl)) ?_
      refine gx_Jgs (pc := 9) (ci := 16) (kk := 119) (t2 := 105) (by decide) (by decide) rfl rfl rfl q1793 (htX16_sameOld (9, .getfield 309, 3) (gx_m 6 rfl)) ?_
      refine gx_iload_n (pc := 12) (n := 3) (i := 3) rfl 3 rfl (htX16_sameOld (12, .iload_n 3, 1) (gx_m 7 rfl)) ?_
      refine gx_Jra (pc := 13) (t := 5) (t2 := 100) (by decide) (by decide) rfl (htX16_sameOld (13, .aaload, 1) (gx_m 8 rfl)) (fun v2 => ?_)
      refine gx_iload_n (pc := 14) (n := 1) (i := 1) rfl 1 rfl (htX16_sameOld (14, .iload_n 1, 1) (gx_m 9 rfl)) ?_
      refine gx_Jia (pc := 15) (htX16_sameOld (15, .iaload, 1) (gx_m 10 rfl)) (fun v3 => ?_)
      refine gx_aload_n (pc := 16) (n := 0) (i := 0) rfl 0 rfl (htX16_sameOld (16, .aload_n 0, 1) (gx_m 11 rfl)) ?_
      refine gx_iload_n (pc := 17) (n := 3) (i := 3) rfl 3 rfl (htX16_sameOld (17, .iload_n 3, 1) (gx_m 12 rfl)) ?_
      refine gx_Jcr (pc := 18) (t2 := 100) (gx_hst (as := [gx_i s1]) (b := gx_r 17 (some x0))) (gx_runV (as := [gx_i s1]) (ci := 16) (ct_X16_field Y x0 s1) (by decide) (Or.inl rfl) rfl rfl rfl rfl q2268 q2270 qs82 q117 q2271 rfl dd_X16_field (by decide) (by decide) (Nat.le_of_ble_eq_true rfl) (htX16_sameOld (18, .invokevirtual 401, 3) (gx_m 13 rfl))) (fun v4 => ?_)
      refine gx_iload_n (pc := 21) (n := 2) (i := 2) rfl 2 rfl (htX16_sameOld (21, .iload_n 2, 1) (gx_m 14 rfl)) ?_
      refine gx_Jia (pc := 22) (htX16_sameOld (22, .iaload, 1) (gx_m 15 rfl)) (fun v5 => ?_)
      refine gx_icmp_eq (pc := 23) (tgt := 28) (by decide) (htX16_sameOld (23, .if_icmp .eq 5, 3) (gx_m 16 rfl)) (fun c3 => ?_) (fun c3 => ?_)
      · refine gx_iinc (pc := 28) (i := 3) (j := 3) (v := (s1 + 1)) (lv' := [(3, gx_i (s1 + 1)), (0, gx_r 17 (some x0)), (1, gx_i x1), (2, gx_i x2)]) rfl (gx_iv (by decide)) (by decide) rfl (htX16_sameOld (28, .iinc 3 1, 3) (gx_m 19 rfl)) ?_
        refine gx_goto (pc := 31) (tgt := 2) (by decide) (htX16_sameOld (31, .goto (-29), 3) (gx_m 20 rfl)) ?_
        refine gx_Jw (lv := [(0, gx_r 17 (some x0)), (1, gx_i x1), (2, gx_i x2), (3, gx_i (s1 + 1))]) [1, 2, 3, 0] rfl ?_
        exact ha1 ((s1 + 1) : Int32)
      · refine gx_iconst (pc := 26) (v := 0) (by decide) (htX16_sameOld (26, .iconst 0, 1) (gx_m 17 rfl)) ?_
        refine gx_Jret ((hb1 _).trans (he1 _)) ?_
        exact gx_Jzret (pc := 27) rfl gx_b0 (fun _ => gx_b0) (fun _ _ => rfl) (htX16_sameOld (27, .ireturn, 1) (gx_m 18 rfl))
theorem ct_X16_history (Y : gx_Y) (x0 : gx_Nm) (x1 : Int32) (x2 : Int32) : gx_Ct Y yX16_history (ws_ yX16_history cX16_history 6 none) 7 252 [gx_r 17 (some x0), gx_i x1, gx_i x2] gx_Ov (f_X16_history x0 x1 x2) := by
  refine gx_start (lv := [(0, gx_r 17 (some x0)), (1, gx_i x1), (2, gx_i x2)]) gx_Ov_r pn_X16 (Nat.le_of_ble_eq_true rfl) rfl ?_
  unfold f_X16_history
  refine gx_aload_n (pc := 0) (n := 0) (i := 0) rfl 0 rfl (htX16_history_0 (0, .aload_n 0, 1) (gx_m 0 rfl)) ?_
  refine gx_aload_n (pc := 1) (n := 0) (i := 0) rfl 0 rfl (htX16_history_0 (1, .aload_n 0, 1) (gx_m 1 rfl)) ?_
  refine gx_Jgs (pc := 2) (ci := 16) (kk := 48) (t2 := 100) (by decide) (by decide) rfl rfl rfl q1722 (htX16_history_0 (2, .getfield 133, 3) (gx_m 2 rfl)) ?_
  refine gx_iload_n (pc := 5) (n := 1) (i := 1) rfl 1 rfl (htX16_history_0 (5, .iload_n 1, 1) (gx_m 3 rfl)) ?_
  refine gx_Jia (pc := 6) (htX16_history_0 (6, .iaload, 1) (gx_m 4 rfl)) (fun v1 => ?_)
  refine gx_sipush (pc := 7) (v := 1501) (by decide) (htX16_history_0 (7, .sipush 1501, 3) (gx_m 5 rfl)) ?_
  refine gx_iload_n (pc := 10) (n := 2) (i := 2) rfl 2 rfl (htX16_history_0 (10, .iload_n 2, 1) (gx_m 6 rfl)) ?_
  refine gx_iconst (pc := 11) (v := 1) (by decide) (htX16_history_0 (11, .iconst 1, 1) (gx_m 7 rfl)) ?_
  refine gx_isub (pc := 12) (htX16_history_0 (12, .isub, 1) (gx_m 8 rfl)) ?_
  refine gx_Jcv (pc := 13) (gx_hst (as := [gx_i v1, gx_i 1501, gx_i (x2 - 1)]) (b := gx_r 17 (some x0))) (gx_runV (as := [gx_i v1, gx_i 1501, gx_i (x2 - 1)]) (ci := 16) (ct_X16_store Y x0 v1 1501 (x2 - 1)) (by decide) (Or.inl rfl) rfl rfl rfl rfl q2260 q2262 qs80 q117 q2263 rfl dd_X16_store (by decide) (by decide) (Nat.le_of_ble_eq_true rfl) (htX16_history_0 (13, .invokevirtual 454, 3) (gx_m 9 rfl))) ?_
  refine gx_iconst (pc := 16) (v := 0) (by decide) (htX16_history_0 (16, .iconst 0, 1) (gx_m 10 rfl)) ?_
  refine gx_istore_n (pc := 17) (n := 3) (i := 3) (lv' := [(3, gx_i 0), (0, gx_r 17 (some x0)), (1, gx_i x1), (2, gx_i x2)]) rfl (by decide) rfl (htX16_history_0 (17, .istore_n 3, 1) (gx_m 11 rfl)) ?_
  refine gx_Jjoin (pcJ := 65) (lvJ := fun (j_1 : Unit) => [(0, gx_r 17 (some x0)), (1, gx_i x1), (2, gx_i x2)]) (stJ := fun (j_1 : Unit) => []) (fun _ => True) (fun j_1 _ => ?_) (fun kk1 hj1 => ?_)
  · refine gx_aload_n (pc := 65) (n := 0) (i := 0) rfl 0 rfl (htX16_history_0 (65, .aload_n 0, 1) (gx_m 36 rfl)) ?_
    refine gx_aload_n (pc := 66) (n := 0) (i := 0) rfl 0 rfl (htX16_history_0 (66, .aload_n 0, 1) (gx_m 37 rfl)) ?_
    refine gx_Jgi (pc := 67) (ci := 16) (kk := 107) (by decide) (Or.inl rfl) (by decide) (by decide) q1781 (htX16_history_0 (67, .getfield 394, 3) (gx_m 38 rfl)) (fun v8 hv8 => ?_)
    refine gx_Jpi (pc := 70) (ci := 16) (kk := 120) (by decide) (Or.inl rfl) (by decide) rfl rfl q1794 (Or.inl rfl) (htX16_history_0 (70, .putfield 573, 3) (gx_m 39 rfl)) ?_
    refine gx_aload_n (pc := 73) (n := 0) (i := 0) rfl 0 rfl (htX16_history_0 (73, .aload_n 0, 1) (gx_m 40 rfl)) ?_
    refine gx_aload_n (pc := 74) (n := 0) (i := 0) rfl 0 rfl (htX16_history_0 (74, .aload_n 0, 1) (gx_m 41 rfl)) ?_
    refine gx_Jgs (pc := 75) (ci := 16) (kk := 48) (t2 := 100) (by decide) (by decide) rfl rfl rfl q1722 (htX16_history_0 (75, .getfield 133, 3) (gx_m 42 rfl)) ?_
    refine gx_iload_n (pc := 78) (n := 1) (i := 1) rfl 1 rfl (htX16_history_0 (78, .iload_n 1, 1) (gx_m 43 rfl)) ?_
    refine gx_Jia (pc := 79) (htX16_history_0 (79, .iaload, 1) (gx_m 44 rfl)) (fun v9 => ?_)
    refine gx_sipush (pc := 80) (v := 1501) (by decide) (htX16_history_0 (80, .sipush 1501, 3) (gx_m 45 rfl)) ?_
    refine gx_iload_n (pc := 83) (n := 2) (i := 2) rfl 2 rfl (htX16_history_0 (83, .iload_n 2, 1) (gx_m 46 rfl)) ?_
    refine gx_Jcv (pc := 84) (gx_hst (as := [gx_i v9, gx_i 1501, gx_i x2]) (b := gx_r 17 (some x0))) (gx_runV (as := [gx_i v9, gx_i 1501, gx_i x2]) (ci := 16) (ct_X16_store Y x0 v9 1501 x2) (by decide) (Or.inl rfl) rfl rfl rfl rfl q2260 q2262 qs80 q117 q2263 rfl dd_X16_store (by decide) (by decide) (Nat.le_of_ble_eq_true rfl) (htX16_history_0 (84, .invokevirtual 454, 3) (gx_m 47 rfl))) ?_
    refine gx_aload_n (pc := 87) (n := 0) (i := 0) rfl 0 rfl (htX16_history_0 (87, .aload_n 0, 1) (gx_m 48 rfl)) ?_
    refine gx_iconst (pc := 88) (v := 0) (by decide) (htX16_history_0 (88, .iconst 0, 1) (gx_m 49 rfl)) ?_
    refine gx_Jpi (pc := 89) (ci := 16) (kk := 121) (by decide) (Or.inl rfl) (by decide) rfl rfl q1795 (Or.inl rfl) (htX16_history_0 (89, .putfield 570, 3) (gx_m 50 rfl)) ?_
    refine gx_iconst (pc := 92) (v := 0) (by decide) (htX16_history_0 (92, .iconst 0, 1) (gx_m 51 rfl)) ?_
    refine gx_istore_n (pc := 93) (n := 3) (i := 3) (lv' := [(3, gx_i 0), (0, gx_r 17 (some x0)), (1, gx_i x1), (2, gx_i x2)]) rfl (by decide) rfl (htX16_history_0 (93, .istore_n 3, 1) (gx_m 52 rfl)) ?_
    refine gx_Jjoin (pcJ := 192) (lvJ := fun (j_2 : Unit) => [(0, gx_r 17 (some x0))]) (stJ := fun (j_2 : Unit) => []) (fun _ => True) (fun j_2 _ => ?_) (fun kk2 hj2 => ?_)
    · refine gx_iconst (pc := 192) (v := 0) (by decide) (htX16_history_1 (192, .iconst 0, 1) (gx_m 10 rfl)) ?_
      refine gx_istore_n (pc := 193) (n := 3) (i := 3) (lv' := [(3, gx_i 0), (0, gx_r 17 (some x0))]) rfl (by decide) rfl (htX16_history_1 (193, .istore_n 3, 1) (gx_m 11 rfl)) ?_
      refine gx_Jjoin (pcJ := 307) (lvJ := fun (j_3 : Unit) => []) (stJ := fun (j_3 : Unit) => []) (fun _ => True) (fun j_3 _ => ?_) (fun kk3 hj3 => ?_)
      · exact gx_Jvret (pc := 307) rfl (fun _ => trivial) (fun _ _ => rfl) (htX16_history_1 (307, .return_, 1) (gx_m 73 rfl))
      · refine gx_Jw (lv := [(0, gx_r 17 (some x0)), (3, gx_i 0)]) [1, 0] rfl ?_
        refine gx_Jlp (pc := 194) (lvh := fun (s24 : Int32) => [(0, gx_r 17 (some x0)), (3, gx_i s24)]) (fun s24 kl3 ha3 hb3 => ?_) _
        unfold lb_X16_history_5
        refine gx_iload_n (pc := 194) (n := 3) (i := 3) rfl 1 rfl (htX16_history_1 (194, .iload_n 3, 1) (gx_m 12 rfl)) ?_
        refine gx_aload_n (pc := 195) (n := 0) (i := 0) rfl 0 rfl (htX16_history_1 (195, .aload_n 0, 1) (gx_m 13 rfl)) ?_
        refine gx_Jgi (pc := 196) (ci := 16) (kk := 107) (by decide) (Or.inl rfl) (by decide) (by decide) q1781 (htX16_history_1 (196, .getfield 394, 3) (gx_m 14 rfl)) (fun v25 hv25 => ?_)
        refine gx_icmp_ge (pc := 199) (tgt := 307) (by decide) (htX16_history_1 (199, .if_icmp .ge 108, 3) (gx_m 15 rfl)) (fun c4 => ?_) (fun c4 => ?_)
        · refine gx_Jw (lv := []) [] rfl ?_
          exact gx_Jout hb3 (hj3 () trivial)
        · refine gx_iconst (pc := 202) (v := 0) (by decide) (htX16_history_1 (202, .iconst 0, 1) (gx_m 16 rfl)) ?_
          refine gx_istore (pc := 203) (i := 4) (lv' := [(4, gx_i 0), (0, gx_r 17 (some x0)), (3, gx_i s24)]) (by decide) rfl (htX16_history_1 (203, .istore 4, 2) (gx_m 17 rfl)) ?_
          refine gx_iconst (pc := 205) (v := 0) (by decide) (htX16_history_1 (205, .iconst 0, 1) (gx_m 18 rfl)) ?_
          refine gx_istore (pc := 206) (i := 5) (lv' := [(5, gx_i 0), (4, gx_i 0), (0, gx_r 17 (some x0)), (3, gx_i s24)]) (by decide) rfl (htX16_history_1 (206, .istore 5, 2) (gx_m 19 rfl)) ?_
          refine gx_Jjoin (pcJ := 279) (lvJ := fun (j36 : Int32) => [(0, gx_r 17 (some x0)), (3, gx_i s24), (4, gx_i j36)]) (stJ := fun (j36 : Int32) => []) (fun _ => True) (fun j36 _ => ?_) (fun kk5 hj5 => ?_)
          · refine gx_iload (pc := 279) (i := 4) 2 rfl (htX16_history_1 (279, .iload 4, 2) (gx_m 58 rfl)) ?_
            refine gx_Jjoin (pcJ := 301) (lvJ := fun (j_6 : Unit) => [(0, gx_r 17 (some x0)), (3, gx_i s24)]) (stJ := fun (j_6 : Unit) => []) (fun _ => True) (fun j_6 hj_6 => ?_) (fun kk6 hj6 => ?_)
            · refine gx_iinc (pc := 301) (i := 3) (j := 1) (v := (s24 + 1)) (lv' := [(3, gx_i (s24 + 1)), (0, gx_r 17 (some x0))]) rfl (gx_iv (by decide)) (by decide) rfl (htX16_history_1 (301, .iinc 3 1, 3) (gx_m 71 rfl)) ?_
              refine gx_goto (pc := 304) (tgt := 194) (by decide) (htX16_history_1 (304, .goto (-110), 3) (gx_m 72 rfl)) ?_
              refine gx_Jw (lv := [(0, gx_r 17 (some x0)), (3, gx_i (s24 + 1))]) [1, 0] rfl ?_
              exact ha3 ((s24 + 1) : Int32)
            · refine gx_if_ne (pc := 281) (y := 0) (tgt := 301) (by decide) (htX16_history_1 (281, .ifCond .ne 20, 3) (gx_m 59 rfl)) (fun c7 => ?_) (fun c7 => ?_)
              · refine gx_aload_n (pc := 284) (n := 0) (i := 0) rfl 0 rfl (htX16_history_1 (284, .aload_n 0, 1) (gx_m 60 rfl)) ?_
                refine gx_aload_n (pc := 285) (n := 0) (i := 0) rfl 0 rfl (htX16_history_1 (285, .aload_n 0, 1) (gx_m 61 rfl)) ?_
                refine gx_Jgs (pc := 286) (ci := 16) (kk := 97) (t2 := 100) (by decide) (by decide) rfl rfl rfl q1771 (htX16_history_1 (286, .getfield 264, 3) (gx_m 62 rfl)) ?_
                refine gx_iload_n (pc := 289) (n := 3) (i := 3) rfl 1 rfl (htX16_history_1 (289, .iload_n 3, 1) (gx_m 63 rfl)) ?_
                refine gx_Jia (pc := 290) (htX16_history_1 (290, .iaload, 1) (gx_m 64 rfl)) (fun v37 => ?_)
                refine gx_aload_n (pc := 291) (n := 0) (i := 0) rfl 0 rfl (htX16_history_1 (291, .aload_n 0, 1) (gx_m 65 rfl)) ?_
                refine gx_Jgs (pc := 292) (ci := 16) (kk := 98) (t2 := 100) (by decide) (by decide) rfl rfl rfl q1772 (htX16_history_1 (292, .getfield 267, 3) (gx_m 66 rfl)) ?_
                refine gx_iload_n (pc := 295) (n := 3) (i := 3) rfl 1 rfl (htX16_history_1 (295, .iload_n 3, 1) (gx_m 67 rfl)) ?_
                refine gx_Jia (pc := 296) (htX16_history_1 (296, .iaload, 1) (gx_m 68 rfl)) (fun v38 => ?_)
                refine gx_iconst (pc := 297) (v := 0) (by decide) (htX16_history_1 (297, .iconst 0, 1) (gx_m 69 rfl)) ?_
                refine gx_Jcv (pc := 298) (gx_hst (as := [gx_i v37, gx_i v38, gx_i 0]) (b := gx_r 17 (some x0))) (gx_runV (as := [gx_i v37, gx_i v38, gx_i 0]) (ci := 16) (ct_X16_event_2 Y x0 v37 v38 0) (by decide) (Or.inl rfl) rfl rfl rfl rfl q2359 q2361 qs97 q117 q2362 rfl dd_X16_event_2 (by decide) (by decide) (Nat.le_of_ble_eq_true rfl) (htX16_history_1 (298, .invokevirtual 576, 3) (gx_m 70 rfl))) ?_
                refine gx_Jw (lv := [(0, gx_r 17 (some x0)), (3, gx_i s24)]) [0, 1] rfl ?_
                exact hj6 () trivial
              · refine gx_Jw (lv := [(0, gx_r 17 (some x0)), (3, gx_i s24)]) [0, 1] rfl ?_
                exact hj6 () trivial
          · refine gx_Jw (lv := [(0, gx_r 17 (some x0)), (3, gx_i s24), (4, gx_i 0), (5, gx_i 0)]) [2, 3, 1, 0] rfl ?_
            refine gx_Jlp (pc := 208) (lvh := fun (s26 : Int32 × Int32) => [(0, gx_r 17 (some x0)), (3, gx_i s24), (4, gx_i s26.1), (5, gx_i s26.2)]) (fun s26 kl5 ha5 hb5 => ?_) _
            unfold lb_X16_history_4
            refine gx_iload (pc := 208) (i := 5) 3 rfl (htX16_history_1 (208, .iload 5, 2) (gx_m 20 rfl)) ?_
            refine gx_aload_n (pc := 210) (n := 0) (i := 0) rfl 0 rfl (htX16_history_1 (210, .aload_n 0, 1) (gx_m 21 rfl)) ?_
            refine gx_Jgi (pc := 211) (ci := 16) (kk := 120) (by decide) (Or.inl rfl) (by decide) (by decide) q1794 (htX16_history_1 (211, .getfield 573, 3) (gx_m 22 rfl)) (fun v27 hv27 => ?_)
            refine gx_icmp_ge (pc := 214) (tgt := 279) (by decide) (htX16_history_1 (214, .if_icmp .ge 65, 3) (gx_m 23 rfl)) (fun c8 => ?_) (fun c8 => ?_)
            · refine gx_Jw (lv := [(0, gx_r 17 (some x0)), (3, gx_i s24), (4, gx_i s26.1)]) [0, 1, 2] rfl ?_
              exact gx_Jout hb5 (hj5 (s26.1 : Int32) trivial)
            · refine gx_iload (pc := 217) (i := 4) 2 rfl (htX16_history_1 (217, .iload 4, 2) (gx_m 24 rfl)) ?_
              refine gx_Jjoin (pcJ := 271) (lvJ := fun (j35 : Int32) => [(0, gx_r 17 (some x0)), (3, gx_i s24), (5, gx_i s26.2)]) (stJ := fun (j35 : Int32) => [gx_i j35]) (fun (j35 : Int32) => j35 &&& 1 = j35) (fun j35 hj35 => ?_) (fun kk9 hj9 => ?_)
              · refine gx_istore (pc := 271) (i := 4) (lv' := [(4, gx_i j35), (0, gx_r 17 (some x0)), (3, gx_i s24), (5, gx_i s26.2)]) (by decide) rfl (htX16_history_1 (271, .istore 4, 2) (gx_m 55 rfl)) ?_
                refine gx_iinc (pc := 273) (i := 5) (j := 3) (v := (s26.2 + 1)) (lv' := [(5, gx_i (s26.2 + 1)), (4, gx_i j35), (0, gx_r 17 (some x0)), (3, gx_i s24)]) rfl (gx_iv (by decide)) (by decide) rfl (htX16_history_1 (273, .iinc 5 1, 3) (gx_m 56 rfl)) ?_
                refine gx_goto (pc := 276) (tgt := 208) (by decide) (htX16_history_1 (276, .goto (-68), 3) (gx_m 57 rfl)) ?_
                refine gx_Jw (lv := [(0, gx_r 17 (some x0)), (3, gx_i s24), (4, gx_i j35), (5, gx_i (s26.2 + 1))]) [2, 3, 1, 0] rfl ?_
                exact ha5 ((j35 : Int32), ((s26.2 + 1) : Int32))
              · refine gx_if_ne (pc := 219) (y := 0) (tgt := 266) (by decide) (htX16_history_1 (219, .ifCond .ne 47, 3) (gx_m 25 rfl)) (fun c10 => ?_) (fun c10 => ?_)
                · refine gx_aload_n (pc := 222) (n := 0) (i := 0) rfl 0 rfl (htX16_history_1 (222, .aload_n 0, 1) (gx_m 26 rfl)) ?_
                  refine gx_Jgs (pc := 223) (ci := 16) (kk := 19) (t2 := 101) (by decide) (by decide) rfl rfl rfl q1693 (htX16_history_1 (223, .getfield 54, 3) (gx_m 27 rfl)) ?_
                  refine gx_aload_n (pc := 226) (n := 0) (i := 0) rfl 0 rfl (htX16_history_1 (226, .aload_n 0, 1) (gx_m 28 rfl)) ?_
                  refine gx_Jgs (pc := 227) (ci := 16) (kk := 119) (t2 := 105) (by decide) (by decide) rfl rfl rfl q1793 (htX16_history_1 (227, .getfield 309, 3) (gx_m 29 rfl)) ?_
                  refine gx_iconst (pc := 230) (v := 0) (by decide) (htX16_history_1 (230, .iconst 0, 1) (gx_m 30 rfl)) ?_
                  refine gx_Jra (pc := 231) (t := 5) (t2 := 100) (by decide) (by decide) rfl (htX16_history_1 (231, .aaload, 1) (gx_m 31 rfl)) (fun v28 => ?_)
                  refine gx_iload (pc := 232) (i := 5) 3 rfl (htX16_history_1 (232, .iload 5, 2) (gx_m 32 rfl)) ?_
                  refine gx_Jia (pc := 234) (htX16_history_1 (234, .iaload, 1) (gx_m 33 rfl)) (fun v29 => ?_)
                  refine gx_aload_n (pc := 235) (n := 0) (i := 0) rfl 0 rfl (htX16_history_1 (235, .aload_n 0, 1) (gx_m 34 rfl)) ?_
                  refine gx_Jgs (pc := 236) (ci := 16) (kk := 119) (t2 := 105) (by decide) (by decide) rfl rfl rfl q1793 (htX16_history_1 (236, .getfield 309, 3) (gx_m 35 rfl)) ?_
                  refine gx_iconst (pc := 239) (v := 1) (by decide) (htX16_history_1 (239, .iconst 1, 1) (gx_m 36 rfl)) ?_
                  refine gx_Jra (pc := 240) (t := 5) (t2 := 100) (by decide) (by decide) rfl (htX16_history_1 (240, .aaload, 1) (gx_m 37 rfl)) (fun v30 => ?_)
                  refine gx_iload (pc := 241) (i := 5) 3 rfl (htX16_history_1 (241, .iload 5, 2) (gx_m 38 rfl)) ?_
                  refine gx_Jia (pc := 243) (htX16_history_1 (243, .iaload, 1) (gx_m 39 rfl)) (fun v31 => ?_)
                  refine gx_aload_n (pc := 244) (n := 0) (i := 0) rfl 0 rfl (htX16_history_1 (244, .aload_n 0, 1) (gx_m 40 rfl)) ?_
                  refine gx_Jgs (pc := 245) (ci := 16) (kk := 19) (t2 := 101) (by decide) (by decide) rfl rfl rfl q1693 (htX16_history_1 (245, .getfield 54, 3) (gx_m 41 rfl)) ?_
                  refine gx_aload_n (pc := 248) (n := 0) (i := 0) rfl 0 rfl (htX16_history_1 (248, .aload_n 0, 1) (gx_m 42 rfl)) ?_
                  refine gx_Jgs (pc := 249) (ci := 16) (kk := 97) (t2 := 100) (by decide) (by decide) rfl rfl rfl q1771 (htX16_history_1 (249, .getfield 264, 3) (gx_m 43 rfl)) ?_
                  refine gx_iload_n (pc := 252) (n := 3) (i := 3) rfl 1 rfl (htX16_history_1 (252, .iload_n 3, 1) (gx_m 44 rfl)) ?_
                  refine gx_Jia (pc := 253) (htX16_history_1 (253, .iaload, 1) (gx_m 45 rfl)) (fun v32 => ?_)
                  refine gx_aload_n (pc := 254) (n := 0) (i := 0) rfl 0 rfl (htX16_history_1 (254, .aload_n 0, 1) (gx_m 46 rfl)) ?_
                  refine gx_Jgs (pc := 255) (ci := 16) (kk := 98) (t2 := 100) (by decide) (by decide) rfl rfl rfl q1772 (htX16_history_1 (255, .getfield 267, 3) (gx_m 47 rfl)) ?_
                  refine gx_iload_n (pc := 258) (n := 3) (i := 3) rfl 1 rfl (htX16_history_1 (258, .iload_n 3, 1) (gx_m 48 rfl)) ?_
                  refine gx_Jia (pc := 259) (htX16_history_1 (259, .iaload, 1) (gx_m 49 rfl)) (fun v33 => ?_)
                  refine gx_Jci (pc := 260) (gx_hstS (as := [gx_r 101 (some (19 :: x0)), gx_i v29, gx_i v31, gx_r 101 (some (19 :: x0)), gx_i v32, gx_i v33])) (gx_runS (as := [gx_r 101 (some (19 :: x0)), gx_i v29, gx_i v31, gx_r 101 (some (19 :: x0)), gx_i v32, gx_i v33]) (ct_X16_compare Y (19 :: x0) v29 v31 (19 :: x0) v32 v33) rfl rfl rfl q2284 q2285 q117 q2286 rfl dd_X16_compare (by decide) (by decide) (Nat.le_of_ble_eq_true rfl) (htX16_history_1 (260, .invokestatic 397, 3) (gx_m 50 rfl))) (fun v34 => ?_)
                  refine gx_if_ne (pc := 263) (y := 0) (tgt := 270) (by decide) (htX16_history_1 (263, .ifCond .ne 7, 3) (gx_m 51 rfl)) (fun c11 => ?_) (fun c11 => ?_)
                  · refine gx_iconst (pc := 266) (v := 1) (by decide) (htX16_history_1 (266, .iconst 1, 1) (gx_m 52 rfl)) ?_
                    refine gx_goto (pc := 267) (tgt := 271) (by decide) (htX16_history_1 (267, .goto 4, 3) (gx_m 53 rfl)) ?_
                    refine gx_Jw (lv := [(0, gx_r 17 (some x0)), (3, gx_i s24), (5, gx_i s26.2)]) [0, 1, 3] rfl ?_
                    exact hj9 (1 : Int32) gx_b1
                  · refine gx_iconst (pc := 270) (v := 0) (by decide) (htX16_history_1 (270, .iconst 0, 1) (gx_m 54 rfl)) ?_
                    refine gx_Jw (lv := [(0, gx_r 17 (some x0)), (3, gx_i s24), (5, gx_i s26.2)]) [0, 1, 3] rfl ?_
                    exact hj9 (0 : Int32) gx_b0
                · refine gx_iconst (pc := 266) (v := 1) (by decide) (htX16_history_1 (266, .iconst 1, 1) (gx_m 52 rfl)) ?_
                  refine gx_goto (pc := 267) (tgt := 271) (by decide) (htX16_history_1 (267, .goto 4, 3) (gx_m 53 rfl)) ?_
                  refine gx_Jw (lv := [(0, gx_r 17 (some x0)), (3, gx_i s24), (5, gx_i s26.2)]) [0, 1, 3] rfl ?_
                  exact hj9 (1 : Int32) gx_b1
    · refine gx_Jw (lv := [(0, gx_r 17 (some x0)), (3, gx_i 0)]) [1, 0] rfl ?_
      refine gx_Jlp (pc := 94) (lvh := fun (s10 : Int32) => [(0, gx_r 17 (some x0)), (3, gx_i s10)]) (fun s10 kl2 ha2 hb2 => ?_) _
      unfold lb_X16_history_3
      refine gx_iload_n (pc := 94) (n := 3) (i := 3) rfl 1 rfl (htX16_history_0 (94, .iload_n 3, 1) (gx_m 53 rfl)) ?_
      refine gx_aload_n (pc := 95) (n := 0) (i := 0) rfl 0 rfl (htX16_history_0 (95, .aload_n 0, 1) (gx_m 54 rfl)) ?_
      refine gx_Jgi (pc := 96) (ci := 16) (kk := 120) (by decide) (Or.inl rfl) (by decide) (by decide) q1794 (htX16_history_0 (96, .getfield 573, 3) (gx_m 55 rfl)) (fun v11 hv11 => ?_)
      refine gx_icmp_ge (pc := 99) (tgt := 192) (by decide) (htX16_history_0 (99, .if_icmp .ge 93, 3) (gx_m 56 rfl)) (fun c12 => ?_) (fun c12 => ?_)
      · refine gx_Jw (lv := [(0, gx_r 17 (some x0))]) [0] rfl ?_
        exact gx_Jout hb2 (hj2 () trivial)
      · refine gx_aload_n (pc := 102) (n := 0) (i := 0) rfl 0 rfl (htX16_history_0 (102, .aload_n 0, 1) (gx_m 57 rfl)) ?_
        refine gx_aload_n (pc := 103) (n := 0) (i := 0) rfl 0 rfl (htX16_history_0 (103, .aload_n 0, 1) (gx_m 58 rfl)) ?_
        refine gx_Jgs (pc := 104) (ci := 16) (kk := 19) (t2 := 101) (by decide) (by decide) rfl rfl rfl q1693 (htX16_history_0 (104, .getfield 54, 3) (gx_m 59 rfl)) ?_
        refine gx_aload_n (pc := 107) (n := 0) (i := 0) rfl 0 rfl (htX16_history_0 (107, .aload_n 0, 1) (gx_m 60 rfl)) ?_
        refine gx_Jgs (pc := 108) (ci := 16) (kk := 119) (t2 := 105) (by decide) (by decide) rfl rfl rfl q1793 (htX16_history_0 (108, .getfield 309, 3) (gx_m 61 rfl)) ?_
        refine gx_iconst (pc := 111) (v := 0) (by decide) (htX16_history_0 (111, .iconst 0, 1) (gx_m 62 rfl)) ?_
        refine gx_Jra (pc := 112) (t := 5) (t2 := 100) (by decide) (by decide) rfl (htX16_history_0 (112, .aaload, 1) (gx_m 63 rfl)) (fun v12 => ?_)
        refine gx_iload_n (pc := 113) (n := 3) (i := 3) rfl 1 rfl (htX16_history_0 (113, .iload_n 3, 1) (gx_m 64 rfl)) ?_
        refine gx_Jia (pc := 114) (htX16_history_0 (114, .iaload, 1) (gx_m 65 rfl)) (fun v13 => ?_)
        refine gx_aload_n (pc := 115) (n := 0) (i := 0) rfl 0 rfl (htX16_history_0 (115, .aload_n 0, 1) (gx_m 66 rfl)) ?_
        refine gx_Jgs (pc := 116) (ci := 16) (kk := 119) (t2 := 105) (by decide) (by decide) rfl rfl rfl q1793 (htX16_history_0 (116, .getfield 309, 3) (gx_m 67 rfl)) ?_
        refine gx_iconst (pc := 119) (v := 1) (by decide) (htX16_history_0 (119, .iconst 1, 1) (gx_m 68 rfl)) ?_
        refine gx_Jra (pc := 120) (t := 5) (t2 := 100) (by decide) (by decide) rfl (htX16_history_0 (120, .aaload, 1) (gx_m 69 rfl)) (fun v14 => ?_)
        refine gx_iload_n (pc := 121) (n := 3) (i := 3) rfl 1 rfl (htX16_history_0 (121, .iload_n 3, 1) (gx_m 70 rfl)) ?_
        refine gx_Jia (pc := 122) (htX16_history_0 (122, .iaload, 1) (gx_m 71 rfl)) (fun v15 => ?_)
        refine gx_Jci (pc := 123) (gx_hst (as := [gx_r 101 (some (19 :: x0)), gx_i v13, gx_i v15]) (b := gx_r 17 (some x0))) (gx_runV (as := [gx_r 101 (some (19 :: x0)), gx_i v13, gx_i v15]) (ci := 16) (ct_X16_findPair Y x0 (19 :: x0) v13 v15) (by decide) (Or.inl rfl) rfl rfl rfl rfl q2280 q2282 qs85 q117 q2283 rfl dd_X16_findPair (by decide) (by decide) (Nat.le_of_ble_eq_true rfl) (htX16_history_0 (123, .invokevirtual 408, 3) (gx_m 72 rfl))) (fun v16 => ?_)
        refine gx_istore (pc := 126) (i := 4) (lv' := [(4, gx_i v16), (0, gx_r 17 (some x0)), (3, gx_i s10)]) (by decide) rfl (htX16_history_0 (126, .istore 4, 2) (gx_m 73 rfl)) ?_
        refine gx_iload (pc := 128) (i := 4) 0 rfl (htX16_history_0 (128, .iload 4, 2) (gx_m 74 rfl)) ?_
        refine gx_Jjoin (pcJ := 186) (lvJ := fun (j_13 : Unit) => [(0, gx_r 17 (some x0)), (3, gx_i s10)]) (stJ := fun (j_13 : Unit) => []) (fun _ => True) (fun j_13 hj_13 => ?_) (fun kk13 hj13 => ?_)
        · refine gx_iinc (pc := 186) (i := 3) (j := 1) (v := (s10 + 1)) (lv' := [(3, gx_i (s10 + 1)), (0, gx_r 17 (some x0))]) rfl (gx_iv (by decide)) (by decide) rfl (htX16_history_1 (186, .iinc 3 1, 3) (gx_m 8 rfl)) ?_
          refine gx_goto (pc := 189) (tgt := 94) (by decide) (htX16_history_1 (189, .goto (-95), 3) (gx_m 9 rfl)) ?_
          refine gx_Jw (lv := [(0, gx_r 17 (some x0)), (3, gx_i (s10 + 1))]) [1, 0] rfl ?_
          exact ha2 ((s10 + 1) : Int32)
        · refine gx_if_ge (pc := 130) (y := 0) (tgt := 157) (by decide) (htX16_history_0 (130, .ifCond .ge 27, 3) (gx_m 75 rfl)) (fun c14 => ?_) (fun c14 => ?_)
          · refine gx_aload_n (pc := 157) (n := 0) (i := 0) rfl 1 rfl (htX16_history_0 (157, .aload_n 0, 1) (gx_m 92 rfl)) ?_
            refine gx_iload_n (pc := 158) (n := 3) (i := 3) rfl 2 rfl (htX16_history_0 (158, .iload_n 3, 1) (gx_m 93 rfl)) ?_
            refine gx_iload (pc := 159) (i := 4) 0 rfl (htX16_history_0 (159, .iload 4, 2) (gx_m 94 rfl)) ?_
            refine gx_Jcz (pc := 161) (gx_hst (as := [gx_i s10, gx_i v16]) (b := gx_r 17 (some x0))) (gx_runV (as := [gx_i s10, gx_i v16]) (ci := 16) (ct_X16_sameOld Y x0 s10 v16) (by decide) (Or.inl rfl) rfl rfl rfl rfl q2363 q2365 qs98 q117 q2366 rfl dd_X16_sameOld (by decide) (by decide) (Nat.le_of_ble_eq_true rfl) (htX16_history_0 (161, .invokevirtual 580, 3) (gx_m 95 rfl))) (fun v17 hv17 => ?_)
            refine gx_if_ne (pc := 164) (y := 0) (tgt := 186) (by decide) (htX16_history_0 (164, .ifCond .ne 22, 3) (gx_m 96 rfl)) (fun c15 => ?_) (fun c15 => ?_)
            · refine gx_aload_n (pc := 167) (n := 0) (i := 0) rfl 1 rfl (htX16_history_0 (167, .aload_n 0, 1) (gx_m 97 rfl)) ?_
              refine gx_aload_n (pc := 168) (n := 0) (i := 0) rfl 1 rfl (htX16_history_0 (168, .aload_n 0, 1) (gx_m 98 rfl)) ?_
              refine gx_Jgs (pc := 169) (ci := 16) (kk := 97) (t2 := 100) (by decide) (by decide) rfl rfl rfl q1771 (htX16_history_0 (169, .getfield 264, 3) (gx_m 99 rfl)) ?_
              refine gx_iload (pc := 172) (i := 4) 0 rfl (htX16_history_1 (172, .iload 4, 2) (gx_m 0 rfl)) ?_
              refine gx_Jia (pc := 174) (htX16_history_1 (174, .iaload, 1) (gx_m 1 rfl)) (fun v18 => ?_)
              refine gx_aload_n (pc := 175) (n := 0) (i := 0) rfl 1 rfl (htX16_history_1 (175, .aload_n 0, 1) (gx_m 2 rfl)) ?_
              refine gx_Jgs (pc := 176) (ci := 16) (kk := 98) (t2 := 100) (by decide) (by decide) rfl rfl rfl q1772 (htX16_history_1 (176, .getfield 267, 3) (gx_m 3 rfl)) ?_
              refine gx_iload (pc := 179) (i := 4) 0 rfl (htX16_history_1 (179, .iload 4, 2) (gx_m 4 rfl)) ?_
              refine gx_Jia (pc := 181) (htX16_history_1 (181, .iaload, 1) (gx_m 5 rfl)) (fun v19 => ?_)
              refine gx_iconst (pc := 182) (v := 0) (by decide) (htX16_history_1 (182, .iconst 0, 1) (gx_m 6 rfl)) ?_
              refine gx_Jcv (pc := 183) (gx_hst (as := [gx_i v18, gx_i v19, gx_i 0]) (b := gx_r 17 (some x0))) (gx_runV (as := [gx_i v18, gx_i v19, gx_i 0]) (ci := 16) (ct_X16_event_2 Y x0 v18 v19 0) (by decide) (Or.inl rfl) rfl rfl rfl rfl q2359 q2361 qs97 q117 q2362 rfl dd_X16_event_2 (by decide) (by decide) (Nat.le_of_ble_eq_true rfl) (htX16_history_1 (183, .invokevirtual 576, 3) (gx_m 7 rfl))) ?_
              refine gx_Jw (lv := [(0, gx_r 17 (some x0)), (3, gx_i s10)]) [1, 2] rfl ?_
              exact hj13 () trivial
            · refine gx_Jw (lv := [(0, gx_r 17 (some x0)), (3, gx_i s10)]) [1, 2] rfl ?_
              exact hj13 () trivial
          · refine gx_aload_n (pc := 133) (n := 0) (i := 0) rfl 1 rfl (htX16_history_0 (133, .aload_n 0, 1) (gx_m 76 rfl)) ?_
            refine gx_aload_n (pc := 134) (n := 0) (i := 0) rfl 1 rfl (htX16_history_0 (134, .aload_n 0, 1) (gx_m 77 rfl)) ?_
            refine gx_Jgs (pc := 135) (ci := 16) (kk := 119) (t2 := 105) (by decide) (by decide) rfl rfl rfl q1793 (htX16_history_0 (135, .getfield 309, 3) (gx_m 78 rfl)) ?_
            refine gx_iconst (pc := 138) (v := 0) (by decide) (htX16_history_0 (138, .iconst 0, 1) (gx_m 79 rfl)) ?_
            refine gx_Jra (pc := 139) (t := 5) (t2 := 100) (by decide) (by decide) rfl (htX16_history_0 (139, .aaload, 1) (gx_m 80 rfl)) (fun v20 => ?_)
            refine gx_iload_n (pc := 140) (n := 3) (i := 3) rfl 2 rfl (htX16_history_0 (140, .iload_n 3, 1) (gx_m 81 rfl)) ?_
            refine gx_Jia (pc := 141) (htX16_history_0 (141, .iaload, 1) (gx_m 82 rfl)) (fun v21 => ?_)
            refine gx_aload_n (pc := 142) (n := 0) (i := 0) rfl 1 rfl (htX16_history_0 (142, .aload_n 0, 1) (gx_m 83 rfl)) ?_
            refine gx_Jgs (pc := 143) (ci := 16) (kk := 119) (t2 := 105) (by decide) (by decide) rfl rfl rfl q1793 (htX16_history_0 (143, .getfield 309, 3) (gx_m 84 rfl)) ?_
            refine gx_iconst (pc := 146) (v := 1) (by decide) (htX16_history_0 (146, .iconst 1, 1) (gx_m 85 rfl)) ?_
            refine gx_Jra (pc := 147) (t := 5) (t2 := 100) (by decide) (by decide) rfl (htX16_history_0 (147, .aaload, 1) (gx_m 86 rfl)) (fun v22 => ?_)
            refine gx_iload_n (pc := 148) (n := 3) (i := 3) rfl 2 rfl (htX16_history_0 (148, .iload_n 3, 1) (gx_m 87 rfl)) ?_
            refine gx_Jia (pc := 149) (htX16_history_0 (149, .iaload, 1) (gx_m 88 rfl)) (fun v23 => ?_)
            refine gx_iconst (pc := 150) (v := 1) (by decide) (htX16_history_0 (150, .iconst 1, 1) (gx_m 89 rfl)) ?_
            refine gx_Jcv (pc := 151) (gx_hst (as := [gx_i v21, gx_i v23, gx_i 1]) (b := gx_r 17 (some x0))) (gx_runV (as := [gx_i v21, gx_i v23, gx_i 1]) (ci := 16) (ct_X16_event_2 Y x0 v21 v23 1) (by decide) (Or.inl rfl) rfl rfl rfl rfl q2359 q2361 qs97 q117 q2362 rfl dd_X16_event_2 (by decide) (by decide) (Nat.le_of_ble_eq_true rfl) (htX16_history_0 (151, .invokevirtual 576, 3) (gx_m 90 rfl))) ?_
            refine gx_goto (pc := 154) (tgt := 186) (by decide) (htX16_history_0 (154, .goto 32, 3) (gx_m 91 rfl)) ?_
            refine gx_Jw (lv := [(0, gx_r 17 (some x0)), (3, gx_i s10)]) [1, 2] rfl ?_
            exact hj13 () trivial
  · refine gx_Jw (lv := [(0, gx_r 17 (some x0)), (1, gx_i x1), (2, gx_i x2), (3, gx_i 0)]) [1, 2, 3, 0] rfl ?_
    refine gx_Jlp (pc := 18) (lvh := fun (s2 : Int32) => [(0, gx_r 17 (some x0)), (1, gx_i x1), (2, gx_i x2), (3, gx_i s2)]) (fun s2 kl1 ha1 hb1 => ?_) _
    unfold lb_X16_history_2
    refine gx_iload_n (pc := 18) (n := 3) (i := 3) rfl 3 rfl (htX16_history_0 (18, .iload_n 3, 1) (gx_m 12 rfl)) ?_
    refine gx_bipush (pc := 19) (v := 8) (by decide) (htX16_history_0 (19, .bipush 8, 2) (gx_m 13 rfl)) ?_
    refine gx_icmp_ge (pc := 21) (tgt := 65) (by decide) (htX16_history_0 (21, .if_icmp .ge 44, 3) (gx_m 14 rfl)) (fun c16 => ?_) (fun c16 => ?_)
    · refine gx_Jw (lv := [(0, gx_r 17 (some x0)), (1, gx_i x1), (2, gx_i x2)]) [0, 1, 2] rfl ?_
      exact gx_Jout hb1 (hj1 () trivial)
    · refine gx_iconst (pc := 24) (v := 0) (by decide) (htX16_history_0 (24, .iconst 0, 1) (gx_m 15 rfl)) ?_
      refine gx_istore (pc := 25) (i := 4) (lv' := [(4, gx_i 0), (0, gx_r 17 (some x0)), (1, gx_i x1), (2, gx_i x2), (3, gx_i s2)]) (by decide) rfl (htX16_history_0 (25, .istore 4, 2) (gx_m 16 rfl)) ?_
      refine gx_Jjoin (pcJ := 59) (lvJ := fun (j_17 : Unit) => [(0, gx_r 17 (some x0)), (1, gx_i x1), (2, gx_i x2), (3, gx_i s2)]) (stJ := fun (j_17 : Unit) => []) (fun _ => True) (fun j_17 _ => ?_) (fun kk17 hj17 => ?_)
      · refine gx_iinc (pc := 59) (i := 3) (j := 3) (v := (s2 + 1)) (lv' := [(3, gx_i (s2 + 1)), (0, gx_r 17 (some x0)), (1, gx_i x1), (2, gx_i x2)]) rfl (gx_iv (by decide)) (by decide) rfl (htX16_history_0 (59, .iinc 3 1, 3) (gx_m 34 rfl)) ?_
        refine gx_goto (pc := 62) (tgt := 18) (by decide) (htX16_history_0 (62, .goto (-44), 3) (gx_m 35 rfl)) ?_
        refine gx_Jw (lv := [(0, gx_r 17 (some x0)), (1, gx_i x1), (2, gx_i x2), (3, gx_i (s2 + 1))]) [1, 2, 3, 0] rfl ?_
        exact ha1 ((s2 + 1) : Int32)
      · refine gx_Jw (lv := [(0, gx_r 17 (some x0)), (1, gx_i x1), (2, gx_i x2), (3, gx_i s2), (4, gx_i 0)]) [1, 2, 3, 4, 0] rfl ?_
        refine gx_Jlp (pc := 27) (lvh := fun (s3 : Int32) => [(0, gx_r 17 (some x0)), (1, gx_i x1), (2, gx_i x2), (3, gx_i s2), (4, gx_i s3)]) (fun s3 kl17 ha17 hb17 => ?_) _
        unfold lb_X16_history_1
        refine gx_iload (pc := 27) (i := 4) 4 rfl (htX16_history_0 (27, .iload 4, 2) (gx_m 17 rfl)) ?_
        refine gx_aload_n (pc := 29) (n := 0) (i := 0) rfl 0 rfl (htX16_history_0 (29, .aload_n 0, 1) (gx_m 18 rfl)) ?_
        refine gx_Jgi (pc := 30) (ci := 16) (kk := 107) (by decide) (Or.inl rfl) (by decide) (by decide) q1781 (htX16_history_0 (30, .getfield 394, 3) (gx_m 19 rfl)) (fun v4 hv4 => ?_)
        refine gx_icmp_ge (pc := 33) (tgt := 59) (by decide) (htX16_history_0 (33, .if_icmp .ge 26, 3) (gx_m 20 rfl)) (fun c18 => ?_) (fun c18 => ?_)
        · refine gx_Jw (lv := [(0, gx_r 17 (some x0)), (1, gx_i x1), (2, gx_i x2), (3, gx_i s2)]) [0, 1, 2, 3] rfl ?_
          exact gx_Jout hb17 (hj17 () trivial)
        · refine gx_aload_n (pc := 36) (n := 0) (i := 0) rfl 0 rfl (htX16_history_0 (36, .aload_n 0, 1) (gx_m 21 rfl)) ?_
          refine gx_Jgs (pc := 37) (ci := 16) (kk := 119) (t2 := 105) (by decide) (by decide) rfl rfl rfl q1793 (htX16_history_0 (37, .getfield 309, 3) (gx_m 22 rfl)) ?_
          refine gx_iload_n (pc := 40) (n := 3) (i := 3) rfl 3 rfl (htX16_history_0 (40, .iload_n 3, 1) (gx_m 23 rfl)) ?_
          refine gx_Jra (pc := 41) (t := 5) (t2 := 100) (by decide) (by decide) rfl (htX16_history_0 (41, .aaload, 1) (gx_m 24 rfl)) (fun v5 => ?_)
          refine gx_iload (pc := 42) (i := 4) 4 rfl (htX16_history_0 (42, .iload 4, 2) (gx_m 25 rfl)) ?_
          refine gx_aload_n (pc := 44) (n := 0) (i := 0) rfl 0 rfl (htX16_history_0 (44, .aload_n 0, 1) (gx_m 26 rfl)) ?_
          refine gx_iload_n (pc := 45) (n := 3) (i := 3) rfl 3 rfl (htX16_history_0 (45, .iload_n 3, 1) (gx_m 27 rfl)) ?_
          refine gx_Jcr (pc := 46) (t2 := 100) (gx_hst (as := [gx_i s2]) (b := gx_r 17 (some x0))) (gx_runV (as := [gx_i s2]) (ci := 16) (ct_X16_field Y x0 s2) (by decide) (Or.inl rfl) rfl rfl rfl rfl q2268 q2270 qs82 q117 q2271 rfl dd_X16_field (by decide) (by decide) (Nat.le_of_ble_eq_true rfl) (htX16_history_0 (46, .invokevirtual 401, 3) (gx_m 28 rfl))) (fun v6 => ?_)
          refine gx_iload (pc := 49) (i := 4) 4 rfl (htX16_history_0 (49, .iload 4, 2) (gx_m 29 rfl)) ?_
          refine gx_Jia (pc := 51) (htX16_history_0 (51, .iaload, 1) (gx_m 30 rfl)) (fun v7 => ?_)
          refine gx_Jis (pc := 52) (htX16_history_0 (52, .iastore, 1) (gx_m 31 rfl)) ?_
          refine gx_iinc (pc := 53) (i := 4) (j := 4) (v := (s3 + 1)) (lv' := [(4, gx_i (s3 + 1)), (0, gx_r 17 (some x0)), (1, gx_i x1), (2, gx_i x2), (3, gx_i s2)]) rfl (gx_iv (by decide)) (by decide) rfl (htX16_history_0 (53, .iinc 4 1, 3) (gx_m 32 rfl)) ?_
          refine gx_goto (pc := 56) (tgt := 27) (by decide) (htX16_history_0 (56, .goto (-29), 3) (gx_m 33 rfl)) ?_
          refine gx_Jw (lv := [(0, gx_r 17 (some x0)), (1, gx_i x1), (2, gx_i x2), (3, gx_i s2), (4, gx_i (s3 + 1))]) [1, 2, 3, 4, 0] rfl ?_
          exact ha17 ((s3 + 1) : Int32)
theorem ct_X16_event (Y : gx_Y) (x0 : gx_Nm) (x1 : Int32) (x2 : Int32) (x3 : Int32) (x4 : Int32) (x5 : Int32) : gx_Ct Y yX16_event (ws_ yX16_event cX16_event 6 (some .int)) 8 277 [gx_r 17 (some x0), gx_i x1, gx_i x2, gx_i x3, gx_i x4, gx_i x5] gx_Oi (f_X16_event x0 x1 x2 x3 x4 x5) := by
  refine gx_start (lv := [(0, gx_r 17 (some x0)), (1, gx_i x1), (2, gx_i x2), (3, gx_i x3), (4, gx_i x4), (5, gx_i x5)]) gx_Oi_r pn_X16 (Nat.le_of_ble_eq_true rfl) rfl ?_
  unfold f_X16_event
  refine gx_iload_n (pc := 0) (n := 3) (i := 3) rfl 3 rfl (htX16_event_0 (0, .iload_n 3, 1) (gx_m 0 rfl)) ?_
  refine gx_Jcond (pcT := 9) (pcE := 15) (lv2 := [(0, gx_r 17 (some x0)), (1, gx_i x1), (2, gx_i x2), (3, gx_i x3), (4, gx_i x4), (5, gx_i x5)]) (st2 := []) ?_ ?_ (fun kk1 hT1 hE1 => ?_)
  · refine gx_aload_n (pc := 9) (n := 0) (i := 0) rfl 0 rfl (htX16_event_0 (9, .aload_n 0, 1) (gx_m 5 rfl)) ?_
    refine gx_iconst (pc := 10) (v := 1) (by decide) (htX16_event_0 (10, .iconst 1, 1) (gx_m 6 rfl)) ?_
    refine gx_Jci (pc := 11) (gx_hst (as := [gx_i 1]) (b := gx_r 17 (some x0))) (gx_runV (as := [gx_i 1]) (ci := 16) (ct_X16_no Y x0 1) (by decide) (Or.inl rfl) rfl rfl rfl rfl q2062 q2064 qs46 q117 q2065 rfl dd_X16_no (by decide) (by decide) (Nat.le_of_ble_eq_true rfl) (htX16_event_0 (11, .invokevirtual 370, 3) (gx_m 7 rfl))) (fun v2 => ?_)
    exact gx_Jiret (pc := 14) rfl (fun _ => trivial) (fun _ _ => rfl) (htX16_event_0 (14, .ireturn, 1) (gx_m 8 rfl))
  · refine gx_aload_n (pc := 15) (n := 0) (i := 0) rfl 0 rfl (htX16_event_0 (15, .aload_n 0, 1) (gx_m 9 rfl)) ?_
    refine gx_iload_n (pc := 16) (n := 1) (i := 1) rfl 1 rfl (htX16_event_0 (16, .iload_n 1, 1) (gx_m 10 rfl)) ?_
    refine gx_Jcz (pc := 17) (gx_hst (as := [gx_i x1]) (b := gx_r 17 (some x0))) (gx_runV (as := [gx_i x1]) (ci := 16) (ct_X16_up Y x0 x1) (by decide) (Or.inl rfl) rfl rfl rfl rfl q2113 q2115 qs51 q117 q2116 rfl dd_X16_up (by decide) (by decide) (Nat.le_of_ble_eq_true rfl) (htX16_event_0 (17, .invokevirtual 532, 3) (gx_m 11 rfl))) (fun v3 hv3 => ?_)
    refine gx_if_ne (pc := 20) (y := 0) (tgt := 29) (by decide) (htX16_event_0 (20, .ifCond .ne 9, 3) (gx_m 12 rfl)) (fun c2 => ?_) (fun c2 => ?_)
    · refine gx_aload_n (pc := 23) (n := 0) (i := 0) rfl 0 rfl (htX16_event_0 (23, .aload_n 0, 1) (gx_m 13 rfl)) ?_
      refine gx_iconst (pc := 24) (v := 3) (by decide) (htX16_event_0 (24, .iconst 3, 1) (gx_m 14 rfl)) ?_
      refine gx_Jci (pc := 25) (gx_hst (as := [gx_i 3]) (b := gx_r 17 (some x0))) (gx_runV (as := [gx_i 3]) (ci := 16) (ct_X16_no Y x0 3) (by decide) (Or.inl rfl) rfl rfl rfl rfl q2062 q2064 qs46 q117 q2065 rfl dd_X16_no (by decide) (by decide) (Nat.le_of_ble_eq_true rfl) (htX16_event_0 (25, .invokevirtual 370, 3) (gx_m 15 rfl))) (fun v4 => ?_)
      exact gx_Jiret (pc := 28) rfl (fun _ => trivial) (fun _ _ => rfl) (htX16_event_0 (28, .ireturn, 1) (gx_m 16 rfl))
    · refine gx_aload_n (pc := 29) (n := 0) (i := 0) rfl 0 rfl (htX16_event_0 (29, .aload_n 0, 1) (gx_m 17 rfl)) ?_
      refine gx_iload_n (pc := 30) (n := 1) (i := 1) rfl 1 rfl (htX16_event_0 (30, .iload_n 1, 1) (gx_m 18 rfl)) ?_
      refine gx_Jcv (pc := 31) (gx_hst (as := [gx_i x1]) (b := gx_r 17 (some x0))) (gx_runV (as := [gx_i x1]) (ci := 16) (ct_X16_now Y x0 x1) (by decide) (Or.inl rfl) rfl rfl rfl rfl q2256 q2258 qs79 q117 q2259 rfl dd_X16_now (by decide) (by decide) (Nat.le_of_ble_eq_true rfl) (htX16_event_0 (31, .invokevirtual 507, 3) (gx_m 19 rfl))) ?_
      refine gx_iload_n (pc := 34) (n := 2) (i := 2) rfl 2 rfl (htX16_event_0 (34, .iload_n 2, 1) (gx_m 20 rfl)) ?_
      refine gx_iconst (pc := 35) (v := 1) (by decide) (htX16_event_0 (35, .iconst 1, 1) (gx_m 21 rfl)) ?_
      refine gx_Jcond (pcT := 47) (pcE := 53) (lv2 := [(0, gx_r 17 (some x0)), (1, gx_i x1), (2, gx_i x2), (3, gx_i x3), (4, gx_i x4), (5, gx_i x5)]) (st2 := []) ?_ ?_ (fun kk3 hT3 hE3 => ?_)
      · refine gx_aload_n (pc := 47) (n := 0) (i := 0) rfl 0 rfl (htX16_event_0 (47, .aload_n 0, 1) (gx_m 27 rfl)) ?_
        refine gx_iconst (pc := 48) (v := 3) (by decide) (htX16_event_0 (48, .iconst 3, 1) (gx_m 28 rfl)) ?_
        refine gx_Jci (pc := 49) (gx_hst (as := [gx_i 3]) (b := gx_r 17 (some x0))) (gx_runV (as := [gx_i 3]) (ci := 16) (ct_X16_no Y x0 3) (by decide) (Or.inl rfl) rfl rfl rfl rfl q2062 q2064 qs46 q117 q2065 rfl dd_X16_no (by decide) (by decide) (Nat.le_of_ble_eq_true rfl) (htX16_event_0 (49, .invokevirtual 370, 3) (gx_m 29 rfl))) (fun v7 => ?_)
        exact gx_Jiret (pc := 52) rfl (fun _ => trivial) (fun _ _ => rfl) (htX16_event_0 (52, .ireturn, 1) (gx_m 30 rfl))
      · refine gx_iload_n (pc := 53) (n := 2) (i := 2) rfl 2 rfl (htX16_event_0 (53, .iload_n 2, 1) (gx_m 31 rfl)) ?_
        refine gx_aload_n (pc := 54) (n := 0) (i := 0) rfl 0 rfl (htX16_event_0 (54, .aload_n 0, 1) (gx_m 32 rfl)) ?_
        refine gx_Jgs (pc := 55) (ci := 16) (kk := 50) (t2 := 100) (by decide) (by decide) rfl rfl rfl q1724 (htX16_event_0 (55, .getfield 139, 3) (gx_m 33 rfl)) ?_
        refine gx_iload_n (pc := 58) (n := 1) (i := 1) rfl 1 rfl (htX16_event_0 (58, .iload_n 1, 1) (gx_m 34 rfl)) ?_
        refine gx_Jia (pc := 59) (htX16_event_0 (59, .iaload, 1) (gx_m 35 rfl)) (fun v8 => ?_)
        refine gx_icmp_ge (pc := 60) (tgt := 69) (by decide) (htX16_event_0 (60, .if_icmp .ge 9, 3) (gx_m 36 rfl)) (fun c4 => ?_) (fun c4 => ?_)
        · refine gx_aload_n (pc := 69) (n := 0) (i := 0) rfl 0 rfl (htX16_event_0 (69, .aload_n 0, 1) (gx_m 41 rfl)) ?_
          refine gx_iload_n (pc := 70) (n := 1) (i := 1) rfl 1 rfl (htX16_event_0 (70, .iload_n 1, 1) (gx_m 42 rfl)) ?_
          refine gx_iload_n (pc := 71) (n := 2) (i := 2) rfl 2 rfl (htX16_event_0 (71, .iload_n 2, 1) (gx_m 43 rfl)) ?_
          refine gx_Jcv (pc := 72) (gx_hst (as := [gx_i x1, gx_i x2]) (b := gx_r 17 (some x0))) (gx_runV (as := [gx_i x1, gx_i x2]) (ci := 16) (ct_X16_history Y x0 x1 x2) (by decide) (Or.inl rfl) rfl rfl rfl rfl q2355 q2357 qs96 q117 q2358 rfl dd_X16_history (by decide) (by decide) (Nat.le_of_ble_eq_true rfl) (htX16_event_0 (72, .invokevirtual 583, 3) (gx_m 44 rfl))) ?_
          refine gx_aload_n (pc := 75) (n := 0) (i := 0) rfl 0 rfl (htX16_event_0 (75, .aload_n 0, 1) (gx_m 45 rfl)) ?_
          refine gx_iconst (pc := 76) (v := 0) (by decide) (htX16_event_0 (76, .iconst 0, 1) (gx_m 46 rfl)) ?_
          refine gx_Jpi (pc := 77) (ci := 16) (kk := 0) (by decide) (Or.inl rfl) (by decide) rfl rfl q1674 (Or.inl rfl) (htX16_event_0 (77, .putfield 312, 3) (gx_m 47 rfl)) ?_
          refine gx_iload_n (pc := 80) (n := 3) (i := 3) rfl 3 rfl (htX16_event_0 (80, .iload_n 3, 1) (gx_m 48 rfl)) ?_
          refine gx_if_ne (pc := 81) (y := 0) (tgt := 89) (by decide) (htX16_event_0 (81, .ifCond .ne 8, 3) (gx_m 49 rfl)) (fun c5 => ?_) (fun c5 => ?_)
          · refine gx_aload_n (pc := 84) (n := 0) (i := 0) rfl 0 rfl (htX16_event_0 (84, .aload_n 0, 1) (gx_m 50 rfl)) ?_
            refine gx_Jgi (pc := 85) (ci := 16) (kk := 121) (by decide) (Or.inl rfl) (by decide) (by decide) q1795 (htX16_event_0 (85, .getfield 570, 3) (gx_m 51 rfl)) (fun v9 hv9 => ?_)
            exact gx_Jiret (pc := 88) rfl (fun _ => trivial) (fun _ _ => rfl) (htX16_event_0 (88, .ireturn, 1) (gx_m 52 rfl))
          · refine gx_iload (pc := 89) (i := 4) 4 rfl (htX16_event_0 (89, .iload 4, 2) (gx_m 53 rfl)) ?_
            refine gx_Jcond (pcT := 103) (pcE := 109) (lv2 := [(0, gx_r 17 (some x0)), (1, gx_i x1), (2, gx_i x2), (3, gx_i x3), (4, gx_i x4), (5, gx_i x5)]) (st2 := []) ?_ ?_ (fun kk6 hT6 hE6 => ?_)
            · refine gx_aload_n (pc := 103) (n := 0) (i := 0) rfl 0 rfl (htX16_event_0 (103, .aload_n 0, 1) (gx_m 59 rfl)) ?_
              refine gx_iconst (pc := 104) (v := 3) (by decide) (htX16_event_0 (104, .iconst 3, 1) (gx_m 60 rfl)) ?_
              refine gx_Jci (pc := 105) (gx_hst (as := [gx_i 3]) (b := gx_r 17 (some x0))) (gx_runV (as := [gx_i 3]) (ci := 16) (ct_X16_no Y x0 3) (by decide) (Or.inl rfl) rfl rfl rfl rfl q2062 q2064 qs46 q117 q2065 rfl dd_X16_no (by decide) (by decide) (Nat.le_of_ble_eq_true rfl) (htX16_event_0 (105, .invokevirtual 370, 3) (gx_m 61 rfl))) (fun v12 => ?_)
              exact gx_Jiret (pc := 108) rfl (fun _ => trivial) (fun _ _ => rfl) (htX16_event_0 (108, .ireturn, 1) (gx_m 62 rfl))
            · refine gx_iload_n (pc := 109) (n := 3) (i := 3) rfl 3 rfl (htX16_event_0 (109, .iload_n 3, 1) (gx_m 63 rfl)) ?_
              refine gx_iconst (pc := 110) (v := 1) (by decide) (htX16_event_0 (110, .iconst 1, 1) (gx_m 64 rfl)) ?_
              refine gx_icmp_ne (pc := 111) (tgt := 130) (by decide) (htX16_event_0 (111, .if_icmp .ne 19, 3) (gx_m 65 rfl)) (fun c7 => ?_) (fun c7 => ?_)
              · refine gx_aload_n (pc := 114) (n := 0) (i := 0) rfl 0 rfl (htX16_event_0 (114, .aload_n 0, 1) (gx_m 66 rfl)) ?_
                refine gx_Jgs (pc := 115) (ci := 16) (kk := 118) (t2 := 102) (by decide) (by decide) rfl rfl rfl q1792 (htX16_event_0 (115, .getfield 306, 3) (gx_m 67 rfl)) ?_
                refine gx_iload (pc := 118) (i := 4) 4 rfl (htX16_event_0 (118, .iload 4, 2) (gx_m 68 rfl)) ?_
                refine gx_Jza (pc := 120) (htX16_event_0 (120, .baload, 1) (gx_m 69 rfl)) (fun v13 => ?_)
                refine gx_Jjoin (pcJ := 129) (lvJ := fun (j14 : Int32) => []) (stJ := fun (j14 : Int32) => [gx_i j14]) (fun (j14 : Int32) => j14 &&& 1 = j14) (fun j14 hj14 => ?_) (fun kk8 hj8 => ?_)
                · exact gx_Jiret (pc := 129) rfl (fun _ => trivial) (fun _ _ => rfl) (htX16_event_0 (129, .ireturn, 1) (gx_m 74 rfl))
                · refine gx_if_eq (pc := 121) (y := 0) (tgt := 128) (by decide) (htX16_event_0 (121, .ifCond .eq 7, 3) (gx_m 70 rfl)) (fun c9 => ?_) (fun c9 => ?_)
                  · refine gx_iconst (pc := 128) (v := 0) (by decide) (htX16_event_0 (128, .iconst 0, 1) (gx_m 73 rfl)) ?_
                    refine gx_Jw (lv := []) [] rfl ?_
                    exact hj8 (0 : Int32) gx_b0
                  · refine gx_iconst (pc := 124) (v := 1) (by decide) (htX16_event_0 (124, .iconst 1, 1) (gx_m 71 rfl)) ?_
                    refine gx_goto (pc := 125) (tgt := 129) (by decide) (htX16_event_0 (125, .goto 4, 3) (gx_m 72 rfl)) ?_
                    refine gx_Jw (lv := []) [] rfl ?_
                    exact hj8 (1 : Int32) gx_b1
              · refine gx_iload_n (pc := 130) (n := 3) (i := 3) rfl 3 rfl (htX16_event_0 (130, .iload_n 3, 1) (gx_m 75 rfl)) ?_
                refine gx_iconst (pc := 131) (v := 2) (by decide) (htX16_event_0 (131, .iconst 2, 1) (gx_m 76 rfl)) ?_
                refine gx_icmp_ne (pc := 132) (tgt := 143) (by decide) (htX16_event_0 (132, .if_icmp .ne 11, 3) (gx_m 77 rfl)) (fun c10 => ?_) (fun c10 => ?_)
                · refine gx_aload_n (pc := 135) (n := 0) (i := 0) rfl 0 rfl (htX16_event_0 (135, .aload_n 0, 1) (gx_m 78 rfl)) ?_
                  refine gx_Jgs (pc := 136) (ci := 16) (kk := 117) (t2 := 100) (by decide) (by decide) rfl rfl rfl q1791 (htX16_event_0 (136, .getfield 303, 3) (gx_m 79 rfl)) ?_
                  refine gx_iload (pc := 139) (i := 4) 4 rfl (htX16_event_0 (139, .iload 4, 2) (gx_m 80 rfl)) ?_
                  refine gx_Jia (pc := 141) (htX16_event_0 (141, .iaload, 1) (gx_m 81 rfl)) (fun v15 => ?_)
                  exact gx_Jiret (pc := 142) rfl (fun _ => trivial) (fun _ _ => rfl) (htX16_event_0 (142, .ireturn, 1) (gx_m 82 rfl))
                · refine gx_iload (pc := 143) (i := 5) 5 rfl (htX16_event_0 (143, .iload 5, 2) (gx_m 83 rfl)) ?_
                  refine gx_Jcond (pcT := 160) (pcE := 166) (lv2 := [(0, gx_r 17 (some x0)), (1, gx_i x1), (2, gx_i x2), (3, gx_i x3), (4, gx_i x4), (5, gx_i x5)]) (st2 := []) ?_ ?_ (fun kk11 hT11 hE11 => ?_)
                  · refine gx_aload_n (pc := 160) (n := 0) (i := 0) rfl 0 rfl (htX16_event_0 (160, .aload_n 0, 1) (gx_m 91 rfl)) ?_
                    refine gx_iconst (pc := 161) (v := 3) (by decide) (htX16_event_0 (161, .iconst 3, 1) (gx_m 92 rfl)) ?_
                    refine gx_Jci (pc := 162) (gx_hst (as := [gx_i 3]) (b := gx_r 17 (some x0))) (gx_runV (as := [gx_i 3]) (ci := 16) (ct_X16_no Y x0 3) (by decide) (Or.inl rfl) rfl rfl rfl rfl q2062 q2064 qs46 q117 q2065 rfl dd_X16_no (by decide) (by decide) (Nat.le_of_ble_eq_true rfl) (htX16_event_0 (162, .invokevirtual 370, 3) (gx_m 93 rfl))) (fun v18 => ?_)
                    exact gx_Jiret (pc := 165) rfl (fun _ => trivial) (fun _ _ => rfl) (htX16_event_0 (165, .ireturn, 1) (gx_m 94 rfl))
                  · refine gx_aload_n (pc := 166) (n := 0) (i := 0) rfl 0 rfl (htX16_event_0 (166, .aload_n 0, 1) (gx_m 95 rfl)) ?_
                    refine gx_Jgs (pc := 167) (ci := 16) (kk := 19) (t2 := 101) (by decide) (by decide) rfl rfl rfl q1693 (htX16_event_0 (167, .getfield 54, 3) (gx_m 96 rfl)) ?_
                    refine gx_aload_n (pc := 170) (n := 0) (i := 0) rfl 0 rfl (htX16_event_0 (170, .aload_n 0, 1) (gx_m 97 rfl)) ?_
                    refine gx_Jgs (pc := 171) (ci := 16) (kk := 116) (t2 := 100) (by decide) (by decide) rfl rfl rfl q1790 (htX16_event_0 (171, .getfield 300, 3) (gx_m 98 rfl)) ?_
                    refine gx_iload (pc := 174) (i := 4) 4 rfl (htX16_event_0 (174, .iload 4, 2) (gx_m 99 rfl)) ?_
                    refine gx_Jia (pc := 176) (htX16_event_1 (176, .iaload, 1) (gx_m 0 rfl)) (fun v19 => ?_)
                    refine gx_iload (pc := 177) (i := 5) 5 rfl (htX16_event_1 (177, .iload 5, 2) (gx_m 1 rfl)) ?_
                    refine gx_iadd (pc := 179) (htX16_event_1 (179, .iadd, 1) (gx_m 2 rfl)) ?_
                    refine gx_Jba (pc := 180) (htX16_event_1 (180, .baload, 1) (gx_m 3 rfl)) (fun v20 => ?_)
                    refine gx_sipush (pc := 181) (v := 255) (by decide) (htX16_event_1 (181, .sipush 255, 3) (gx_m 4 rfl)) ?_
                    refine gx_iand (pc := 184) (htX16_event_1 (184, .iand, 1) (gx_m 5 rfl)) ?_
                    exact gx_Jiret (pc := 185) rfl (fun _ => trivial) (fun _ _ => rfl) (htX16_event_1 (185, .ireturn, 1) (gx_m 6 rfl))
                  · refine gx_if_lt (pc := 145) (y := 0) (tgt := 160) (by decide) (htX16_event_0 (145, .ifCond .lt 15, 3) (gx_m 84 rfl)) (fun c12 => ?_) (fun c12 => ?_)
                    · exact hT11
                    · refine gx_iload (pc := 148) (i := 5) 5 rfl (htX16_event_0 (148, .iload 5, 2) (gx_m 85 rfl)) ?_
                      refine gx_aload_n (pc := 150) (n := 0) (i := 0) rfl 0 rfl (htX16_event_0 (150, .aload_n 0, 1) (gx_m 86 rfl)) ?_
                      refine gx_Jgs (pc := 151) (ci := 16) (kk := 117) (t2 := 100) (by decide) (by decide) rfl rfl rfl q1791 (htX16_event_0 (151, .getfield 303, 3) (gx_m 87 rfl)) ?_
                      refine gx_iload (pc := 154) (i := 4) 4 rfl (htX16_event_0 (154, .iload 4, 2) (gx_m 88 rfl)) ?_
                      refine gx_Jia (pc := 156) (htX16_event_0 (156, .iaload, 1) (gx_m 89 rfl)) (fun v16 => ?_)
                      refine gx_icmp_lt (pc := 157) (tgt := 166) (by decide) (htX16_event_0 (157, .if_icmp .lt 9, 3) (gx_m 90 rfl)) (fun c13 => ?_) (fun c13 => ?_)
                      · exact hE11
                      · exact hT11
            · refine gx_if_lt (pc := 91) (y := 0) (tgt := 103) (by decide) (htX16_event_0 (91, .ifCond .lt 12, 3) (gx_m 54 rfl)) (fun c14 => ?_) (fun c14 => ?_)
              · exact hT6
              · refine gx_iload (pc := 94) (i := 4) 4 rfl (htX16_event_0 (94, .iload 4, 2) (gx_m 55 rfl)) ?_
                refine gx_aload_n (pc := 96) (n := 0) (i := 0) rfl 0 rfl (htX16_event_0 (96, .aload_n 0, 1) (gx_m 56 rfl)) ?_
                refine gx_Jgi (pc := 97) (ci := 16) (kk := 121) (by decide) (Or.inl rfl) (by decide) (by decide) q1795 (htX16_event_0 (97, .getfield 570, 3) (gx_m 57 rfl)) (fun v10 hv10 => ?_)
                refine gx_icmp_lt (pc := 100) (tgt := 109) (by decide) (htX16_event_0 (100, .if_icmp .lt 9, 3) (gx_m 58 rfl)) (fun c15 => ?_) (fun c15 => ?_)
                · exact hE6
                · exact hT6
        · refine gx_aload_n (pc := 63) (n := 0) (i := 0) rfl 0 rfl (htX16_event_0 (63, .aload_n 0, 1) (gx_m 37 rfl)) ?_
          refine gx_iconst (pc := 64) (v := 2) (by decide) (htX16_event_0 (64, .iconst 2, 1) (gx_m 38 rfl)) ?_
          refine gx_Jci (pc := 65) (gx_hst (as := [gx_i 2]) (b := gx_r 17 (some x0))) (gx_runV (as := [gx_i 2]) (ci := 16) (ct_X16_no Y x0 2) (by decide) (Or.inl rfl) rfl rfl rfl rfl q2062 q2064 qs46 q117 q2065 rfl dd_X16_no (by decide) (by decide) (Nat.le_of_ble_eq_true rfl) (htX16_event_0 (65, .invokevirtual 370, 3) (gx_m 39 rfl))) (fun v21 => ?_)
          exact gx_Jiret (pc := 68) rfl (fun _ => trivial) (fun _ _ => rfl) (htX16_event_0 (68, .ireturn, 1) (gx_m 40 rfl))
      · refine gx_icmp_lt (pc := 36) (tgt := 47) (by decide) (htX16_event_0 (36, .if_icmp .lt 11, 3) (gx_m 22 rfl)) (fun c16 => ?_) (fun c16 => ?_)
        · exact hT3
        · refine gx_iload_n (pc := 39) (n := 2) (i := 2) rfl 2 rfl (htX16_event_0 (39, .iload_n 2, 1) (gx_m 23 rfl)) ?_
          refine gx_aload_n (pc := 40) (n := 0) (i := 0) rfl 0 rfl (htX16_event_0 (40, .aload_n 0, 1) (gx_m 24 rfl)) ?_
          refine gx_Jgi (pc := 41) (ci := 16) (kk := 108) (by decide) (Or.inl rfl) (by decide) (by decide) q1782 (htX16_event_0 (41, .getfield 433, 3) (gx_m 25 rfl)) (fun v5 hv5 => ?_)
          refine gx_icmp_le (pc := 44) (tgt := 53) (by decide) (htX16_event_0 (44, .if_icmp .le 9, 3) (gx_m 26 rfl)) (fun c17 => ?_) (fun c17 => ?_)
          · exact hE3
          · exact hT3
  · refine gx_if_lt (pc := 1) (y := 0) (tgt := 9) (by decide) (htX16_event_0 (1, .ifCond .lt 8, 3) (gx_m 1 rfl)) (fun c18 => ?_) (fun c18 => ?_)
    · exact hT1
    · refine gx_iload_n (pc := 4) (n := 3) (i := 3) rfl 3 rfl (htX16_event_0 (4, .iload_n 3, 1) (gx_m 2 rfl)) ?_
      refine gx_iconst (pc := 5) (v := 3) (by decide) (htX16_event_0 (5, .iconst 3, 1) (gx_m 3 rfl)) ?_
      refine gx_icmp_le (pc := 6) (tgt := 15) (by decide) (htX16_event_0 (6, .if_icmp .le 9, 3) (gx_m 4 rfl)) (fun c19 => ?_) (fun c19 => ?_)
      · exact hE1
      · exact hT1
theorem ct_X16_compact (Y : gx_Y) (x0 : gx_Nm) (x1 : Int32) (x2 : Int32) : gx_Ct Y yX16_compact (ws_ yX16_compact cX16_compact 3 none) 8 273 [gx_r 17 (some x0), gx_i x1, gx_i x2] gx_Ov (f_X16_compact x0 x1 x2) := by
  refine gx_start (lv := [(0, gx_r 17 (some x0)), (1, gx_i x1), (2, gx_i x2)]) gx_Ov_r pn_X16 (Nat.le_of_ble_eq_true rfl) rfl ?_
  unfold f_X16_compact
  refine gx_aload_n (pc := 0) (n := 0) (i := 0) rfl 0 rfl (htX16_compact (0, .aload_n 0, 1) (gx_m 0 rfl)) ?_
  refine gx_iload_n (pc := 1) (n := 1) (i := 1) rfl 1 rfl (htX16_compact (1, .iload_n 1, 1) (gx_m 1 rfl)) ?_
  refine gx_Jcz (pc := 2) (gx_hst (as := [gx_i x1]) (b := gx_r 17 (some x0))) (gx_runV (as := [gx_i x1]) (ci := 16) (ct_X16_up Y x0 x1) (by decide) (Or.inl rfl) rfl rfl rfl rfl q2113 q2115 qs51 q117 q2116 rfl dd_X16_up (by decide) (by decide) (Nat.le_of_ble_eq_true rfl) (htX16_compact (2, .invokevirtual 532, 3) (gx_m 2 rfl))) (fun v1 hv1 => ?_)
  refine gx_if_ne (pc := 5) (y := 0) (tgt := 14) (by decide) (htX16_compact (5, .ifCond .ne 9, 3) (gx_m 3 rfl)) (fun c1 => ?_) (fun c1 => ?_)
  · refine gx_aload_n (pc := 8) (n := 0) (i := 0) rfl 0 rfl (htX16_compact (8, .aload_n 0, 1) (gx_m 4 rfl)) ?_
    refine gx_iconst (pc := 9) (v := 2) (by decide) (htX16_compact (9, .iconst 2, 1) (gx_m 5 rfl)) ?_
    refine gx_Jpi (pc := 10) (ci := 16) (kk := 0) (by decide) (Or.inl rfl) (by decide) rfl rfl q1674 (Or.inl rfl) (htX16_compact (10, .putfield 312, 3) (gx_m 6 rfl)) ?_
    exact gx_Jvret (pc := 13) rfl (fun _ => trivial) (fun _ _ => rfl) (htX16_compact (13, .return_, 1) (gx_m 7 rfl))
  · refine gx_aload_n (pc := 14) (n := 0) (i := 0) rfl 0 rfl (htX16_compact (14, .aload_n 0, 1) (gx_m 8 rfl)) ?_
    refine gx_iload_n (pc := 15) (n := 1) (i := 1) rfl 1 rfl (htX16_compact (15, .iload_n 1, 1) (gx_m 9 rfl)) ?_
    refine gx_Jcv (pc := 16) (gx_hst (as := [gx_i x1]) (b := gx_r 17 (some x0))) (gx_runV (as := [gx_i x1]) (ci := 16) (ct_X16_now Y x0 x1) (by decide) (Or.inl rfl) rfl rfl rfl rfl q2256 q2258 qs79 q117 q2259 rfl dd_X16_now (by decide) (by decide) (Nat.le_of_ble_eq_true rfl) (htX16_compact (16, .invokevirtual 507, 3) (gx_m 10 rfl))) ?_
    refine gx_aload_n (pc := 19) (n := 0) (i := 0) rfl 0 rfl (htX16_compact (19, .aload_n 0, 1) (gx_m 11 rfl)) ?_
    refine gx_iload_n (pc := 20) (n := 2) (i := 2) rfl 2 rfl (htX16_compact (20, .iload_n 2, 1) (gx_m 12 rfl)) ?_
    refine gx_aload_n (pc := 21) (n := 0) (i := 0) rfl 0 rfl (htX16_compact (21, .aload_n 0, 1) (gx_m 13 rfl)) ?_
    refine gx_Jgs (pc := 22) (ci := 16) (kk := 50) (t2 := 100) (by decide) (by decide) rfl rfl rfl q1724 (htX16_compact (22, .getfield 139, 3) (gx_m 14 rfl)) ?_
    refine gx_iload_n (pc := 25) (n := 1) (i := 1) rfl 1 rfl (htX16_compact (25, .iload_n 1, 1) (gx_m 15 rfl)) ?_
    refine gx_Jia (pc := 26) (htX16_compact (26, .iaload, 1) (gx_m 16 rfl)) (fun v2 => ?_)
    refine gx_Jjoin (pcJ := 43) (lvJ := fun (j4 : Int32) => [(0, gx_r 17 (some x0)), (1, gx_i x1), (2, gx_i x2)]) (stJ := fun (j4 : Int32) => [gx_i j4, gx_r 17 (some x0)]) (fun (j4 : Int32) => j4 &&& 1 = j4) (fun j4 hj4 => ?_) (fun kk2 hj2 => ?_)
    · refine gx_Jpi (pc := 43) (ci := 16) (kk := 0) (by decide) (Or.inl rfl) (by decide) rfl rfl q1674 (Or.inl rfl) (htX16_compact (43, .putfield 312, 3) (gx_m 25 rfl)) ?_
      refine gx_aload_n (pc := 46) (n := 0) (i := 0) rfl 0 rfl (htX16_compact (46, .aload_n 0, 1) (gx_m 26 rfl)) ?_
      refine gx_Jgi (pc := 47) (ci := 16) (kk := 0) (by decide) (Or.inl rfl) (by decide) (by decide) q1674 (htX16_compact (47, .getfield 312, 3) (gx_m 27 rfl)) (fun v5 hv5 => ?_)
      refine gx_Jjoin (pcJ := 60) (lvJ := fun (j_3 : Unit) => []) (stJ := fun (j_3 : Unit) => []) (fun _ => True) (fun j_3 hj_3 => ?_) (fun kk3 hj3 => ?_)
      · exact gx_Jvret (pc := 60) rfl (fun _ => trivial) (fun _ _ => rfl) (htX16_compact (60, .return_, 1) (gx_m 34 rfl))
      · refine gx_if_ne (pc := 50) (y := 0) (tgt := 60) (by decide) (htX16_compact (50, .ifCond .ne 10, 3) (gx_m 28 rfl)) (fun c4 => ?_) (fun c4 => ?_)
        · refine gx_aload_n (pc := 53) (n := 0) (i := 0) rfl 0 rfl (htX16_compact (53, .aload_n 0, 1) (gx_m 29 rfl)) ?_
          refine gx_Jgs (pc := 54) (ci := 16) (kk := 50) (t2 := 100) (by decide) (by decide) rfl rfl rfl q1724 (htX16_compact (54, .getfield 139, 3) (gx_m 30 rfl)) ?_
          refine gx_iload_n (pc := 57) (n := 1) (i := 1) rfl 1 rfl (htX16_compact (57, .iload_n 1, 1) (gx_m 31 rfl)) ?_
          refine gx_iload_n (pc := 58) (n := 2) (i := 2) rfl 2 rfl (htX16_compact (58, .iload_n 2, 1) (gx_m 32 rfl)) ?_
          refine gx_Jis (pc := 59) (htX16_compact (59, .iastore, 1) (gx_m 33 rfl)) ?_
          refine gx_Jw (lv := []) [] rfl ?_
          exact hj3 () trivial
        · refine gx_Jw (lv := []) [] rfl ?_
          exact hj3 () trivial
    · refine gx_icmp_lt (pc := 27) (tgt := 38) (by decide) (htX16_compact (27, .if_icmp .lt 11, 3) (gx_m 17 rfl)) (fun c5 => ?_) (fun c5 => ?_)
      · refine gx_iconst (pc := 38) (v := 1) (by decide) (htX16_compact (38, .iconst 1, 1) (gx_m 22 rfl)) ?_
        refine gx_goto (pc := 39) (tgt := 43) (by decide) (htX16_compact (39, .goto 4, 3) (gx_m 23 rfl)) ?_
        exact hj2 (1 : Int32) gx_b1
      · refine gx_iload_n (pc := 30) (n := 2) (i := 2) rfl 2 rfl (htX16_compact (30, .iload_n 2, 1) (gx_m 18 rfl)) ?_
        refine gx_aload_n (pc := 31) (n := 0) (i := 0) rfl 0 rfl (htX16_compact (31, .aload_n 0, 1) (gx_m 19 rfl)) ?_
        refine gx_Jgi (pc := 32) (ci := 16) (kk := 108) (by decide) (Or.inl rfl) (by decide) (by decide) q1782 (htX16_compact (32, .getfield 433, 3) (gx_m 20 rfl)) (fun v3 hv3 => ?_)
        refine gx_icmp_le (pc := 35) (tgt := 42) (by decide) (htX16_compact (35, .if_icmp .le 7, 3) (gx_m 21 rfl)) (fun c6 => ?_) (fun c6 => ?_)
        · refine gx_iconst (pc := 42) (v := 0) (by decide) (htX16_compact (42, .iconst 0, 1) (gx_m 24 rfl)) ?_
          exact hj2 (0 : Int32) gx_b0
        · refine gx_iconst (pc := 38) (v := 1) (by decide) (htX16_compact (38, .iconst 1, 1) (gx_m 22 rfl)) ?_
          refine gx_goto (pc := 39) (tgt := 43) (by decide) (htX16_compact (39, .goto 4, 3) (gx_m 23 rfl)) ?_
          exact hj2 (1 : Int32) gx_b1
theorem ct_X16_outcome (Y : gx_Y) (x0 : gx_Nm) (x1 : Int32) (x2 : Int32) (x3 : Int32) : gx_Ct Y yX16_outcome (ws_ yX16_outcome cX16_outcome 4 (some .int)) 7 252 [gx_r 17 (some x0), gx_i x1, gx_i x2, gx_i x3] gx_Oi (f_X16_outcome x0 x1 x2 x3) := by
  refine gx_start (lv := [(0, gx_r 17 (some x0)), (1, gx_i x1), (2, gx_i x2), (3, gx_i x3)]) gx_Oi_r pn_X16 (Nat.le_of_ble_eq_true rfl) rfl ?_
  unfold f_X16_outcome
  refine gx_iload_n (pc := 0) (n := 3) (i := 3) rfl 3 rfl (htX16_outcome (0, .iload_n 3, 1) (gx_m 0 rfl)) ?_
  refine gx_Jcond (pcT := 9) (pcE := 15) (lv2 := [(0, gx_r 17 (some x0)), (1, gx_i x1), (2, gx_i x2), (3, gx_i x3)]) (st2 := []) ?_ ?_ (fun kk1 hT1 hE1 => ?_)
  · refine gx_aload_n (pc := 9) (n := 0) (i := 0) rfl 0 rfl (htX16_outcome (9, .aload_n 0, 1) (gx_m 5 rfl)) ?_
    refine gx_iconst (pc := 10) (v := 1) (by decide) (htX16_outcome (10, .iconst 1, 1) (gx_m 6 rfl)) ?_
    refine gx_Jci (pc := 11) (gx_hst (as := [gx_i 1]) (b := gx_r 17 (some x0))) (gx_runV (as := [gx_i 1]) (ci := 16) (ct_X16_no Y x0 1) (by decide) (Or.inl rfl) rfl rfl rfl rfl q2062 q2064 qs46 q117 q2065 rfl dd_X16_no (by decide) (by decide) (Nat.le_of_ble_eq_true rfl) (htX16_outcome (11, .invokevirtual 370, 3) (gx_m 7 rfl))) (fun v2 => ?_)
    exact gx_Jiret (pc := 14) rfl (fun _ => trivial) (fun _ _ => rfl) (htX16_outcome (14, .ireturn, 1) (gx_m 8 rfl))
  · refine gx_aload_n (pc := 15) (n := 0) (i := 0) rfl 0 rfl (htX16_outcome (15, .aload_n 0, 1) (gx_m 9 rfl)) ?_
    refine gx_iload_n (pc := 16) (n := 1) (i := 1) rfl 1 rfl (htX16_outcome (16, .iload_n 1, 1) (gx_m 10 rfl)) ?_
    refine gx_Jcz (pc := 17) (gx_hst (as := [gx_i x1]) (b := gx_r 17 (some x0))) (gx_runV (as := [gx_i x1]) (ci := 16) (ct_X16_up Y x0 x1) (by decide) (Or.inl rfl) rfl rfl rfl rfl q2113 q2115 qs51 q117 q2116 rfl dd_X16_up (by decide) (by decide) (Nat.le_of_ble_eq_true rfl) (htX16_outcome (17, .invokevirtual 532, 3) (gx_m 11 rfl))) (fun v3 hv3 => ?_)
    refine gx_Jcond (pcT := 43) (pcE := 49) (lv2 := [(0, gx_r 17 (some x0)), (1, gx_i x1), (2, gx_i x2), (3, gx_i x3)]) (st2 := []) ?_ ?_ (fun kk2 hT2 hE2 => ?_)
    · refine gx_aload_n (pc := 43) (n := 0) (i := 0) rfl 0 rfl (htX16_outcome (43, .aload_n 0, 1) (gx_m 25 rfl)) ?_
      refine gx_iconst (pc := 44) (v := 2) (by decide) (htX16_outcome (44, .iconst 2, 1) (gx_m 26 rfl)) ?_
      refine gx_Jci (pc := 45) (gx_hst (as := [gx_i 2]) (b := gx_r 17 (some x0))) (gx_runV (as := [gx_i 2]) (ci := 16) (ct_X16_no Y x0 2) (by decide) (Or.inl rfl) rfl rfl rfl rfl q2062 q2064 qs46 q117 q2065 rfl dd_X16_no (by decide) (by decide) (Nat.le_of_ble_eq_true rfl) (htX16_outcome (45, .invokevirtual 370, 3) (gx_m 27 rfl))) (fun v7 => ?_)
      exact gx_Jiret (pc := 48) rfl (fun _ => trivial) (fun _ _ => rfl) (htX16_outcome (48, .ireturn, 1) (gx_m 28 rfl))
    · refine gx_aload_n (pc := 49) (n := 0) (i := 0) rfl 0 rfl (htX16_outcome (49, .aload_n 0, 1) (gx_m 29 rfl)) ?_
      refine gx_iconst (pc := 50) (v := 0) (by decide) (htX16_outcome (50, .iconst 0, 1) (gx_m 30 rfl)) ?_
      refine gx_Jpi (pc := 51) (ci := 16) (kk := 0) (by decide) (Or.inl rfl) (by decide) rfl rfl q1674 (Or.inl rfl) (htX16_outcome (51, .putfield 312, 3) (gx_m 31 rfl)) ?_
      refine gx_aload_n (pc := 54) (n := 0) (i := 0) rfl 0 rfl (htX16_outcome (54, .aload_n 0, 1) (gx_m 32 rfl)) ?_
      refine gx_aload_n (pc := 55) (n := 0) (i := 0) rfl 0 rfl (htX16_outcome (55, .aload_n 0, 1) (gx_m 33 rfl)) ?_
      refine gx_Jgs (pc := 56) (ci := 16) (kk := 48) (t2 := 100) (by decide) (by decide) rfl rfl rfl q1722 (htX16_outcome (56, .getfield 133, 3) (gx_m 34 rfl)) ?_
      refine gx_iload_n (pc := 59) (n := 1) (i := 1) rfl 1 rfl (htX16_outcome (59, .iload_n 1, 1) (gx_m 35 rfl)) ?_
      refine gx_Jia (pc := 60) (htX16_outcome (60, .iaload, 1) (gx_m 36 rfl)) (fun v8 => ?_)
      refine gx_iload_n (pc := 61) (n := 2) (i := 2) rfl 2 rfl (htX16_outcome (61, .iload_n 2, 1) (gx_m 37 rfl)) ?_
      refine gx_iconst (pc := 62) (v := (-1)) (by decide) (htX16_outcome (62, .iconst (-1), 1) (gx_m 38 rfl)) ?_
      refine gx_Jcv (pc := 63) (gx_hst (as := [gx_i v8, gx_i x2, gx_i (-1)]) (b := gx_r 17 (some x0))) (gx_runV (as := [gx_i v8, gx_i x2, gx_i (-1)]) (ci := 16) (ct_X16_store Y x0 v8 x2 (-1)) (by decide) (Or.inl rfl) rfl rfl rfl rfl q2260 q2262 qs80 q117 q2263 rfl dd_X16_store (by decide) (by decide) (Nat.le_of_ble_eq_true rfl) (htX16_outcome (63, .invokevirtual 454, 3) (gx_m 39 rfl))) ?_
      refine gx_iload_n (pc := 66) (n := 3) (i := 3) rfl 3 rfl (htX16_outcome (66, .iload_n 3, 1) (gx_m 40 rfl)) ?_
      refine gx_Jjoin (pcJ := 93) (lvJ := fun (j12 : Int32) => []) (stJ := fun (j12 : Int32) => [gx_i j12]) (fun _ => True) (fun j12 hj12 => ?_) (fun kk3 hj3 => ?_)
      · exact gx_Jiret (pc := 93) rfl (fun _ => trivial) (fun _ _ => rfl) (htX16_outcome (93, .ireturn, 1) (gx_m 53 rfl))
      · refine gx_if_ne (pc := 67) (y := 0) (tgt := 77) (by decide) (htX16_outcome (67, .ifCond .ne 10, 3) (gx_m 41 rfl)) (fun c4 => ?_) (fun c4 => ?_)
        · refine gx_aload_n (pc := 70) (n := 0) (i := 0) rfl 0 rfl (htX16_outcome (70, .aload_n 0, 1) (gx_m 42 rfl)) ?_
          refine gx_Jgi (pc := 71) (ci := 16) (kk := 111) (by decide) (Or.inl rfl) (by decide) (by decide) q1785 (htX16_outcome (71, .getfield 442, 3) (gx_m 43 rfl)) (fun v9 hv9 => ?_)
          refine gx_goto (pc := 74) (tgt := 93) (by decide) (htX16_outcome (74, .goto 19, 3) (gx_m 44 rfl)) ?_
          refine gx_Jw (lv := []) [] rfl ?_
          exact hj3 (v9 : Int32) trivial
        · refine gx_iload_n (pc := 77) (n := 3) (i := 3) rfl 3 rfl (htX16_outcome (77, .iload_n 3, 1) (gx_m 45 rfl)) ?_
          refine gx_iconst (pc := 78) (v := 1) (by decide) (htX16_outcome (78, .iconst 1, 1) (gx_m 46 rfl)) ?_
          refine gx_icmp_ne (pc := 79) (tgt := 89) (by decide) (htX16_outcome (79, .if_icmp .ne 10, 3) (gx_m 47 rfl)) (fun c5 => ?_) (fun c5 => ?_)
          · refine gx_aload_n (pc := 82) (n := 0) (i := 0) rfl 0 rfl (htX16_outcome (82, .aload_n 0, 1) (gx_m 48 rfl)) ?_
            refine gx_Jgi (pc := 83) (ci := 16) (kk := 108) (by decide) (Or.inl rfl) (by decide) (by decide) q1782 (htX16_outcome (83, .getfield 433, 3) (gx_m 49 rfl)) (fun v10 hv10 => ?_)
            refine gx_goto (pc := 86) (tgt := 93) (by decide) (htX16_outcome (86, .goto 7, 3) (gx_m 50 rfl)) ?_
            refine gx_Jw (lv := []) [] rfl ?_
            exact hj3 (v10 : Int32) trivial
          · refine gx_aload_n (pc := 89) (n := 0) (i := 0) rfl 0 rfl (htX16_outcome (89, .aload_n 0, 1) (gx_m 51 rfl)) ?_
            refine gx_Jgi (pc := 90) (ci := 16) (kk := 112) (by decide) (Or.inl rfl) (by decide) (by decide) q1786 (htX16_outcome (90, .getfield 430, 3) (gx_m 52 rfl)) (fun v11 hv11 => ?_)
            refine gx_Jw (lv := []) [] rfl ?_
            exact hj3 (v11 : Int32) trivial
    · refine gx_if_eq (pc := 20) (y := 0) (tgt := 43) (by decide) (htX16_outcome (20, .ifCond .eq 23, 3) (gx_m 12 rfl)) (fun c6 => ?_) (fun c6 => ?_)
      · exact hT2
      · refine gx_iload_n (pc := 23) (n := 2) (i := 2) rfl 2 rfl (htX16_outcome (23, .iload_n 2, 1) (gx_m 13 rfl)) ?_
        refine gx_aload_n (pc := 24) (n := 0) (i := 0) rfl 0 rfl (htX16_outcome (24, .aload_n 0, 1) (gx_m 14 rfl)) ?_
        refine gx_Jgs (pc := 25) (ci := 16) (kk := 49) (t2 := 100) (by decide) (by decide) rfl rfl rfl q1723 (htX16_outcome (25, .getfield 136, 3) (gx_m 15 rfl)) ?_
        refine gx_iload_n (pc := 28) (n := 1) (i := 1) rfl 1 rfl (htX16_outcome (28, .iload_n 1, 1) (gx_m 16 rfl)) ?_
        refine gx_Jia (pc := 29) (htX16_outcome (29, .iaload, 1) (gx_m 17 rfl)) (fun v4 => ?_)
        refine gx_icmp_le (pc := 30) (tgt := 43) (by decide) (htX16_outcome (30, .if_icmp .le 13, 3) (gx_m 18 rfl)) (fun c7 => ?_) (fun c7 => ?_)
        · exact hT2
        · refine gx_iload_n (pc := 33) (n := 2) (i := 2) rfl 2 rfl (htX16_outcome (33, .iload_n 2, 1) (gx_m 19 rfl)) ?_
          refine gx_aload_n (pc := 34) (n := 0) (i := 0) rfl 0 rfl (htX16_outcome (34, .aload_n 0, 1) (gx_m 20 rfl)) ?_
          refine gx_Jgs (pc := 35) (ci := 16) (kk := 47) (t2 := 100) (by decide) (by decide) rfl rfl rfl q1721 (htX16_outcome (35, .getfield 130, 3) (gx_m 21 rfl)) ?_
          refine gx_iload_n (pc := 38) (n := 1) (i := 1) rfl 1 rfl (htX16_outcome (38, .iload_n 1, 1) (gx_m 22 rfl)) ?_
          refine gx_Jia (pc := 39) (htX16_outcome (39, .iaload, 1) (gx_m 23 rfl)) (fun v5 => ?_)
          refine gx_icmp_le (pc := 40) (tgt := 49) (by decide) (htX16_outcome (40, .if_icmp .le 9, 3) (gx_m 24 rfl)) (fun c8 => ?_) (fun c8 => ?_)
          · exact hE2
          · exact hT2
  · refine gx_if_lt (pc := 1) (y := 0) (tgt := 9) (by decide) (htX16_outcome (1, .ifCond .lt 8, 3) (gx_m 1 rfl)) (fun c9 => ?_) (fun c9 => ?_)
    · exact hT1
    · refine gx_iload_n (pc := 4) (n := 3) (i := 3) rfl 3 rfl (htX16_outcome (4, .iload_n 3, 1) (gx_m 2 rfl)) ?_
      refine gx_iconst (pc := 5) (v := 2) (by decide) (htX16_outcome (5, .iconst 2, 1) (gx_m 3 rfl)) ?_
      refine gx_icmp_le (pc := 6) (tgt := 15) (by decide) (htX16_outcome (6, .if_icmp .le 9, 3) (gx_m 4 rfl)) (fun c10 => ?_) (fun c10 => ?_)
      · exact hE1
      · exact hT1
theorem ct_X16_message_2 (Y : gx_Y) (x0 : gx_Nm) (x1 : Int32) (x2 : Int32) : gx_Ct Y yX16_message_2 (ws_ yX16_message_2 cX16_message_2 4 (some .int)) 2 121 [gx_r 17 (some x0), gx_i x1, gx_i x2] gx_Oi (f_X16_message_2 x0 x1 x2) := by
  refine gx_start (lv := [(0, gx_r 17 (some x0)), (1, gx_i x1), (2, gx_i x2)]) gx_Oi_r pn_X16 (Nat.le_of_ble_eq_true rfl) rfl ?_
  unfold f_X16_message_2
  refine gx_iload_n (pc := 0) (n := 2) (i := 2) rfl 2 rfl (htX16_message_2 (0, .iload_n 2, 1) (gx_m 0 rfl)) ?_
  refine gx_Jcond (pcT := 10) (pcE := 16) (lv2 := [(0, gx_r 17 (some x0)), (1, gx_i x1), (2, gx_i x2)]) (st2 := []) ?_ ?_ (fun kk1 hT1 hE1 => ?_)
  · refine gx_aload_n (pc := 10) (n := 0) (i := 0) rfl 0 rfl (htX16_message_2 (10, .aload_n 0, 1) (gx_m 5 rfl)) ?_
    refine gx_iconst (pc := 11) (v := 1) (by decide) (htX16_message_2 (11, .iconst 1, 1) (gx_m 6 rfl)) ?_
    refine gx_Jci (pc := 12) (gx_hst (as := [gx_i 1]) (b := gx_r 17 (some x0))) (gx_runV (as := [gx_i 1]) (ci := 16) (ct_X16_no Y x0 1) (by decide) (Or.inl rfl) rfl rfl rfl rfl q2062 q2064 qs46 q117 q2065 rfl dd_X16_no (by decide) (by decide) (Nat.le_of_ble_eq_true rfl) (htX16_message_2 (12, .invokevirtual 370, 3) (gx_m 7 rfl))) (fun v2 => ?_)
    exact gx_Jiret (pc := 15) rfl (fun _ => trivial) (fun _ _ => rfl) (htX16_message_2 (15, .ireturn, 1) (gx_m 8 rfl))
  · refine gx_iload_n (pc := 16) (n := 1) (i := 1) rfl 1 rfl (htX16_message_2 (16, .iload_n 1, 1) (gx_m 9 rfl)) ?_
    refine gx_Jcond (pcT := 28) (pcE := 34) (lv2 := [(0, gx_r 17 (some x0)), (1, gx_i x1), (2, gx_i x2)]) (st2 := []) ?_ ?_ (fun kk2 hT2 hE2 => ?_)
    · refine gx_aload_n (pc := 28) (n := 0) (i := 0) rfl 0 rfl (htX16_message_2 (28, .aload_n 0, 1) (gx_m 15 rfl)) ?_
      refine gx_iconst (pc := 29) (v := 2) (by decide) (htX16_message_2 (29, .iconst 2, 1) (gx_m 16 rfl)) ?_
      refine gx_Jci (pc := 30) (gx_hst (as := [gx_i 2]) (b := gx_r 17 (some x0))) (gx_runV (as := [gx_i 2]) (ci := 16) (ct_X16_no Y x0 2) (by decide) (Or.inl rfl) rfl rfl rfl rfl q2062 q2064 qs46 q117 q2065 rfl dd_X16_no (by decide) (by decide) (Nat.le_of_ble_eq_true rfl) (htX16_message_2 (30, .invokevirtual 370, 3) (gx_m 17 rfl))) (fun v5 => ?_)
      exact gx_Jiret (pc := 33) rfl (fun _ => trivial) (fun _ _ => rfl) (htX16_message_2 (33, .ireturn, 1) (gx_m 18 rfl))
    · refine gx_aload_n (pc := 34) (n := 0) (i := 0) rfl 0 rfl (htX16_message_2 (34, .aload_n 0, 1) (gx_m 19 rfl)) ?_
      refine gx_iconst (pc := 35) (v := 0) (by decide) (htX16_message_2 (35, .iconst 0, 1) (gx_m 20 rfl)) ?_
      refine gx_Jpi (pc := 36) (ci := 16) (kk := 0) (by decide) (Or.inl rfl) (by decide) rfl rfl q1674 (Or.inl rfl) (htX16_message_2 (36, .putfield 312, 3) (gx_m 21 rfl)) ?_
      refine gx_aload_n (pc := 39) (n := 0) (i := 0) rfl 0 rfl (htX16_message_2 (39, .aload_n 0, 1) (gx_m 22 rfl)) ?_
      refine gx_Jgs (pc := 40) (ci := 16) (kk := 77) (t2 := 100) (by decide) (by decide) rfl rfl rfl q1751 (htX16_message_2 (40, .getfield 215, 3) (gx_m 23 rfl)) ?_
      refine gx_iload_n (pc := 43) (n := 1) (i := 1) rfl 1 rfl (htX16_message_2 (43, .iload_n 1, 1) (gx_m 24 rfl)) ?_
      refine gx_Jia (pc := 44) (htX16_message_2 (44, .iaload, 1) (gx_m 25 rfl)) (fun v6 => ?_)
      refine gx_istore_n (pc := 45) (n := 3) (i := 3) (lv' := [(3, gx_i v6), (0, gx_r 17 (some x0)), (1, gx_i x1), (2, gx_i x2)]) rfl (by decide) rfl (htX16_message_2 (45, .istore_n 3, 1) (gx_m 26 rfl)) ?_
      refine gx_iload_n (pc := 46) (n := 2) (i := 2) rfl 3 rfl (htX16_message_2 (46, .iload_n 2, 1) (gx_m 27 rfl)) ?_
      refine gx_Jite (fun c3 => ?_) (fun c3 => ?_)
      · refine gx_Jtab (pc := 47) (tgt := 92) (htX16_message_2 (47, .tableswitch 101 0 7 #[45, 52, 59, 66, 73, 80, 87, 94], 45) (gx_m 28 rfl)) (by decide) (gx_tD c3 (by decide)) (gx_tI c3 (by decide)) ?_
        refine gx_aload_n (pc := 92) (n := 0) (i := 0) rfl 1 rfl (htX16_message_2 (92, .aload_n 0, 1) (gx_m 29 rfl)) ?_
        refine gx_Jgs (pc := 93) (ci := 16) (kk := 64) (t2 := 100) (by decide) (by decide) rfl rfl rfl q1738 (htX16_message_2 (93, .getfield 181, 3) (gx_m 30 rfl)) ?_
        refine gx_iload_n (pc := 96) (n := 3) (i := 3) rfl 0 rfl (htX16_message_2 (96, .iload_n 3, 1) (gx_m 31 rfl)) ?_
        refine gx_Jia (pc := 97) (htX16_message_2 (97, .iaload, 1) (gx_m 32 rfl)) (fun v7 => ?_)
        exact gx_Jiret (pc := 98) rfl (fun _ => trivial) (fun _ _ => rfl) (htX16_message_2 (98, .ireturn, 1) (gx_m 33 rfl))
      · refine gx_Jite (fun c4 => ?_) (fun c4 => ?_)
        · refine gx_Jtab (pc := 47) (tgt := 99) (htX16_message_2 (47, .tableswitch 101 0 7 #[45, 52, 59, 66, 73, 80, 87, 94], 45) (gx_m 28 rfl)) (by decide) (gx_tD c4 (by decide)) (gx_tI c4 (by decide)) ?_
          refine gx_aload_n (pc := 99) (n := 0) (i := 0) rfl 1 rfl (htX16_message_2 (99, .aload_n 0, 1) (gx_m 34 rfl)) ?_
          refine gx_Jgs (pc := 100) (ci := 16) (kk := 65) (t2 := 100) (by decide) (by decide) rfl rfl rfl q1739 (htX16_message_2 (100, .getfield 184, 3) (gx_m 35 rfl)) ?_
          refine gx_iload_n (pc := 103) (n := 3) (i := 3) rfl 0 rfl (htX16_message_2 (103, .iload_n 3, 1) (gx_m 36 rfl)) ?_
          refine gx_Jia (pc := 104) (htX16_message_2 (104, .iaload, 1) (gx_m 37 rfl)) (fun v8 => ?_)
          exact gx_Jiret (pc := 105) rfl (fun _ => trivial) (fun _ _ => rfl) (htX16_message_2 (105, .ireturn, 1) (gx_m 38 rfl))
        · refine gx_Jite (fun c5 => ?_) (fun c5 => ?_)
          · refine gx_Jtab (pc := 47) (tgt := 106) (htX16_message_2 (47, .tableswitch 101 0 7 #[45, 52, 59, 66, 73, 80, 87, 94], 45) (gx_m 28 rfl)) (by decide) (gx_tD c5 (by decide)) (gx_tI c5 (by decide)) ?_
            refine gx_aload_n (pc := 106) (n := 0) (i := 0) rfl 1 rfl (htX16_message_2 (106, .aload_n 0, 1) (gx_m 39 rfl)) ?_
            refine gx_Jgs (pc := 107) (ci := 16) (kk := 66) (t2 := 100) (by decide) (by decide) rfl rfl rfl q1740 (htX16_message_2 (107, .getfield 187, 3) (gx_m 40 rfl)) ?_
            refine gx_iload_n (pc := 110) (n := 3) (i := 3) rfl 0 rfl (htX16_message_2 (110, .iload_n 3, 1) (gx_m 41 rfl)) ?_
            refine gx_Jia (pc := 111) (htX16_message_2 (111, .iaload, 1) (gx_m 42 rfl)) (fun v9 => ?_)
            exact gx_Jiret (pc := 112) rfl (fun _ => trivial) (fun _ _ => rfl) (htX16_message_2 (112, .ireturn, 1) (gx_m 43 rfl))
          · refine gx_Jite (fun c6 => ?_) (fun c6 => ?_)
            · refine gx_Jtab (pc := 47) (tgt := 113) (htX16_message_2 (47, .tableswitch 101 0 7 #[45, 52, 59, 66, 73, 80, 87, 94], 45) (gx_m 28 rfl)) (by decide) (gx_tD c6 (by decide)) (gx_tI c6 (by decide)) ?_
              refine gx_aload_n (pc := 113) (n := 0) (i := 0) rfl 1 rfl (htX16_message_2 (113, .aload_n 0, 1) (gx_m 44 rfl)) ?_
              refine gx_Jgs (pc := 114) (ci := 16) (kk := 67) (t2 := 100) (by decide) (by decide) rfl rfl rfl q1741 (htX16_message_2 (114, .getfield 190, 3) (gx_m 45 rfl)) ?_
              refine gx_iload_n (pc := 117) (n := 3) (i := 3) rfl 0 rfl (htX16_message_2 (117, .iload_n 3, 1) (gx_m 46 rfl)) ?_
              refine gx_Jia (pc := 118) (htX16_message_2 (118, .iaload, 1) (gx_m 47 rfl)) (fun v10 => ?_)
              exact gx_Jiret (pc := 119) rfl (fun _ => trivial) (fun _ _ => rfl) (htX16_message_2 (119, .ireturn, 1) (gx_m 48 rfl))
            · refine gx_Jite (fun c7 => ?_) (fun c7 => ?_)
              · refine gx_Jtab (pc := 47) (tgt := 120) (htX16_message_2 (47, .tableswitch 101 0 7 #[45, 52, 59, 66, 73, 80, 87, 94], 45) (gx_m 28 rfl)) (by decide) (gx_tD c7 (by decide)) (gx_tI c7 (by decide)) ?_
                refine gx_aload_n (pc := 120) (n := 0) (i := 0) rfl 1 rfl (htX16_message_2 (120, .aload_n 0, 1) (gx_m 49 rfl)) ?_
                refine gx_Jgs (pc := 121) (ci := 16) (kk := 68) (t2 := 100) (by decide) (by decide) rfl rfl rfl q1742 (htX16_message_2 (121, .getfield 193, 3) (gx_m 50 rfl)) ?_
                refine gx_iload_n (pc := 124) (n := 3) (i := 3) rfl 0 rfl (htX16_message_2 (124, .iload_n 3, 1) (gx_m 51 rfl)) ?_
                refine gx_Jia (pc := 125) (htX16_message_2 (125, .iaload, 1) (gx_m 52 rfl)) (fun v11 => ?_)
                exact gx_Jiret (pc := 126) rfl (fun _ => trivial) (fun _ _ => rfl) (htX16_message_2 (126, .ireturn, 1) (gx_m 53 rfl))
              · refine gx_Jite (fun c8 => ?_) (fun c8 => ?_)
                · refine gx_Jtab (pc := 47) (tgt := 127) (htX16_message_2 (47, .tableswitch 101 0 7 #[45, 52, 59, 66, 73, 80, 87, 94], 45) (gx_m 28 rfl)) (by decide) (gx_tD c8 (by decide)) (gx_tI c8 (by decide)) ?_
                  refine gx_aload_n (pc := 127) (n := 0) (i := 0) rfl 1 rfl (htX16_message_2 (127, .aload_n 0, 1) (gx_m 54 rfl)) ?_
                  refine gx_Jgs (pc := 128) (ci := 16) (kk := 69) (t2 := 100) (by decide) (by decide) rfl rfl rfl q1743 (htX16_message_2 (128, .getfield 196, 3) (gx_m 55 rfl)) ?_
                  refine gx_iload_n (pc := 131) (n := 3) (i := 3) rfl 0 rfl (htX16_message_2 (131, .iload_n 3, 1) (gx_m 56 rfl)) ?_
                  refine gx_Jia (pc := 132) (htX16_message_2 (132, .iaload, 1) (gx_m 57 rfl)) (fun v12 => ?_)
                  exact gx_Jiret (pc := 133) rfl (fun _ => trivial) (fun _ _ => rfl) (htX16_message_2 (133, .ireturn, 1) (gx_m 58 rfl))
                · refine gx_Jite (fun c9 => ?_) (fun c9 => ?_)
                  · refine gx_Jtab (pc := 47) (tgt := 134) (htX16_message_2 (47, .tableswitch 101 0 7 #[45, 52, 59, 66, 73, 80, 87, 94], 45) (gx_m 28 rfl)) (by decide) (gx_tD c9 (by decide)) (gx_tI c9 (by decide)) ?_
                    refine gx_aload_n (pc := 134) (n := 0) (i := 0) rfl 1 rfl (htX16_message_2 (134, .aload_n 0, 1) (gx_m 59 rfl)) ?_
                    refine gx_Jgs (pc := 135) (ci := 16) (kk := 70) (t2 := 100) (by decide) (by decide) rfl rfl rfl q1744 (htX16_message_2 (135, .getfield 199, 3) (gx_m 60 rfl)) ?_
                    refine gx_iload_n (pc := 138) (n := 3) (i := 3) rfl 0 rfl (htX16_message_2 (138, .iload_n 3, 1) (gx_m 61 rfl)) ?_
                    refine gx_Jia (pc := 139) (htX16_message_2 (139, .iaload, 1) (gx_m 62 rfl)) (fun v13 => ?_)
                    exact gx_Jiret (pc := 140) rfl (fun _ => trivial) (fun _ _ => rfl) (htX16_message_2 (140, .ireturn, 1) (gx_m 63 rfl))
                  · refine gx_Jite (fun c10 => ?_) (fun c10 => ?_)
                    · refine gx_Jtab (pc := 47) (tgt := 141) (htX16_message_2 (47, .tableswitch 101 0 7 #[45, 52, 59, 66, 73, 80, 87, 94], 45) (gx_m 28 rfl)) (by decide) (gx_tD c10 (by decide)) (gx_tI c10 (by decide)) ?_
                      refine gx_aload_n (pc := 141) (n := 0) (i := 0) rfl 1 rfl (htX16_message_2 (141, .aload_n 0, 1) (gx_m 64 rfl)) ?_
                      refine gx_Jgs (pc := 142) (ci := 16) (kk := 71) (t2 := 100) (by decide) (by decide) rfl rfl rfl q1745 (htX16_message_2 (142, .getfield 202, 3) (gx_m 65 rfl)) ?_
                      refine gx_iload_n (pc := 145) (n := 3) (i := 3) rfl 0 rfl (htX16_message_2 (145, .iload_n 3, 1) (gx_m 66 rfl)) ?_
                      refine gx_Jia (pc := 146) (htX16_message_2 (146, .iaload, 1) (gx_m 67 rfl)) (fun v14 => ?_)
                      exact gx_Jiret (pc := 147) rfl (fun _ => trivial) (fun _ _ => rfl) (htX16_message_2 (147, .ireturn, 1) (gx_m 68 rfl))
                    · refine gx_Jtab (pc := 47) (tgt := 148) (htX16_message_2 (47, .tableswitch 101 0 7 #[45, 52, 59, 66, 73, 80, 87, 94], 45) (gx_m 28 rfl)) (by decide) (fun _ => by decide) (gx_tN (ks := [0, 1, 2, 3, 4, 5, 6, 7]) (by simp only [List.mem_cons, List.not_mem_nil, or_false, not_or]; exact ⟨c3, c4, c5, c6, c7, c8, c9, c10⟩) (by decide)) ?_
                      refine gx_aload_n (pc := 148) (n := 0) (i := 0) rfl 1 rfl (htX16_message_2 (148, .aload_n 0, 1) (gx_m 69 rfl)) ?_
                      refine gx_Jgs (pc := 149) (ci := 16) (kk := 72) (t2 := 100) (by decide) (by decide) rfl rfl rfl q1746 (htX16_message_2 (149, .getfield 205, 3) (gx_m 70 rfl)) ?_
                      refine gx_iload_n (pc := 152) (n := 3) (i := 3) rfl 0 rfl (htX16_message_2 (152, .iload_n 3, 1) (gx_m 71 rfl)) ?_
                      refine gx_Jia (pc := 153) (htX16_message_2 (153, .iaload, 1) (gx_m 72 rfl)) (fun v15 => ?_)
                      exact gx_Jiret (pc := 154) rfl (fun _ => trivial) (fun _ _ => rfl) (htX16_message_2 (154, .ireturn, 1) (gx_m 73 rfl))
    · refine gx_if_lt (pc := 17) (y := 0) (tgt := 28) (by decide) (htX16_message_2 (17, .ifCond .lt 11, 3) (gx_m 10 rfl)) (fun c11 => ?_) (fun c11 => ?_)
      · exact hT2
      · refine gx_iload_n (pc := 20) (n := 1) (i := 1) rfl 1 rfl (htX16_message_2 (20, .iload_n 1, 1) (gx_m 11 rfl)) ?_
        refine gx_aload_n (pc := 21) (n := 0) (i := 0) rfl 0 rfl (htX16_message_2 (21, .aload_n 0, 1) (gx_m 12 rfl)) ?_
        refine gx_Jgi (pc := 22) (ci := 16) (kk := 78) (by decide) (Or.inl rfl) (by decide) (by decide) q1752 (htX16_message_2 (22, .getfield 333, 3) (gx_m 13 rfl)) (fun v3 hv3 => ?_)
        refine gx_icmp_lt (pc := 25) (tgt := 34) (by decide) (htX16_message_2 (25, .if_icmp .lt 9, 3) (gx_m 14 rfl)) (fun c12 => ?_) (fun c12 => ?_)
        · exact hE2
        · exact hT2
  · refine gx_if_lt (pc := 1) (y := 0) (tgt := 10) (by decide) (htX16_message_2 (1, .ifCond .lt 9, 3) (gx_m 1 rfl)) (fun c13 => ?_) (fun c13 => ?_)
    · exact hT1
    · refine gx_iload_n (pc := 4) (n := 2) (i := 2) rfl 2 rfl (htX16_message_2 (4, .iload_n 2, 1) (gx_m 2 rfl)) ?_
      refine gx_bipush (pc := 5) (v := 8) (by decide) (htX16_message_2 (5, .bipush 8, 2) (gx_m 3 rfl)) ?_
      refine gx_icmp_le (pc := 7) (tgt := 16) (by decide) (htX16_message_2 (7, .if_icmp .le 9, 3) (gx_m 4 rfl)) (fun c14 => ?_) (fun c14 => ?_)
      · exact hE1
      · exact hT1
theorem ct_X16_toldDown (Y : gx_Y) (x0 : gx_Nm) (x1 : Int32) (x2 : Int32) : gx_Ct Y yX16_toldDown (ws_ yX16_toldDown cX16_toldDown 3 (some .int)) 1 100 [gx_r 17 (some x0), gx_i x1, gx_i x2] gx_Oi (f_X16_toldDown x0 x1 x2) := by
  refine gx_start (lv := [(0, gx_r 17 (some x0)), (1, gx_i x1), (2, gx_i x2)]) gx_Oi_r pn_X16 (Nat.le_of_ble_eq_true rfl) rfl ?_
  unfold f_X16_toldDown
  refine gx_iload_n (pc := 0) (n := 2) (i := 2) rfl 2 rfl (htX16_toldDown (0, .iload_n 2, 1) (gx_m 0 rfl)) ?_
  refine gx_Jite (fun c1 => ?_) (fun c1 => ?_)
  · refine gx_Jtab (pc := 1) (tgt := 72) (htX16_toldDown (1, .tableswitch 146 0 13 #[71, 73, 80, 146, 87, 89, 146, 96, 146, 146, 146, 146, 146, 103], 71) (gx_m 1 rfl)) (by decide) (gx_tD c1 (by decide)) (gx_tI c1 (by decide)) ?_
    refine gx_iconst (pc := 72) (v := 1) (by decide) (htX16_toldDown (72, .iconst 1, 1) (gx_m 2 rfl)) ?_
    exact gx_Jiret (pc := 73) rfl (fun _ => trivial) (fun _ _ => rfl) (htX16_toldDown (73, .ireturn, 1) (gx_m 3 rfl))
  · refine gx_Jite (fun c2 => ?_) (fun c2 => ?_)
    · refine gx_Jtab (pc := 1) (tgt := 74) (htX16_toldDown (1, .tableswitch 146 0 13 #[71, 73, 80, 146, 87, 89, 146, 96, 146, 146, 146, 146, 146, 103], 71) (gx_m 1 rfl)) (by decide) (gx_tD c2 (by decide)) (gx_tI c2 (by decide)) ?_
      refine gx_aload_n (pc := 74) (n := 0) (i := 0) rfl 0 rfl (htX16_toldDown (74, .aload_n 0, 1) (gx_m 4 rfl)) ?_
      refine gx_Jgs (pc := 75) (ci := 16) (kk := 38) (t2 := 100) (by decide) (by decide) rfl rfl rfl q1712 (htX16_toldDown (75, .getfield 103, 3) (gx_m 5 rfl)) ?_
      refine gx_iload_n (pc := 78) (n := 1) (i := 1) rfl 1 rfl (htX16_toldDown (78, .iload_n 1, 1) (gx_m 6 rfl)) ?_
      refine gx_Jia (pc := 79) (htX16_toldDown (79, .iaload, 1) (gx_m 7 rfl)) (fun v1 => ?_)
      exact gx_Jiret (pc := 80) rfl (fun _ => trivial) (fun _ _ => rfl) (htX16_toldDown (80, .ireturn, 1) (gx_m 8 rfl))
    · refine gx_Jite (fun c3 => ?_) (fun c3 => ?_)
      · refine gx_Jtab (pc := 1) (tgt := 81) (htX16_toldDown (1, .tableswitch 146 0 13 #[71, 73, 80, 146, 87, 89, 146, 96, 146, 146, 146, 146, 146, 103], 71) (gx_m 1 rfl)) (by decide) (gx_tD c3 (by decide)) (gx_tI c3 (by decide)) ?_
        refine gx_aload_n (pc := 81) (n := 0) (i := 0) rfl 0 rfl (htX16_toldDown (81, .aload_n 0, 1) (gx_m 9 rfl)) ?_
        refine gx_Jgs (pc := 82) (ci := 16) (kk := 39) (t2 := 100) (by decide) (by decide) rfl rfl rfl q1713 (htX16_toldDown (82, .getfield 106, 3) (gx_m 10 rfl)) ?_
        refine gx_iload_n (pc := 85) (n := 1) (i := 1) rfl 1 rfl (htX16_toldDown (85, .iload_n 1, 1) (gx_m 11 rfl)) ?_
        refine gx_Jia (pc := 86) (htX16_toldDown (86, .iaload, 1) (gx_m 12 rfl)) (fun v2 => ?_)
        exact gx_Jiret (pc := 87) rfl (fun _ => trivial) (fun _ _ => rfl) (htX16_toldDown (87, .ireturn, 1) (gx_m 13 rfl))
      · refine gx_Jite (fun c4 => ?_) (fun c4 => ?_)
        · refine gx_Jtab (pc := 1) (tgt := 88) (htX16_toldDown (1, .tableswitch 146 0 13 #[71, 73, 80, 146, 87, 89, 146, 96, 146, 146, 146, 146, 146, 103], 71) (gx_m 1 rfl)) (by decide) (gx_tD c4 (by decide)) (gx_tI c4 (by decide)) ?_
          refine gx_iconst (pc := 88) (v := (-1)) (by decide) (htX16_toldDown (88, .iconst (-1), 1) (gx_m 14 rfl)) ?_
          exact gx_Jiret (pc := 89) rfl (fun _ => trivial) (fun _ _ => rfl) (htX16_toldDown (89, .ireturn, 1) (gx_m 15 rfl))
        · refine gx_Jite (fun c5 => ?_) (fun c5 => ?_)
          · refine gx_Jtab (pc := 1) (tgt := 90) (htX16_toldDown (1, .tableswitch 146 0 13 #[71, 73, 80, 146, 87, 89, 146, 96, 146, 146, 146, 146, 146, 103], 71) (gx_m 1 rfl)) (by decide) (gx_tD c5 (by decide)) (gx_tI c5 (by decide)) ?_
            refine gx_aload_n (pc := 90) (n := 0) (i := 0) rfl 0 rfl (htX16_toldDown (90, .aload_n 0, 1) (gx_m 16 rfl)) ?_
            refine gx_Jgs (pc := 91) (ci := 16) (kk := 43) (t2 := 100) (by decide) (by decide) rfl rfl rfl q1717 (htX16_toldDown (91, .getfield 118, 3) (gx_m 17 rfl)) ?_
            refine gx_iload_n (pc := 94) (n := 1) (i := 1) rfl 1 rfl (htX16_toldDown (94, .iload_n 1, 1) (gx_m 18 rfl)) ?_
            refine gx_Jia (pc := 95) (htX16_toldDown (95, .iaload, 1) (gx_m 19 rfl)) (fun v3 => ?_)
            exact gx_Jiret (pc := 96) rfl (fun _ => trivial) (fun _ _ => rfl) (htX16_toldDown (96, .ireturn, 1) (gx_m 20 rfl))
          · refine gx_Jite (fun c6 => ?_) (fun c6 => ?_)
            · refine gx_Jtab (pc := 1) (tgt := 97) (htX16_toldDown (1, .tableswitch 146 0 13 #[71, 73, 80, 146, 87, 89, 146, 96, 146, 146, 146, 146, 146, 103], 71) (gx_m 1 rfl)) (by decide) (gx_tD c6 (by decide)) (gx_tI c6 (by decide)) ?_
              refine gx_aload_n (pc := 97) (n := 0) (i := 0) rfl 0 rfl (htX16_toldDown (97, .aload_n 0, 1) (gx_m 21 rfl)) ?_
              refine gx_Jgs (pc := 98) (ci := 16) (kk := 40) (t2 := 100) (by decide) (by decide) rfl rfl rfl q1714 (htX16_toldDown (98, .getfield 109, 3) (gx_m 22 rfl)) ?_
              refine gx_iload_n (pc := 101) (n := 1) (i := 1) rfl 1 rfl (htX16_toldDown (101, .iload_n 1, 1) (gx_m 23 rfl)) ?_
              refine gx_Jia (pc := 102) (htX16_toldDown (102, .iaload, 1) (gx_m 24 rfl)) (fun v4 => ?_)
              exact gx_Jiret (pc := 103) rfl (fun _ => trivial) (fun _ _ => rfl) (htX16_toldDown (103, .ireturn, 1) (gx_m 25 rfl))
            · refine gx_Jite (fun c7 => ?_) (fun c7 => ?_)
              · refine gx_Jtab (pc := 1) (tgt := 104) (htX16_toldDown (1, .tableswitch 146 0 13 #[71, 73, 80, 146, 87, 89, 146, 96, 146, 146, 146, 146, 146, 103], 71) (gx_m 1 rfl)) (by decide) (gx_tD c7 (by decide)) (gx_tI c7 (by decide)) ?_
                refine gx_aload_n (pc := 104) (n := 0) (i := 0) rfl 0 rfl (htX16_toldDown (104, .aload_n 0, 1) (gx_m 26 rfl)) ?_
                refine gx_Jgs (pc := 105) (ci := 16) (kk := 43) (t2 := 100) (by decide) (by decide) rfl rfl rfl q1717 (htX16_toldDown (105, .getfield 118, 3) (gx_m 27 rfl)) ?_
                refine gx_iload_n (pc := 108) (n := 1) (i := 1) rfl 1 rfl (htX16_toldDown (108, .iload_n 1, 1) (gx_m 28 rfl)) ?_
                refine gx_Jia (pc := 109) (htX16_toldDown (109, .iaload, 1) (gx_m 29 rfl)) (fun v5 => ?_)
                refine gx_aload_n (pc := 110) (n := 0) (i := 0) rfl 0 rfl (htX16_toldDown (110, .aload_n 0, 1) (gx_m 30 rfl)) ?_
                refine gx_Jgs (pc := 111) (ci := 16) (kk := 40) (t2 := 100) (by decide) (by decide) rfl rfl rfl q1714 (htX16_toldDown (111, .getfield 109, 3) (gx_m 31 rfl)) ?_
                refine gx_iload_n (pc := 114) (n := 1) (i := 1) rfl 1 rfl (htX16_toldDown (114, .iload_n 1, 1) (gx_m 32 rfl)) ?_
                refine gx_Jia (pc := 115) (htX16_toldDown (115, .iaload, 1) (gx_m 33 rfl)) (fun v6 => ?_)
                refine gx_Jjoin (pcJ := 146) (lvJ := fun (j12 : Int32) => []) (stJ := fun (j12 : Int32) => [gx_i j12]) (fun _ => True) (fun j12 hj12 => ?_) (fun kk8 hj8 => ?_)
                · exact gx_Jiret (pc := 146) rfl (fun _ => trivial) (fun _ _ => rfl) (htX16_toldDown (146, .ireturn, 1) (gx_m 52 rfl))
                · refine gx_icmp_ne (pc := 116) (tgt := 128) (by decide) (htX16_toldDown (116, .if_icmp .ne 12, 3) (gx_m 34 rfl)) (fun c9 => ?_) (fun c9 => ?_)
                  · refine gx_aload_n (pc := 119) (n := 0) (i := 0) rfl 0 rfl (htX16_toldDown (119, .aload_n 0, 1) (gx_m 35 rfl)) ?_
                    refine gx_Jgs (pc := 120) (ci := 16) (kk := 41) (t2 := 100) (by decide) (by decide) rfl rfl rfl q1715 (htX16_toldDown (120, .getfield 112, 3) (gx_m 36 rfl)) ?_
                    refine gx_iload_n (pc := 123) (n := 1) (i := 1) rfl 1 rfl (htX16_toldDown (123, .iload_n 1, 1) (gx_m 37 rfl)) ?_
                    refine gx_Jia (pc := 124) (htX16_toldDown (124, .iaload, 1) (gx_m 38 rfl)) (fun v7 => ?_)
                    refine gx_goto (pc := 125) (tgt := 146) (by decide) (htX16_toldDown (125, .goto 21, 3) (gx_m 39 rfl)) ?_
                    refine gx_Jw (lv := []) [] rfl ?_
                    exact hj8 (v7 : Int32) trivial
                  · refine gx_aload_n (pc := 128) (n := 0) (i := 0) rfl 0 rfl (htX16_toldDown (128, .aload_n 0, 1) (gx_m 40 rfl)) ?_
                    refine gx_Jgs (pc := 129) (ci := 16) (kk := 8) (t2 := 100) (by decide) (by decide) rfl rfl rfl q1682 (htX16_toldDown (129, .getfield 19, 3) (gx_m 41 rfl)) ?_
                    refine gx_aload_n (pc := 132) (n := 0) (i := 0) rfl 0 rfl (htX16_toldDown (132, .aload_n 0, 1) (gx_m 42 rfl)) ?_
                    refine gx_Jgs (pc := 133) (ci := 16) (kk := 44) (t2 := 105) (by decide) (by decide) rfl rfl rfl q1718 (htX16_toldDown (133, .getfield 121, 3) (gx_m 43 rfl)) ?_
                    refine gx_iload_n (pc := 136) (n := 1) (i := 1) rfl 1 rfl (htX16_toldDown (136, .iload_n 1, 1) (gx_m 44 rfl)) ?_
                    refine gx_Jra (pc := 137) (t := 5) (t2 := 100) (by decide) (by decide) rfl (htX16_toldDown (137, .aaload, 1) (gx_m 45 rfl)) (fun v8 => ?_)
                    refine gx_aload_n (pc := 138) (n := 0) (i := 0) rfl 0 rfl (htX16_toldDown (138, .aload_n 0, 1) (gx_m 46 rfl)) ?_
                    refine gx_Jgs (pc := 139) (ci := 16) (kk := 43) (t2 := 100) (by decide) (by decide) rfl rfl rfl q1717 (htX16_toldDown (139, .getfield 118, 3) (gx_m 47 rfl)) ?_
                    refine gx_iload_n (pc := 142) (n := 1) (i := 1) rfl 1 rfl (htX16_toldDown (142, .iload_n 1, 1) (gx_m 48 rfl)) ?_
                    refine gx_Jia (pc := 143) (htX16_toldDown (143, .iaload, 1) (gx_m 49 rfl)) (fun v9 => ?_)
                    refine gx_Jia (pc := 144) (htX16_toldDown (144, .iaload, 1) (gx_m 50 rfl)) (fun v10 => ?_)
                    refine gx_Jia (pc := 145) (htX16_toldDown (145, .iaload, 1) (gx_m 51 rfl)) (fun v11 => ?_)
                    refine gx_Jw (lv := []) [] rfl ?_
                    exact hj8 (v11 : Int32) trivial
              · refine gx_Jtab (pc := 1) (tgt := 147) (htX16_toldDown (1, .tableswitch 146 0 13 #[71, 73, 80, 146, 87, 89, 146, 96, 146, 146, 146, 146, 146, 103], 71) (gx_m 1 rfl)) (by decide) (fun _ => by decide) (gx_tN (ks := [0, 1, 2, 4, 5, 7, 13]) (by simp only [List.mem_cons, List.not_mem_nil, or_false, not_or]; exact ⟨c1, c2, c3, c4, c5, c6, c7⟩) (by decide)) ?_
                refine gx_iconst (pc := 147) (v := 0) (by decide) (htX16_toldDown (147, .iconst 0, 1) (gx_m 53 rfl)) ?_
                exact gx_Jiret (pc := 148) rfl (fun _ => trivial) (fun _ _ => rfl) (htX16_toldDown (148, .ireturn, 1) (gx_m 54 rfl))
theorem ct_X16_told (Y : gx_Y) (x0 : gx_Nm) (x1 : Int32) (x2 : Int32) : gx_Ct Y yX16_told (ws_ yX16_told cX16_told 5 (some .int)) 8 273 [gx_r 17 (some x0), gx_i x1, gx_i x2] gx_Oi (f_X16_told x0 x1 x2) := by
  refine gx_start (lv := [(0, gx_r 17 (some x0)), (1, gx_i x1), (2, gx_i x2)]) gx_Oi_r pn_X16 (Nat.le_of_ble_eq_true rfl) rfl ?_
  unfold f_X16_told
  refine gx_iload_n (pc := 0) (n := 2) (i := 2) rfl 2 rfl (htX16_told_0 (0, .iload_n 2, 1) (gx_m 0 rfl)) ?_
  refine gx_Jcond (pcT := 10) (pcE := 16) (lv2 := [(0, gx_r 17 (some x0)), (1, gx_i x1), (2, gx_i x2)]) (st2 := []) ?_ ?_ (fun kk1 hT1 hE1 => ?_)
  · refine gx_aload_n (pc := 10) (n := 0) (i := 0) rfl 0 rfl (htX16_told_0 (10, .aload_n 0, 1) (gx_m 5 rfl)) ?_
    refine gx_iconst (pc := 11) (v := 1) (by decide) (htX16_told_0 (11, .iconst 1, 1) (gx_m 6 rfl)) ?_
    refine gx_Jci (pc := 12) (gx_hst (as := [gx_i 1]) (b := gx_r 17 (some x0))) (gx_runV (as := [gx_i 1]) (ci := 16) (ct_X16_no Y x0 1) (by decide) (Or.inl rfl) rfl rfl rfl rfl q2062 q2064 qs46 q117 q2065 rfl dd_X16_no (by decide) (by decide) (Nat.le_of_ble_eq_true rfl) (htX16_told_0 (12, .invokevirtual 370, 3) (gx_m 7 rfl))) (fun v2 => ?_)
    exact gx_Jiret (pc := 15) rfl (fun _ => trivial) (fun _ _ => rfl) (htX16_told_0 (15, .ireturn, 1) (gx_m 8 rfl))
  · refine gx_iload_n (pc := 16) (n := 1) (i := 1) rfl 1 rfl (htX16_told_0 (16, .iload_n 1, 1) (gx_m 9 rfl)) ?_
    refine gx_Jcond (pcT := 28) (pcE := 34) (lv2 := [(0, gx_r 17 (some x0)), (1, gx_i x1), (2, gx_i x2)]) (st2 := []) ?_ ?_ (fun kk2 hT2 hE2 => ?_)
    · refine gx_aload_n (pc := 28) (n := 0) (i := 0) rfl 0 rfl (htX16_told_0 (28, .aload_n 0, 1) (gx_m 15 rfl)) ?_
      refine gx_iconst (pc := 29) (v := 2) (by decide) (htX16_told_0 (29, .iconst 2, 1) (gx_m 16 rfl)) ?_
      refine gx_Jci (pc := 30) (gx_hst (as := [gx_i 2]) (b := gx_r 17 (some x0))) (gx_runV (as := [gx_i 2]) (ci := 16) (ct_X16_no Y x0 2) (by decide) (Or.inl rfl) rfl rfl rfl rfl q2062 q2064 qs46 q117 q2065 rfl dd_X16_no (by decide) (by decide) (Nat.le_of_ble_eq_true rfl) (htX16_told_0 (30, .invokevirtual 370, 3) (gx_m 17 rfl))) (fun v5 => ?_)
      exact gx_Jiret (pc := 33) rfl (fun _ => trivial) (fun _ _ => rfl) (htX16_told_0 (33, .ireturn, 1) (gx_m 18 rfl))
    · refine gx_aload_n (pc := 34) (n := 0) (i := 0) rfl 0 rfl (htX16_told_0 (34, .aload_n 0, 1) (gx_m 19 rfl)) ?_
      refine gx_iconst (pc := 35) (v := 0) (by decide) (htX16_told_0 (35, .iconst 0, 1) (gx_m 20 rfl)) ?_
      refine gx_Jpi (pc := 36) (ci := 16) (kk := 0) (by decide) (Or.inl rfl) (by decide) rfl rfl q1674 (Or.inl rfl) (htX16_told_0 (36, .putfield 312, 3) (gx_m 21 rfl)) ?_
      refine gx_aload_n (pc := 39) (n := 0) (i := 0) rfl 0 rfl (htX16_told_0 (39, .aload_n 0, 1) (gx_m 22 rfl)) ?_
      refine gx_Jgs (pc := 40) (ci := 16) (kk := 30) (t2 := 102) (by decide) (by decide) rfl rfl rfl q1704 (htX16_told_0 (40, .getfield 76, 3) (gx_m 23 rfl)) ?_
      refine gx_iload_n (pc := 43) (n := 1) (i := 1) rfl 1 rfl (htX16_told_0 (43, .iload_n 1, 1) (gx_m 24 rfl)) ?_
      refine gx_Jza (pc := 44) (htX16_told_0 (44, .baload, 1) (gx_m 25 rfl)) (fun v6 => ?_)
      refine gx_if_eq (pc := 45) (y := 0) (tgt := 55) (by decide) (htX16_told_0 (45, .ifCond .eq 10, 3) (gx_m 26 rfl)) (fun c3 => ?_) (fun c3 => ?_)
      · refine gx_iconst (pc := 55) (v := 0) (by decide) (htX16_told_0 (55, .iconst 0, 1) (gx_m 32 rfl)) ?_
        refine gx_istore_n (pc := 56) (n := 3) (i := 3) (lv' := [(3, gx_i 0), (0, gx_r 17 (some x0)), (1, gx_i x1), (2, gx_i x2)]) rfl (by decide) rfl (htX16_told_0 (56, .istore_n 3, 1) (gx_m 33 rfl)) ?_
        refine gx_iload_n (pc := 57) (n := 2) (i := 2) rfl 3 rfl (htX16_told_0 (57, .iload_n 2, 1) (gx_m 34 rfl)) ?_
        refine gx_Jite (fun c4 => ?_) (fun c4 => ?_)
        · refine gx_Jtab (pc := 58) (tgt := 128) (htX16_told_0 (58, .tableswitch 200 0 13 #[70, 72, 79, 86, 93, 100, 107, 114, 121, 131, 165, 172, 182, 188], 70) (gx_m 35 rfl)) (by decide) (gx_tD c4 (by decide)) (gx_tI c4 (by decide)) ?_
          refine gx_iconst (pc := 128) (v := 0) (by decide) (htX16_told_0 (128, .iconst 0, 1) (gx_m 36 rfl)) ?_
          exact gx_Jiret (pc := 129) rfl (fun _ => trivial) (fun _ _ => rfl) (htX16_told_0 (129, .ireturn, 1) (gx_m 37 rfl))
        · refine gx_Jite (fun c5 => ?_) (fun c5 => ?_)
          · refine gx_Jtab (pc := 58) (tgt := 130) (htX16_told_0 (58, .tableswitch 200 0 13 #[70, 72, 79, 86, 93, 100, 107, 114, 121, 131, 165, 172, 182, 188], 70) (gx_m 35 rfl)) (by decide) (gx_tD c5 (by decide)) (gx_tI c5 (by decide)) ?_
            refine gx_aload_n (pc := 130) (n := 0) (i := 0) rfl 1 rfl (htX16_told_0 (130, .aload_n 0, 1) (gx_m 38 rfl)) ?_
            refine gx_Jgs (pc := 131) (ci := 16) (kk := 31) (t2 := 100) (by decide) (by decide) rfl rfl rfl q1705 (htX16_told_0 (131, .getfield 80, 3) (gx_m 39 rfl)) ?_
            refine gx_iload_n (pc := 134) (n := 1) (i := 1) rfl 2 rfl (htX16_told_0 (134, .iload_n 1, 1) (gx_m 40 rfl)) ?_
            refine gx_Jia (pc := 135) (htX16_told_0 (135, .iaload, 1) (gx_m 41 rfl)) (fun v7 => ?_)
            exact gx_Jiret (pc := 136) rfl (fun _ => trivial) (fun _ _ => rfl) (htX16_told_0 (136, .ireturn, 1) (gx_m 42 rfl))
          · refine gx_Jite (fun c6 => ?_) (fun c6 => ?_)
            · refine gx_Jtab (pc := 58) (tgt := 137) (htX16_told_0 (58, .tableswitch 200 0 13 #[70, 72, 79, 86, 93, 100, 107, 114, 121, 131, 165, 172, 182, 188], 70) (gx_m 35 rfl)) (by decide) (gx_tD c6 (by decide)) (gx_tI c6 (by decide)) ?_
              refine gx_aload_n (pc := 137) (n := 0) (i := 0) rfl 1 rfl (htX16_told_0 (137, .aload_n 0, 1) (gx_m 43 rfl)) ?_
              refine gx_Jgs (pc := 138) (ci := 16) (kk := 32) (t2 := 100) (by decide) (by decide) rfl rfl rfl q1706 (htX16_told_0 (138, .getfield 83, 3) (gx_m 44 rfl)) ?_
              refine gx_iload_n (pc := 141) (n := 1) (i := 1) rfl 2 rfl (htX16_told_0 (141, .iload_n 1, 1) (gx_m 45 rfl)) ?_
              refine gx_Jia (pc := 142) (htX16_told_0 (142, .iaload, 1) (gx_m 46 rfl)) (fun v8 => ?_)
              exact gx_Jiret (pc := 143) rfl (fun _ => trivial) (fun _ _ => rfl) (htX16_told_0 (143, .ireturn, 1) (gx_m 47 rfl))
            · refine gx_Jite (fun c7 => ?_) (fun c7 => ?_)
              · refine gx_Jtab (pc := 58) (tgt := 144) (htX16_told_0 (58, .tableswitch 200 0 13 #[70, 72, 79, 86, 93, 100, 107, 114, 121, 131, 165, 172, 182, 188], 70) (gx_m 35 rfl)) (by decide) (gx_tD c7 (by decide)) (gx_tI c7 (by decide)) ?_
                refine gx_aload_n (pc := 144) (n := 0) (i := 0) rfl 1 rfl (htX16_told_0 (144, .aload_n 0, 1) (gx_m 48 rfl)) ?_
                refine gx_Jgs (pc := 145) (ci := 16) (kk := 45) (t2 := 100) (by decide) (by decide) rfl rfl rfl q1719 (htX16_told_0 (145, .getfield 124, 3) (gx_m 49 rfl)) ?_
                refine gx_iload_n (pc := 148) (n := 1) (i := 1) rfl 2 rfl (htX16_told_0 (148, .iload_n 1, 1) (gx_m 50 rfl)) ?_
                refine gx_Jia (pc := 149) (htX16_told_0 (149, .iaload, 1) (gx_m 51 rfl)) (fun v9 => ?_)
                exact gx_Jiret (pc := 150) rfl (fun _ => trivial) (fun _ _ => rfl) (htX16_told_0 (150, .ireturn, 1) (gx_m 52 rfl))
              · refine gx_Jite (fun c8 => ?_) (fun c8 => ?_)
                · refine gx_Jtab (pc := 58) (tgt := 151) (htX16_told_0 (58, .tableswitch 200 0 13 #[70, 72, 79, 86, 93, 100, 107, 114, 121, 131, 165, 172, 182, 188], 70) (gx_m 35 rfl)) (by decide) (gx_tD c8 (by decide)) (gx_tI c8 (by decide)) ?_
                  refine gx_aload_n (pc := 151) (n := 0) (i := 0) rfl 1 rfl (htX16_told_0 (151, .aload_n 0, 1) (gx_m 53 rfl)) ?_
                  refine gx_Jgs (pc := 152) (ci := 16) (kk := 46) (t2 := 100) (by decide) (by decide) rfl rfl rfl q1720 (htX16_told_0 (152, .getfield 127, 3) (gx_m 54 rfl)) ?_
                  refine gx_iload_n (pc := 155) (n := 1) (i := 1) rfl 2 rfl (htX16_told_0 (155, .iload_n 1, 1) (gx_m 55 rfl)) ?_
                  refine gx_Jia (pc := 156) (htX16_told_0 (156, .iaload, 1) (gx_m 56 rfl)) (fun v10 => ?_)
                  exact gx_Jiret (pc := 157) rfl (fun _ => trivial) (fun _ _ => rfl) (htX16_told_0 (157, .ireturn, 1) (gx_m 57 rfl))
                · refine gx_Jite (fun c9 => ?_) (fun c9 => ?_)
                  · refine gx_Jtab (pc := 58) (tgt := 158) (htX16_told_0 (58, .tableswitch 200 0 13 #[70, 72, 79, 86, 93, 100, 107, 114, 121, 131, 165, 172, 182, 188], 70) (gx_m 35 rfl)) (by decide) (gx_tD c9 (by decide)) (gx_tI c9 (by decide)) ?_
                    refine gx_aload_n (pc := 158) (n := 0) (i := 0) rfl 1 rfl (htX16_told_0 (158, .aload_n 0, 1) (gx_m 58 rfl)) ?_
                    refine gx_Jgs (pc := 159) (ci := 16) (kk := 36) (t2 := 100) (by decide) (by decide) rfl rfl rfl q1710 (htX16_told_0 (159, .getfield 95, 3) (gx_m 59 rfl)) ?_
                    refine gx_iload_n (pc := 162) (n := 1) (i := 1) rfl 2 rfl (htX16_told_0 (162, .iload_n 1, 1) (gx_m 60 rfl)) ?_
                    refine gx_Jia (pc := 163) (htX16_told_0 (163, .iaload, 1) (gx_m 61 rfl)) (fun v11 => ?_)
                    exact gx_Jiret (pc := 164) rfl (fun _ => trivial) (fun _ _ => rfl) (htX16_told_0 (164, .ireturn, 1) (gx_m 62 rfl))
                  · refine gx_Jite (fun c10 => ?_) (fun c10 => ?_)
                    · refine gx_Jtab (pc := 58) (tgt := 165) (htX16_told_0 (58, .tableswitch 200 0 13 #[70, 72, 79, 86, 93, 100, 107, 114, 121, 131, 165, 172, 182, 188], 70) (gx_m 35 rfl)) (by decide) (gx_tD c10 (by decide)) (gx_tI c10 (by decide)) ?_
                      refine gx_aload_n (pc := 165) (n := 0) (i := 0) rfl 1 rfl (htX16_told_0 (165, .aload_n 0, 1) (gx_m 63 rfl)) ?_
                      refine gx_Jgs (pc := 166) (ci := 16) (kk := 47) (t2 := 100) (by decide) (by decide) rfl rfl rfl q1721 (htX16_told_0 (166, .getfield 130, 3) (gx_m 64 rfl)) ?_
                      refine gx_iload_n (pc := 169) (n := 1) (i := 1) rfl 2 rfl (htX16_told_0 (169, .iload_n 1, 1) (gx_m 65 rfl)) ?_
                      refine gx_Jia (pc := 170) (htX16_told_0 (170, .iaload, 1) (gx_m 66 rfl)) (fun v12 => ?_)
                      exact gx_Jiret (pc := 171) rfl (fun _ => trivial) (fun _ _ => rfl) (htX16_told_0 (171, .ireturn, 1) (gx_m 67 rfl))
                    · refine gx_Jite (fun c11 => ?_) (fun c11 => ?_)
                      · refine gx_Jtab (pc := 58) (tgt := 172) (htX16_told_0 (58, .tableswitch 200 0 13 #[70, 72, 79, 86, 93, 100, 107, 114, 121, 131, 165, 172, 182, 188], 70) (gx_m 35 rfl)) (by decide) (gx_tD c11 (by decide)) (gx_tI c11 (by decide)) ?_
                        refine gx_aload_n (pc := 172) (n := 0) (i := 0) rfl 1 rfl (htX16_told_0 (172, .aload_n 0, 1) (gx_m 68 rfl)) ?_
                        refine gx_Jgs (pc := 173) (ci := 16) (kk := 33) (t2 := 100) (by decide) (by decide) rfl rfl rfl q1707 (htX16_told_0 (173, .getfield 86, 3) (gx_m 69 rfl)) ?_
                        refine gx_iload_n (pc := 176) (n := 1) (i := 1) rfl 2 rfl (htX16_told_0 (176, .iload_n 1, 1) (gx_m 70 rfl)) ?_
                        refine gx_Jia (pc := 177) (htX16_told_0 (177, .iaload, 1) (gx_m 71 rfl)) (fun v13 => ?_)
                        exact gx_Jiret (pc := 178) rfl (fun _ => trivial) (fun _ _ => rfl) (htX16_told_0 (178, .ireturn, 1) (gx_m 72 rfl))
                      · refine gx_Jite (fun c12 => ?_) (fun c12 => ?_)
                        · refine gx_Jtab (pc := 58) (tgt := 179) (htX16_told_0 (58, .tableswitch 200 0 13 #[70, 72, 79, 86, 93, 100, 107, 114, 121, 131, 165, 172, 182, 188], 70) (gx_m 35 rfl)) (by decide) (gx_tD c12 (by decide)) (gx_tI c12 (by decide)) ?_
                          refine gx_aload_n (pc := 179) (n := 0) (i := 0) rfl 1 rfl (htX16_told_0 (179, .aload_n 0, 1) (gx_m 73 rfl)) ?_
                          refine gx_iload_n (pc := 180) (n := 1) (i := 1) rfl 2 rfl (htX16_told_0 (180, .iload_n 1, 1) (gx_m 74 rfl)) ?_
                          refine gx_Jcv (pc := 181) (gx_hst (as := [gx_i x1]) (b := gx_r 17 (some x0))) (gx_runV (as := [gx_i x1]) (ci := 16) (ct_X16_now Y x0 x1) (by decide) (Or.inl rfl) rfl rfl rfl rfl q2256 q2258 qs79 q117 q2259 rfl dd_X16_now (by decide) (by decide) (Nat.le_of_ble_eq_true rfl) (htX16_told_0 (181, .invokevirtual 507, 3) (gx_m 75 rfl))) ?_
                          refine gx_aload_n (pc := 184) (n := 0) (i := 0) rfl 1 rfl (htX16_told_0 (184, .aload_n 0, 1) (gx_m 76 rfl)) ?_
                          refine gx_Jgi (pc := 185) (ci := 16) (kk := 108) (by decide) (Or.inl rfl) (by decide) (by decide) q1782 (htX16_told_0 (185, .getfield 433, 3) (gx_m 77 rfl)) (fun v14 hv14 => ?_)
                          exact gx_Jiret (pc := 188) rfl (fun _ => trivial) (fun _ _ => rfl) (htX16_told_0 (188, .ireturn, 1) (gx_m 78 rfl))
                        · refine gx_Jite (fun c13 => ?_) (fun c13 => ?_)
                          · refine gx_Jtab (pc := 58) (tgt := 189) (htX16_told_0 (58, .tableswitch 200 0 13 #[70, 72, 79, 86, 93, 100, 107, 114, 121, 131, 165, 172, 182, 188], 70) (gx_m 35 rfl)) (by decide) (gx_tD c13 (by decide)) (gx_tI c13 (by decide)) ?_
                            refine gx_iconst (pc := 189) (v := 0) (by decide) (htX16_told_0 (189, .iconst 0, 1) (gx_m 79 rfl)) ?_
                            refine gx_istore (pc := 190) (i := 4) (lv' := [(4, gx_i 0), (3, gx_i 0), (0, gx_r 17 (some x0)), (1, gx_i x1), (2, gx_i x2)]) (by decide) rfl (htX16_told_0 (190, .istore 4, 2) (gx_m 80 rfl)) ?_
                            refine gx_Jjoin (pcJ := 221) (lvJ := fun (j19 : Int32) => [(3, gx_i j19)]) (stJ := fun (j19 : Int32) => []) (fun _ => True) (fun j19 _ => ?_) (fun kk14 hj14 => ?_)
                            · refine gx_iload_n (pc := 221) (n := 3) (i := 3) rfl 0 rfl (htX16_told_0 (221, .iload_n 3, 1) (gx_m 94 rfl)) ?_
                              exact gx_Jiret (pc := 222) rfl (fun _ => trivial) (fun _ _ => rfl) (htX16_told_0 (222, .ireturn, 1) (gx_m 95 rfl))
                            · refine gx_Jw (lv := [(0, gx_r 17 (some x0)), (1, gx_i x1), (3, gx_i 0), (4, gx_i 0)]) [2, 3, 1, 0] rfl ?_
                              refine gx_Jlp (pc := 192) (lvh := fun (s15 : Int32 × Int32) => [(0, gx_r 17 (some x0)), (1, gx_i x1), (3, gx_i s15.1), (4, gx_i s15.2)]) (fun s15 kl14 ha14 hb14 => ?_) _
                              unfold lb_X16_told_1
                              refine gx_iload (pc := 192) (i := 4) 3 rfl (htX16_told_0 (192, .iload 4, 2) (gx_m 81 rfl)) ?_
                              refine gx_aload_n (pc := 194) (n := 0) (i := 0) rfl 0 rfl (htX16_told_0 (194, .aload_n 0, 1) (gx_m 82 rfl)) ?_
                              refine gx_Jgi (pc := 195) (ci := 16) (kk := 81) (by decide) (Or.inl rfl) (by decide) (by decide) q1755 (htX16_told_0 (195, .getfield 336, 3) (gx_m 83 rfl)) (fun v16 hv16 => ?_)
                              refine gx_icmp_ge (pc := 198) (tgt := 221) (by decide) (htX16_told_0 (198, .if_icmp .ge 23, 3) (gx_m 84 rfl)) (fun c15 => ?_) (fun c15 => ?_)
                              · refine gx_Jw (lv := [(3, gx_i s15.1)]) [2] rfl ?_
                                exact gx_Jout hb14 (hj14 (s15.1 : Int32) trivial)
                              · refine gx_aload_n (pc := 201) (n := 0) (i := 0) rfl 0 rfl (htX16_told_0 (201, .aload_n 0, 1) (gx_m 85 rfl)) ?_
                                refine gx_Jgs (pc := 202) (ci := 16) (kk := 80) (t2 := 100) (by decide) (by decide) rfl rfl rfl q1754 (htX16_told_0 (202, .getfield 221, 3) (gx_m 86 rfl)) ?_
                                refine gx_iload (pc := 205) (i := 4) 3 rfl (htX16_told_0 (205, .iload 4, 2) (gx_m 87 rfl)) ?_
                                refine gx_Jia (pc := 207) (htX16_told_0 (207, .iaload, 1) (gx_m 88 rfl)) (fun v17 => ?_)
                                refine gx_iload_n (pc := 208) (n := 1) (i := 1) rfl 1 rfl (htX16_told_0 (208, .iload_n 1, 1) (gx_m 89 rfl)) ?_
                                refine gx_Jjoin (pcJ := 215) (lvJ := fun (j18 : Int32) => [(0, gx_r 17 (some x0)), (1, gx_i x1), (3, gx_i j18), (4, gx_i s15.2)]) (stJ := fun (j18 : Int32) => []) (fun _ => True) (fun j18 hj18 => ?_) (fun kk16 hj16 => ?_)
                                · refine gx_iinc (pc := 215) (i := 4) (j := 3) (v := (s15.2 + 1)) (lv' := [(4, gx_i (s15.2 + 1)), (0, gx_r 17 (some x0)), (1, gx_i x1), (3, gx_i j18)]) rfl (gx_iv (by decide)) (by decide) rfl (htX16_told_0 (215, .iinc 4 1, 3) (gx_m 92 rfl)) ?_
                                  refine gx_goto (pc := 218) (tgt := 192) (by decide) (htX16_told_0 (218, .goto (-26), 3) (gx_m 93 rfl)) ?_
                                  refine gx_Jw (lv := [(0, gx_r 17 (some x0)), (1, gx_i x1), (3, gx_i j18), (4, gx_i (s15.2 + 1))]) [1, 2, 3, 0] rfl ?_
                                  exact ha14 ((j18 : Int32), ((s15.2 + 1) : Int32))
                                · refine gx_icmp_ne (pc := 209) (tgt := 215) (by decide) (htX16_told_0 (209, .if_icmp .ne 6, 3) (gx_m 90 rfl)) (fun c17 => ?_) (fun c17 => ?_)
                                  · refine gx_iinc (pc := 212) (i := 3) (j := 2) (v := (s15.1 + 1)) (lv' := [(3, gx_i (s15.1 + 1)), (0, gx_r 17 (some x0)), (1, gx_i x1), (4, gx_i s15.2)]) rfl (gx_iv (by decide)) (by decide) rfl (htX16_told_0 (212, .iinc 3 1, 3) (gx_m 91 rfl)) ?_
                                    refine gx_Jw (lv := [(0, gx_r 17 (some x0)), (1, gx_i x1), (3, gx_i (s15.1 + 1)), (4, gx_i s15.2)]) [1, 2, 0, 3] rfl ?_
                                    exact hj16 ((s15.1 + 1) : Int32) trivial
                                  · exact hj16 (s15.1 : Int32) trivial
                          · refine gx_Jite (fun c18 => ?_) (fun c18 => ?_)
                            · refine gx_Jtab (pc := 58) (tgt := 223) (htX16_told_0 (58, .tableswitch 200 0 13 #[70, 72, 79, 86, 93, 100, 107, 114, 121, 131, 165, 172, 182, 188], 70) (gx_m 35 rfl)) (by decide) (gx_tD c18 (by decide)) (gx_tI c18 (by decide)) ?_
                              refine gx_aload_n (pc := 223) (n := 0) (i := 0) rfl 1 rfl (htX16_told_0 (223, .aload_n 0, 1) (gx_m 96 rfl)) ?_
                              refine gx_Jgs (pc := 224) (ci := 16) (kk := 63) (t2 := 100) (by decide) (by decide) rfl rfl rfl q1737 (htX16_told_0 (224, .getfield 178, 3) (gx_m 97 rfl)) ?_
                              refine gx_iload_n (pc := 227) (n := 1) (i := 1) rfl 2 rfl (htX16_told_0 (227, .iload_n 1, 1) (gx_m 98 rfl)) ?_
                              refine gx_Jia (pc := 228) (htX16_told_0 (228, .iaload, 1) (gx_m 99 rfl)) (fun v20 => ?_)
                              exact gx_Jiret (pc := 229) rfl (fun _ => trivial) (fun _ _ => rfl) (htX16_told_1 (229, .ireturn, 1) (gx_m 0 rfl))
                            · refine gx_Jite (fun c19 => ?_) (fun c19 => ?_)
                              · refine gx_Jtab (pc := 58) (tgt := 230) (htX16_told_0 (58, .tableswitch 200 0 13 #[70, 72, 79, 86, 93, 100, 107, 114, 121, 131, 165, 172, 182, 188], 70) (gx_m 35 rfl)) (by decide) (gx_tD c19 (by decide)) (gx_tI c19 (by decide)) ?_
                                refine gx_aload_n (pc := 230) (n := 0) (i := 0) rfl 1 rfl (htX16_told_1 (230, .aload_n 0, 1) (gx_m 1 rfl)) ?_
                                refine gx_iload_n (pc := 231) (n := 1) (i := 1) rfl 2 rfl (htX16_told_1 (231, .iload_n 1, 1) (gx_m 2 rfl)) ?_
                                refine gx_Jcv (pc := 232) (gx_hst (as := [gx_i x1]) (b := gx_r 17 (some x0))) (gx_runV (as := [gx_i x1]) (ci := 16) (ct_X16_now Y x0 x1) (by decide) (Or.inl rfl) rfl rfl rfl rfl q2256 q2258 qs79 q117 q2259 rfl dd_X16_now (by decide) (by decide) (Nat.le_of_ble_eq_true rfl) (htX16_told_1 (232, .invokevirtual 507, 3) (gx_m 3 rfl))) ?_
                                refine gx_aload_n (pc := 235) (n := 0) (i := 0) rfl 1 rfl (htX16_told_1 (235, .aload_n 0, 1) (gx_m 4 rfl)) ?_
                                refine gx_Jgi (pc := 236) (ci := 16) (kk := 107) (by decide) (Or.inl rfl) (by decide) (by decide) q1781 (htX16_told_1 (236, .getfield 394, 3) (gx_m 5 rfl)) (fun v21 hv21 => ?_)
                                exact gx_Jiret (pc := 239) rfl (fun _ => trivial) (fun _ _ => rfl) (htX16_told_1 (239, .ireturn, 1) (gx_m 6 rfl))
                              · refine gx_Jite (fun c20 => ?_) (fun c20 => ?_)
                                · refine gx_Jtab (pc := 58) (tgt := 240) (htX16_told_0 (58, .tableswitch 200 0 13 #[70, 72, 79, 86, 93, 100, 107, 114, 121, 131, 165, 172, 182, 188], 70) (gx_m 35 rfl)) (by decide) (gx_tD c20 (by decide)) (gx_tI c20 (by decide)) ?_
                                  refine gx_aload_n (pc := 240) (n := 0) (i := 0) rfl 1 rfl (htX16_told_1 (240, .aload_n 0, 1) (gx_m 7 rfl)) ?_
                                  refine gx_iload_n (pc := 241) (n := 1) (i := 1) rfl 2 rfl (htX16_told_1 (241, .iload_n 1, 1) (gx_m 8 rfl)) ?_
                                  refine gx_Jci (pc := 242) (gx_hst (as := [gx_i x1]) (b := gx_r 17 (some x0))) (gx_runV (as := [gx_i x1]) (ci := 16) (ct_X16_readsWaiting Y x0 x1) (by decide) (Or.inl rfl) rfl rfl rfl rfl q2331 q2333 qs94 q117 q2334 rfl dd_X16_readsWaiting (by decide) (by decide) (Nat.le_of_ble_eq_true rfl) (htX16_told_1 (242, .invokevirtual 563, 3) (gx_m 9 rfl))) (fun v22 => ?_)
                                  exact gx_Jiret (pc := 245) rfl (fun _ => trivial) (fun _ _ => rfl) (htX16_told_1 (245, .ireturn, 1) (gx_m 10 rfl))
                                · refine gx_Jite (fun c21 => ?_) (fun c21 => ?_)
                                  · refine gx_Jtab (pc := 58) (tgt := 246) (htX16_told_0 (58, .tableswitch 200 0 13 #[70, 72, 79, 86, 93, 100, 107, 114, 121, 131, 165, 172, 182, 188], 70) (gx_m 35 rfl)) (by decide) (gx_tD c21 (by decide)) (gx_tI c21 (by decide)) ?_
                                    refine gx_aload_n (pc := 246) (n := 0) (i := 0) rfl 1 rfl (htX16_told_1 (246, .aload_n 0, 1) (gx_m 11 rfl)) ?_
                                    refine gx_iload_n (pc := 247) (n := 1) (i := 1) rfl 2 rfl (htX16_told_1 (247, .iload_n 1, 1) (gx_m 12 rfl)) ?_
                                    refine gx_aload_n (pc := 248) (n := 0) (i := 0) rfl 1 rfl (htX16_told_1 (248, .aload_n 0, 1) (gx_m 13 rfl)) ?_
                                    refine gx_Jgs (pc := 249) (ci := 16) (kk := 36) (t2 := 100) (by decide) (by decide) rfl rfl rfl q1710 (htX16_told_1 (249, .getfield 95, 3) (gx_m 14 rfl)) ?_
                                    refine gx_iload_n (pc := 252) (n := 1) (i := 1) rfl 2 rfl (htX16_told_1 (252, .iload_n 1, 1) (gx_m 15 rfl)) ?_
                                    refine gx_Jia (pc := 253) (htX16_told_1 (253, .iaload, 1) (gx_m 16 rfl)) (fun v23 => ?_)
                                    refine gx_Jci (pc := 254) (gx_hst (as := [gx_i x1, gx_i v23]) (b := gx_r 17 (some x0))) (gx_runV (as := [gx_i x1, gx_i v23]) (ci := 16) (ct_X16_termAt Y x0 x1 v23) (by decide) (Or.inl rfl) rfl rfl rfl rfl q2150 q2152 qs60 q117 q2153 rfl dd_X16_termAt (by decide) (by decide) (Nat.le_of_ble_eq_true rfl) (htX16_told_1 (254, .invokevirtual 461, 3) (gx_m 17 rfl))) (fun v24 => ?_)
                                    exact gx_Jiret (pc := 257) rfl (fun _ => trivial) (fun _ _ => rfl) (htX16_told_1 (257, .ireturn, 1) (gx_m 18 rfl))
                                  · refine gx_Jtab (pc := 58) (tgt := 258) (htX16_told_0 (58, .tableswitch 200 0 13 #[70, 72, 79, 86, 93, 100, 107, 114, 121, 131, 165, 172, 182, 188], 70) (gx_m 35 rfl)) (by decide) (fun _ => by decide) (gx_tN (ks := [0, 1, 2, 3, 4, 5, 6, 7, 8, 9, 10, 11, 12, 13]) (by simp only [List.mem_cons, List.not_mem_nil, or_false, not_or]; exact ⟨c4, c5, c6, c7, c8, c9, c10, c11, c12, c13, c18, c19, c20, c21⟩) (by decide)) ?_
                                    refine gx_aload_n (pc := 258) (n := 0) (i := 0) rfl 1 rfl (htX16_told_1 (258, .aload_n 0, 1) (gx_m 19 rfl)) ?_
                                    refine gx_iload_n (pc := 259) (n := 1) (i := 1) rfl 2 rfl (htX16_told_1 (259, .iload_n 1, 1) (gx_m 20 rfl)) ?_
                                    refine gx_Jcv (pc := 260) (gx_hst (as := [gx_i x1]) (b := gx_r 17 (some x0))) (gx_runV (as := [gx_i x1]) (ci := 16) (ct_X16_now Y x0 x1) (by decide) (Or.inl rfl) rfl rfl rfl rfl q2256 q2258 qs79 q117 q2259 rfl dd_X16_now (by decide) (by decide) (Nat.le_of_ble_eq_true rfl) (htX16_told_1 (260, .invokevirtual 507, 3) (gx_m 21 rfl))) ?_
                                    refine gx_iconst (pc := 263) (v := 1) (by decide) (htX16_told_1 (263, .iconst 1, 1) (gx_m 22 rfl)) ?_
                                    refine gx_istore (pc := 264) (i := 4) (lv' := [(4, gx_i 1), (3, gx_i 0), (0, gx_r 17 (some x0)), (1, gx_i x1), (2, gx_i x2)]) (by decide) rfl (htX16_told_1 (264, .istore 4, 2) (gx_m 23 rfl)) ?_
                                    refine gx_Jjoin (pcJ := 292) (lvJ := fun (j28 : Int32) => [(3, gx_i j28)]) (stJ := fun (j28 : Int32) => []) (fun _ => True) (fun j28 _ => ?_) (fun kk22 hj22 => ?_)
                                    · refine gx_iload_n (pc := 292) (n := 3) (i := 3) rfl 0 rfl (htX16_told_1 (292, .iload_n 3, 1) (gx_m 35 rfl)) ?_
                                      exact gx_Jiret (pc := 293) rfl (fun _ => trivial) (fun _ _ => rfl) (htX16_told_1 (293, .ireturn, 1) (gx_m 36 rfl))
                                    · refine gx_Jw (lv := [(0, gx_r 17 (some x0)), (3, gx_i 0), (4, gx_i 1)]) [2, 1, 0] rfl ?_
                                      refine gx_Jlp (pc := 266) (lvh := fun (s25 : Int32 × Int32) => [(0, gx_r 17 (some x0)), (3, gx_i s25.1), (4, gx_i s25.2)]) (fun s25 kl22 ha22 hb22 => ?_) _
                                      unfold lb_X16_told_2
                                      refine gx_iload (pc := 266) (i := 4) 2 rfl (htX16_told_1 (266, .iload 4, 2) (gx_m 24 rfl)) ?_
                                      refine gx_bipush (pc := 268) (v := 100) (by decide) (htX16_told_1 (268, .bipush 100, 2) (gx_m 25 rfl)) ?_
                                      refine gx_icmp_ge (pc := 270) (tgt := 292) (by decide) (htX16_told_1 (270, .if_icmp .ge 22, 3) (gx_m 26 rfl)) (fun c23 => ?_) (fun c23 => ?_)
                                      · refine gx_Jw (lv := [(3, gx_i s25.1)]) [1] rfl ?_
                                        exact gx_Jout hb22 (hj22 (s25.1 : Int32) trivial)
                                      · refine gx_aload_n (pc := 273) (n := 0) (i := 0) rfl 0 rfl (htX16_told_1 (273, .aload_n 0, 1) (gx_m 27 rfl)) ?_
                                        refine gx_Jgs (pc := 274) (ci := 16) (kk := 105) (t2 := 102) (by decide) (by decide) rfl rfl rfl q1779 (htX16_told_1 (274, .getfield 288, 3) (gx_m 28 rfl)) ?_
                                        refine gx_iload (pc := 277) (i := 4) 2 rfl (htX16_told_1 (277, .iload 4, 2) (gx_m 29 rfl)) ?_
                                        refine gx_Jza (pc := 279) (htX16_told_1 (279, .baload, 1) (gx_m 30 rfl)) (fun v26 => ?_)
                                        refine gx_Jjoin (pcJ := 286) (lvJ := fun (j27 : Int32) => [(0, gx_r 17 (some x0)), (3, gx_i j27), (4, gx_i s25.2)]) (stJ := fun (j27 : Int32) => []) (fun _ => True) (fun j27 hj27 => ?_) (fun kk24 hj24 => ?_)
                                        · refine gx_iinc (pc := 286) (i := 4) (j := 2) (v := (s25.2 + 1)) (lv' := [(4, gx_i (s25.2 + 1)), (0, gx_r 17 (some x0)), (3, gx_i j27)]) rfl (gx_iv (by decide)) (by decide) rfl (htX16_told_1 (286, .iinc 4 1, 3) (gx_m 33 rfl)) ?_
                                          refine gx_goto (pc := 289) (tgt := 266) (by decide) (htX16_told_1 (289, .goto (-23), 3) (gx_m 34 rfl)) ?_
                                          refine gx_Jw (lv := [(0, gx_r 17 (some x0)), (3, gx_i j27), (4, gx_i (s25.2 + 1))]) [1, 2, 0] rfl ?_
                                          exact ha22 ((j27 : Int32), ((s25.2 + 1) : Int32))
                                        · refine gx_if_eq (pc := 280) (y := 0) (tgt := 286) (by decide) (htX16_told_1 (280, .ifCond .eq 6, 3) (gx_m 31 rfl)) (fun c25 => ?_) (fun c25 => ?_)
                                          · exact hj24 (s25.1 : Int32) trivial
                                          · refine gx_iinc (pc := 283) (i := 3) (j := 1) (v := (s25.1 + 1)) (lv' := [(3, gx_i (s25.1 + 1)), (0, gx_r 17 (some x0)), (4, gx_i s25.2)]) rfl (gx_iv (by decide)) (by decide) rfl (htX16_told_1 (283, .iinc 3 1, 3) (gx_m 32 rfl)) ?_
                                            refine gx_Jw (lv := [(0, gx_r 17 (some x0)), (3, gx_i (s25.1 + 1)), (4, gx_i s25.2)]) [1, 0, 2] rfl ?_
                                            exact hj24 ((s25.1 + 1) : Int32) trivial
      · refine gx_aload_n (pc := 48) (n := 0) (i := 0) rfl 0 rfl (htX16_told_0 (48, .aload_n 0, 1) (gx_m 27 rfl)) ?_
        refine gx_iload_n (pc := 49) (n := 1) (i := 1) rfl 1 rfl (htX16_told_0 (49, .iload_n 1, 1) (gx_m 28 rfl)) ?_
        refine gx_iload_n (pc := 50) (n := 2) (i := 2) rfl 2 rfl (htX16_told_0 (50, .iload_n 2, 1) (gx_m 29 rfl)) ?_
        refine gx_Jci (pc := 51) (gx_hst (as := [gx_i x1, gx_i x2]) (b := gx_r 17 (some x0))) (gx_runV (as := [gx_i x1, gx_i x2]) (ci := 16) (ct_X16_toldDown Y x0 x1 x2) (by decide) (Or.inl rfl) rfl rfl rfl rfl q2383 q2385 qs99 q117 q2386 rfl dd_X16_toldDown (by decide) (by decide) (Nat.le_of_ble_eq_true rfl) (htX16_told_0 (51, .invokevirtual 586, 3) (gx_m 30 rfl))) (fun v29 => ?_)
        exact gx_Jiret (pc := 54) rfl (fun _ => trivial) (fun _ _ => rfl) (htX16_told_0 (54, .ireturn, 1) (gx_m 31 rfl))
    · refine gx_if_lt (pc := 17) (y := 0) (tgt := 28) (by decide) (htX16_told_0 (17, .ifCond .lt 11, 3) (gx_m 10 rfl)) (fun c26 => ?_) (fun c26 => ?_)
      · exact hT2
      · refine gx_iload_n (pc := 20) (n := 1) (i := 1) rfl 1 rfl (htX16_told_0 (20, .iload_n 1, 1) (gx_m 11 rfl)) ?_
        refine gx_aload_n (pc := 21) (n := 0) (i := 0) rfl 0 rfl (htX16_told_0 (21, .aload_n 0, 1) (gx_m 12 rfl)) ?_
        refine gx_Jgi (pc := 22) (ci := 16) (kk := 29) (by decide) (Or.inl rfl) (by decide) (by decide) q1703 (htX16_told_0 (22, .getfield 315, 3) (gx_m 13 rfl)) (fun v3 hv3 => ?_)
        refine gx_icmp_lt (pc := 25) (tgt := 34) (by decide) (htX16_told_0 (25, .if_icmp .lt 9, 3) (gx_m 14 rfl)) (fun c27 => ?_) (fun c27 => ?_)
        · exact hE2
        · exact hT2
  · refine gx_if_lt (pc := 1) (y := 0) (tgt := 10) (by decide) (htX16_told_0 (1, .ifCond .lt 9, 3) (gx_m 1 rfl)) (fun c28 => ?_) (fun c28 => ?_)
    · exact hT1
    · refine gx_iload_n (pc := 4) (n := 2) (i := 2) rfl 2 rfl (htX16_told_0 (4, .iload_n 2, 1) (gx_m 2 rfl)) ?_
      refine gx_bipush (pc := 5) (v := 14) (by decide) (htX16_told_0 (5, .bipush 14, 2) (gx_m 3 rfl)) ?_
      refine gx_icmp_le (pc := 7) (tgt := 16) (by decide) (htX16_told_0 (7, .if_icmp .le 9, 3) (gx_m 4 rfl)) (fun c29 => ?_) (fun c29 => ?_)
      · exact hE1
      · exact hT1
theorem ct_X16_count (Y : gx_Y) (x0 : gx_Nm) (x1 : Int32) : gx_Ct Y yX16_count (ws_ yX16_count cX16_count 2 (some .int)) 1 100 [gx_r 17 (some x0), gx_i x1] gx_Oi (f_X16_count x0 x1) := by
  refine gx_start (lv := [(0, gx_r 17 (some x0)), (1, gx_i x1)]) gx_Oi_r pn_X16 (Nat.le_of_ble_eq_true rfl) rfl ?_
  unfold f_X16_count
  refine gx_aload_n (pc := 0) (n := 0) (i := 0) rfl 0 rfl (htX16_count (0, .aload_n 0, 1) (gx_m 0 rfl)) ?_
  refine gx_iconst (pc := 1) (v := 0) (by decide) (htX16_count (1, .iconst 0, 1) (gx_m 1 rfl)) ?_
  refine gx_Jpi (pc := 2) (ci := 16) (kk := 0) (by decide) (Or.inl rfl) (by decide) rfl rfl q1674 (Or.inl rfl) (htX16_count (2, .putfield 312, 3) (gx_m 2 rfl)) ?_
  refine gx_iload_n (pc := 5) (n := 1) (i := 1) rfl 1 rfl (htX16_count (5, .iload_n 1, 1) (gx_m 3 rfl)) ?_
  refine gx_Jite (fun c1 => ?_) (fun c1 => ?_)
  · refine gx_Jtab (pc := 6) (tgt := 48) (htX16_count (6, .tableswitch 99 0 6 #[42, 47, 52, 57, 62, 89, 94], 42) (gx_m 4 rfl)) (by decide) (gx_tD c1 (by decide)) (gx_tI c1 (by decide)) ?_
    refine gx_aload_n (pc := 48) (n := 0) (i := 0) rfl 0 rfl (htX16_count (48, .aload_n 0, 1) (gx_m 5 rfl)) ?_
    refine gx_Jgi (pc := 49) (ci := 16) (kk := 4) (by decide) (Or.inl rfl) (by decide) (by decide) q1678 (htX16_count (49, .getfield 358, 3) (gx_m 6 rfl)) (fun v1 hv1 => ?_)
    exact gx_Jiret (pc := 52) rfl (fun _ => trivial) (fun _ _ => rfl) (htX16_count (52, .ireturn, 1) (gx_m 7 rfl))
  · refine gx_Jite (fun c2 => ?_) (fun c2 => ?_)
    · refine gx_Jtab (pc := 6) (tgt := 53) (htX16_count (6, .tableswitch 99 0 6 #[42, 47, 52, 57, 62, 89, 94], 42) (gx_m 4 rfl)) (by decide) (gx_tD c2 (by decide)) (gx_tI c2 (by decide)) ?_
      refine gx_aload_n (pc := 53) (n := 0) (i := 0) rfl 0 rfl (htX16_count (53, .aload_n 0, 1) (gx_m 8 rfl)) ?_
      refine gx_Jgi (pc := 54) (ci := 16) (kk := 7) (by decide) (Or.inl rfl) (by decide) (by decide) q1681 (htX16_count (54, .getfield 361, 3) (gx_m 9 rfl)) (fun v2 hv2 => ?_)
      exact gx_Jiret (pc := 57) rfl (fun _ => trivial) (fun _ _ => rfl) (htX16_count (57, .ireturn, 1) (gx_m 10 rfl))
    · refine gx_Jite (fun c3 => ?_) (fun c3 => ?_)
      · refine gx_Jtab (pc := 6) (tgt := 58) (htX16_count (6, .tableswitch 99 0 6 #[42, 47, 52, 57, 62, 89, 94], 42) (gx_m 4 rfl)) (by decide) (gx_tD c3 (by decide)) (gx_tI c3 (by decide)) ?_
        refine gx_aload_n (pc := 58) (n := 0) (i := 0) rfl 0 rfl (htX16_count (58, .aload_n 0, 1) (gx_m 11 rfl)) ?_
        refine gx_Jgi (pc := 59) (ci := 16) (kk := 78) (by decide) (Or.inl rfl) (by decide) (by decide) q1752 (htX16_count (59, .getfield 333, 3) (gx_m 12 rfl)) (fun v3 hv3 => ?_)
        exact gx_Jiret (pc := 62) rfl (fun _ => trivial) (fun _ _ => rfl) (htX16_count (62, .ireturn, 1) (gx_m 13 rfl))
      · refine gx_Jite (fun c4 => ?_) (fun c4 => ?_)
        · refine gx_Jtab (pc := 6) (tgt := 63) (htX16_count (6, .tableswitch 99 0 6 #[42, 47, 52, 57, 62, 89, 94], 42) (gx_m 4 rfl)) (by decide) (gx_tD c4 (by decide)) (gx_tI c4 (by decide)) ?_
          refine gx_aload_n (pc := 63) (n := 0) (i := 0) rfl 0 rfl (htX16_count (63, .aload_n 0, 1) (gx_m 14 rfl)) ?_
          refine gx_Jgi (pc := 64) (ci := 16) (kk := 76) (by decide) (Or.inl rfl) (by decide) (by decide) q1750 (htX16_count (64, .getfield 330, 3) (gx_m 15 rfl)) (fun v4 hv4 => ?_)
          exact gx_Jiret (pc := 67) rfl (fun _ => trivial) (fun _ _ => rfl) (htX16_count (67, .ireturn, 1) (gx_m 16 rfl))
        · refine gx_Jite (fun c5 => ?_) (fun c5 => ?_)
          · refine gx_Jtab (pc := 6) (tgt := 68) (htX16_count (6, .tableswitch 99 0 6 #[42, 47, 52, 57, 62, 89, 94], 42) (gx_m 4 rfl)) (by decide) (gx_tD c5 (by decide)) (gx_tI c5 (by decide)) ?_
            refine gx_aload_n (pc := 68) (n := 0) (i := 0) rfl 0 rfl (htX16_count (68, .aload_n 0, 1) (gx_m 17 rfl)) ?_
            refine gx_Jgs (pc := 69) (ci := 16) (kk := 9) (t2 := 100) (by decide) (by decide) rfl rfl rfl q1683 (htX16_count (69, .getfield 23, 3) (gx_m 18 rfl)) ?_
            refine gx_sipush (pc := 72) (v := 1501) (by decide) (htX16_count (72, .sipush 1501, 3) (gx_m 19 rfl)) ?_
            refine gx_Jia (pc := 75) (htX16_count (75, .iaload, 1) (gx_m 20 rfl)) (fun v5 => ?_)
            refine gx_aload_n (pc := 76) (n := 0) (i := 0) rfl 0 rfl (htX16_count (76, .aload_n 0, 1) (gx_m 21 rfl)) ?_
            refine gx_Jgs (pc := 77) (ci := 16) (kk := 10) (t2 := 100) (by decide) (by decide) rfl rfl rfl q1684 (htX16_count (77, .getfield 26, 3) (gx_m 22 rfl)) ?_
            refine gx_sipush (pc := 80) (v := 1501) (by decide) (htX16_count (80, .sipush 1501, 3) (gx_m 23 rfl)) ?_
            refine gx_Jia (pc := 83) (htX16_count (83, .iaload, 1) (gx_m 24 rfl)) (fun v6 => ?_)
            refine gx_iadd (pc := 84) (htX16_count (84, .iadd, 1) (gx_m 25 rfl)) ?_
            refine gx_aload_n (pc := 85) (n := 0) (i := 0) rfl 0 rfl (htX16_count (85, .aload_n 0, 1) (gx_m 26 rfl)) ?_
            refine gx_Jgs (pc := 86) (ci := 16) (kk := 11) (t2 := 100) (by decide) (by decide) rfl rfl rfl q1685 (htX16_count (86, .getfield 29, 3) (gx_m 27 rfl)) ?_
            refine gx_sipush (pc := 89) (v := 1501) (by decide) (htX16_count (89, .sipush 1501, 3) (gx_m 28 rfl)) ?_
            refine gx_Jia (pc := 92) (htX16_count (92, .iaload, 1) (gx_m 29 rfl)) (fun v7 => ?_)
            refine gx_iadd (pc := 93) (htX16_count (93, .iadd, 1) (gx_m 30 rfl)) ?_
            exact gx_Jiret (pc := 94) rfl (fun _ => trivial) (fun _ _ => rfl) (htX16_count (94, .ireturn, 1) (gx_m 31 rfl))
          · refine gx_Jite (fun c6 => ?_) (fun c6 => ?_)
            · refine gx_Jtab (pc := 6) (tgt := 95) (htX16_count (6, .tableswitch 99 0 6 #[42, 47, 52, 57, 62, 89, 94], 42) (gx_m 4 rfl)) (by decide) (gx_tD c6 (by decide)) (gx_tI c6 (by decide)) ?_
              refine gx_aload_n (pc := 95) (n := 0) (i := 0) rfl 0 rfl (htX16_count (95, .aload_n 0, 1) (gx_m 32 rfl)) ?_
              refine gx_Jgi (pc := 96) (ci := 16) (kk := 20) (by decide) (Or.inl rfl) (by decide) (by decide) q1694 (htX16_count (96, .getfield 318, 3) (gx_m 33 rfl)) (fun v8 hv8 => ?_)
              exact gx_Jiret (pc := 99) rfl (fun _ => trivial) (fun _ _ => rfl) (htX16_count (99, .ireturn, 1) (gx_m 34 rfl))
            · refine gx_Jite (fun c7 => ?_) (fun c7 => ?_)
              · refine gx_Jtab (pc := 6) (tgt := 100) (htX16_count (6, .tableswitch 99 0 6 #[42, 47, 52, 57, 62, 89, 94], 42) (gx_m 4 rfl)) (by decide) (gx_tD c7 (by decide)) (gx_tI c7 (by decide)) ?_
                refine gx_aload_n (pc := 100) (n := 0) (i := 0) rfl 0 rfl (htX16_count (100, .aload_n 0, 1) (gx_m 35 rfl)) ?_
                refine gx_Jgi (pc := 101) (ci := 16) (kk := 96) (by decide) (Or.inl rfl) (by decide) (by decide) q1770 (htX16_count (101, .getfield 342, 3) (gx_m 36 rfl)) (fun v9 hv9 => ?_)
                exact gx_Jiret (pc := 104) rfl (fun _ => trivial) (fun _ _ => rfl) (htX16_count (104, .ireturn, 1) (gx_m 37 rfl))
              · refine gx_Jtab (pc := 6) (tgt := 105) (htX16_count (6, .tableswitch 99 0 6 #[42, 47, 52, 57, 62, 89, 94], 42) (gx_m 4 rfl)) (by decide) (fun _ => by decide) (gx_tN (ks := [0, 1, 2, 3, 4, 5, 6]) (by simp only [List.mem_cons, List.not_mem_nil, or_false, not_or]; exact ⟨c1, c2, c3, c4, c5, c6, c7⟩) (by decide)) ?_
                refine gx_iconst (pc := 105) (v := (-1)) (by decide) (htX16_count (105, .iconst (-1), 1) (gx_m 38 rfl)) ?_
                exact gx_Jiret (pc := 106) rfl (fun _ => trivial) (fun _ _ => rfl) (htX16_count (106, .ireturn, 1) (gx_m 39 rfl))
