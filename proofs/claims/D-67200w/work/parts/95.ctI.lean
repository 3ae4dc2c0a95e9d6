/-! ===== the machine does what f_y says (printed by gen/pprint.py) ===== -/
set_option maxRecDepth 100000
set_option maxHeartbeats 4000000
theorem ct_X16_init (Y : gx_Y) (x0 : gx_Nm) : gx_Ct Y yX16_init (ws_ yX16_init cX16_init 1 none) 1 100 [gx_r 46 (some x0)] gx_Ov (f_X16_init x0) := by
  refine gx_start (lv := [(0, gx_r 46 (some x0))]) gx_Ov_r pn_X16 (Nat.le_of_ble_eq_true rfl) rfl ?_
  unfold f_X16_init
  refine gx_aload_n (pc := 0) (n := 0) (i := 0) rfl 0 rfl (htX16_init_0 (0, .aload_n 0, 1) (gx_m 0 rfl)) ?_
  refine gx_Jobj (pc := 1) rfl q1665 q136 q137 (by decide) (Nat.le_of_ble_eq_true rfl) (htX16_init_0 (1, .invokespecial 3, 3) (gx_m 1 rfl)) ?_
  refine gx_aload_n (pc := 4) (n := 0) (i := 0) rfl 0 rfl (htX16_init_0 (4, .aload_n 0, 1) (gx_m 2 rfl)) ?_
  refine gx_sipush (pc := 5) (v := 2100) (by decide) (htX16_init_0 (5, .sipush 2100, 3) (gx_m 3 rfl)) ?_
  refine gx_Jna (pc := 8) (t := 1) (by decide) rfl rfl q168 (htX16_init_0 (8, .newarray .byte, 2) (gx_m 4 rfl)) ?_
  refine gx_Jpr (pc := 10) (ci := 16) (kk := 1) (by decide) (Or.inr rfl) (by decide) rfl rfl (by decide) (fun _ h => (Option.some.inj h).symm) (Or.inr ⟨_, rfl⟩) q1675 (Or.inr ⟨rfl, rfl, rfl⟩) (htX16_init_0 (10, .putfield 9, 3) (gx_m 5 rfl)) ?_
  refine gx_aload_n (pc := 13) (n := 0) (i := 0) rfl 0 rfl (htX16_init_0 (13, .aload_n 0, 1) (gx_m 6 rfl)) ?_
  refine gx_sipush (pc := 14) (v := 2100) (by decide) (htX16_init_0 (14, .sipush 2100, 3) (gx_m 7 rfl)) ?_
  refine gx_Jna (pc := 17) (t := 1) (by decide) rfl rfl q168 (htX16_init_0 (17, .newarray .byte, 2) (gx_m 8 rfl)) ?_
  refine gx_Jpr (pc := 19) (ci := 16) (kk := 2) (by decide) (Or.inr rfl) (by decide) rfl rfl (by decide) (fun _ h => (Option.some.inj h).symm) (Or.inr ⟨_, rfl⟩) q1676 (Or.inr ⟨rfl, rfl, rfl⟩) (htX16_init_0 (19, .putfield 13, 3) (gx_m 9 rfl)) ?_
  refine gx_aload_n (pc := 22) (n := 0) (i := 0) rfl 0 rfl (htX16_init_0 (22, .aload_n 0, 1) (gx_m 10 rfl)) ?_
  refine gx_sipush (pc := 23) (v := 2100) (by decide) (htX16_init_0 (23, .sipush 2100, 3) (gx_m 11 rfl)) ?_
  refine gx_Jna (pc := 26) (t := 1) (by decide) rfl rfl q168 (htX16_init_0 (26, .newarray .byte, 2) (gx_m 12 rfl)) ?_
  refine gx_Jpr (pc := 28) (ci := 16) (kk := 3) (by decide) (Or.inr rfl) (by decide) rfl rfl (by decide) (fun _ h => (Option.some.inj h).symm) (Or.inr ⟨_, rfl⟩) q1677 (Or.inr ⟨rfl, rfl, rfl⟩) (htX16_init_0 (28, .putfield 16, 3) (gx_m 13 rfl)) ?_
  refine gx_aload_n (pc := 31) (n := 0) (i := 0) rfl 0 rfl (htX16_init_0 (31, .aload_n 0, 1) (gx_m 14 rfl)) ?_
  refine gx_sipush (pc := 32) (v := 1502) (by decide) (htX16_init_0 (32, .sipush 1502, 3) (gx_m 15 rfl)) ?_
  refine gx_Jna (pc := 35) (t := 0) (by decide) rfl rfl q189 (htX16_init_0 (35, .newarray .int, 2) (gx_m 16 rfl)) ?_
  refine gx_Jpr (pc := 37) (ci := 16) (kk := 8) (by decide) (Or.inr rfl) (by decide) rfl rfl (by decide) (fun _ h => (Option.some.inj h).symm) (Or.inr ⟨_, rfl⟩) q1682 (Or.inr ⟨rfl, rfl, rfl⟩) (htX16_init_0 (37, .putfield 19, 3) (gx_m 17 rfl)) ?_
  refine gx_aload_n (pc := 40) (n := 0) (i := 0) rfl 0 rfl (htX16_init_0 (40, .aload_n 0, 1) (gx_m 18 rfl)) ?_
  refine gx_sipush (pc := 41) (v := 1502) (by decide) (htX16_init_0 (41, .sipush 1502, 3) (gx_m 19 rfl)) ?_
  refine gx_Jna (pc := 44) (t := 0) (by decide) rfl rfl q189 (htX16_init_0 (44, .newarray .int, 2) (gx_m 20 rfl)) ?_
  refine gx_Jpr (pc := 46) (ci := 16) (kk := 9) (by decide) (Or.inr rfl) (by decide) rfl rfl (by decide) (fun _ h => (Option.some.inj h).symm) (Or.inr ⟨_, rfl⟩) q1683 (Or.inr ⟨rfl, rfl, rfl⟩) (htX16_init_0 (46, .putfield 23, 3) (gx_m 21 rfl)) ?_
  refine gx_aload_n (pc := 49) (n := 0) (i := 0) rfl 0 rfl (htX16_init_0 (49, .aload_n 0, 1) (gx_m 22 rfl)) ?_
  refine gx_sipush (pc := 50) (v := 1502) (by decide) (htX16_init_0 (50, .sipush 1502, 3) (gx_m 23 rfl)) ?_
  refine gx_Jna (pc := 53) (t := 0) (by decide) rfl rfl q189 (htX16_init_0 (53, .newarray .int, 2) (gx_m 24 rfl)) ?_
  refine gx_Jpr (pc := 55) (ci := 16) (kk := 10) (by decide) (Or.inr rfl) (by decide) rfl rfl (by decide) (fun _ h => (Option.some.inj h).symm) (Or.inr ⟨_, rfl⟩) q1684 (Or.inr ⟨rfl, rfl, rfl⟩) (htX16_init_0 (55, .putfield 26, 3) (gx_m 25 rfl)) ?_
  refine gx_aload_n (pc := 58) (n := 0) (i := 0) rfl 0 rfl (htX16_init_0 (58, .aload_n 0, 1) (gx_m 26 rfl)) ?_
  refine gx_sipush (pc := 59) (v := 1502) (by decide) (htX16_init_0 (59, .sipush 1502, 3) (gx_m 27 rfl)) ?_
  refine gx_Jna (pc := 62) (t := 0) (by decide) rfl rfl q189 (htX16_init_0 (62, .newarray .int, 2) (gx_m 28 rfl)) ?_
  refine gx_Jpr (pc := 64) (ci := 16) (kk := 11) (by decide) (Or.inr rfl) (by decide) rfl rfl (by decide) (fun _ h => (Option.some.inj h).symm) (Or.inr ⟨_, rfl⟩) q1685 (Or.inr ⟨rfl, rfl, rfl⟩) (htX16_init_0 (64, .putfield 29, 3) (gx_m 29 rfl)) ?_
  refine gx_aload_n (pc := 67) (n := 0) (i := 0) rfl 0 rfl (htX16_init_0 (67, .aload_n 0, 1) (gx_m 30 rfl)) ?_
  refine gx_sipush (pc := 68) (v := 24032) (by decide) (htX16_init_0 (68, .sipush 24032, 3) (gx_m 31 rfl)) ?_
  refine gx_Jna (pc := 71) (t := 0) (by decide) rfl rfl q189 (htX16_init_0 (71, .newarray .int, 2) (gx_m 32 rfl)) ?_
  refine gx_Jpr (pc := 73) (ci := 16) (kk := 12) (by decide) (Or.inr rfl) (by decide) rfl rfl (by decide) (fun _ h => (Option.some.inj h).symm) (Or.inr ⟨_, rfl⟩) q1686 (Or.inr ⟨rfl, rfl, rfl⟩) (htX16_init_0 (73, .putfield 32, 3) (gx_m 33 rfl)) ?_
  refine gx_aload_n (pc := 76) (n := 0) (i := 0) rfl 0 rfl (htX16_init_0 (76, .aload_n 0, 1) (gx_m 34 rfl)) ?_
  refine gx_sipush (pc := 77) (v := 24032) (by decide) (htX16_init_0 (77, .sipush 24032, 3) (gx_m 35 rfl)) ?_
  refine gx_Jna (pc := 80) (t := 0) (by decide) rfl rfl q189 (htX16_init_0 (80, .newarray .int, 2) (gx_m 36 rfl)) ?_
  refine gx_Jpr (pc := 82) (ci := 16) (kk := 13) (by decide) (Or.inr rfl) (by decide) rfl rfl (by decide) (fun _ h => (Option.some.inj h).symm) (Or.inr ⟨_, rfl⟩) q1687 (Or.inr ⟨rfl, rfl, rfl⟩) (htX16_init_0 (82, .putfield 35, 3) (gx_m 37 rfl)) ?_
  refine gx_aload_n (pc := 85) (n := 0) (i := 0) rfl 0 rfl (htX16_init_0 (85, .aload_n 0, 1) (gx_m 38 rfl)) ?_
  refine gx_sipush (pc := 86) (v := 24032) (by decide) (htX16_init_0 (86, .sipush 24032, 3) (gx_m 39 rfl)) ?_
  refine gx_Jna (pc := 89) (t := 0) (by decide) rfl rfl q189 (htX16_init_0 (89, .newarray .int, 2) (gx_m 40 rfl)) ?_
  refine gx_Jpr (pc := 91) (ci := 16) (kk := 14) (by decide) (Or.inr rfl) (by decide) rfl rfl (by decide) (fun _ h => (Option.some.inj h).symm) (Or.inr ⟨_, rfl⟩) q1688 (Or.inr ⟨rfl, rfl, rfl⟩) (htX16_init_0 (91, .putfield 38, 3) (gx_m 41 rfl)) ?_
  refine gx_aload_n (pc := 94) (n := 0) (i := 0) rfl 0 rfl (htX16_init_0 (94, .aload_n 0, 1) (gx_m 42 rfl)) ?_
  refine gx_sipush (pc := 95) (v := 24032) (by decide) (htX16_init_0 (95, .sipush 24032, 3) (gx_m 43 rfl)) ?_
  refine gx_Jna (pc := 98) (t := 0) (by decide) rfl rfl q189 (htX16_init_0 (98, .newarray .int, 2) (gx_m 44 rfl)) ?_
  refine gx_Jpr (pc := 100) (ci := 16) (kk := 15) (by decide) (Or.inr rfl) (by decide) rfl rfl (by decide) (fun _ h => (Option.some.inj h).symm) (Or.inr ⟨_, rfl⟩) q1689 (Or.inr ⟨rfl, rfl, rfl⟩) (htX16_init_0 (100, .putfield 41, 3) (gx_m 45 rfl)) ?_
  refine gx_aload_n (pc := 103) (n := 0) (i := 0) rfl 0 rfl (htX16_init_0 (103, .aload_n 0, 1) (gx_m 46 rfl)) ?_
  refine gx_sipush (pc := 104) (v := 24032) (by decide) (htX16_init_0 (104, .sipush 24032, 3) (gx_m 47 rfl)) ?_
  refine gx_Jna (pc := 107) (t := 0) (by decide) rfl rfl q189 (htX16_init_0 (107, .newarray .int, 2) (gx_m 48 rfl)) ?_
  refine gx_Jpr (pc := 109) (ci := 16) (kk := 16) (by decide) (Or.inr rfl) (by decide) rfl rfl (by decide) (fun _ h => (Option.some.inj h).symm) (Or.inr ⟨_, rfl⟩) q1690 (Or.inr ⟨rfl, rfl, rfl⟩) (htX16_init_0 (109, .putfield 44, 3) (gx_m 49 rfl)) ?_
  refine gx_aload_n (pc := 112) (n := 0) (i := 0) rfl 0 rfl (htX16_init_0 (112, .aload_n 0, 1) (gx_m 50 rfl)) ?_
  refine gx_sipush (pc := 113) (v := 24032) (by decide) (htX16_init_0 (113, .sipush 24032, 3) (gx_m 51 rfl)) ?_
  refine gx_Jna (pc := 116) (t := 0) (by decide) rfl rfl q189 (htX16_init_0 (116, .newarray .int, 2) (gx_m 52 rfl)) ?_
  refine gx_Jpr (pc := 118) (ci := 16) (kk := 17) (by decide) (Or.inr rfl) (by decide) rfl rfl (by decide) (fun _ h => (Option.some.inj h).symm) (Or.inr ⟨_, rfl⟩) q1691 (Or.inr ⟨rfl, rfl, rfl⟩) (htX16_init_0 (118, .putfield 47, 3) (gx_m 53 rfl)) ?_
  refine gx_aload_n (pc := 121) (n := 0) (i := 0) rfl 0 rfl (htX16_init_0 (121, .aload_n 0, 1) (gx_m 54 rfl)) ?_
  refine gx_sipush (pc := 122) (v := 24032) (by decide) (htX16_init_0 (122, .sipush 24032, 3) (gx_m 55 rfl)) ?_
  refine gx_Jna (pc := 125) (t := 0) (by decide) rfl rfl q189 (htX16_init_0 (125, .newarray .int, 2) (gx_m 56 rfl)) ?_
  refine gx_Jpr (pc := 127) (ci := 16) (kk := 18) (by decide) (Or.inr rfl) (by decide) rfl rfl (by decide) (fun _ h => (Option.some.inj h).symm) (Or.inr ⟨_, rfl⟩) q1692 (Or.inr ⟨rfl, rfl, rfl⟩) (htX16_init_0 (127, .putfield 50, 3) (gx_m 57 rfl)) ?_
  refine gx_aload_n (pc := 130) (n := 0) (i := 0) rfl 0 rfl (htX16_init_0 (130, .aload_n 0, 1) (gx_m 58 rfl)) ?_
  refine gx_ldc (pc := 131) (v := 44000) rfl q1666 (htX16_init_0 (131, .ldc 53, 2) (gx_m 59 rfl)) ?_
  refine gx_Jna (pc := 133) (t := 1) (by decide) rfl rfl q168 (htX16_init_0 (133, .newarray .byte, 2) (gx_m 60 rfl)) ?_
  refine gx_Jpr (pc := 135) (ci := 16) (kk := 19) (by decide) (Or.inr rfl) (by decide) rfl rfl (by decide) (fun _ h => (Option.some.inj h).symm) (Or.inr ⟨_, rfl⟩) q1693 (Or.inr ⟨rfl, rfl, rfl⟩) (htX16_init_0 (135, .putfield 54, 3) (gx_m 61 rfl)) ?_
  refine gx_aload_n (pc := 138) (n := 0) (i := 0) rfl 0 rfl (htX16_init_0 (138, .aload_n 0, 1) (gx_m 62 rfl)) ?_
  refine gx_sipush (pc := 139) (v := 4000) (by decide) (htX16_init_0 (139, .sipush 4000, 3) (gx_m 63 rfl)) ?_
  refine gx_Jna (pc := 142) (t := 1) (by decide) rfl rfl q168 (htX16_init_0 (142, .newarray .byte, 2) (gx_m 64 rfl)) ?_
  refine gx_Jpr (pc := 144) (ci := 16) (kk := 23) (by decide) (Or.inr rfl) (by decide) rfl rfl (by decide) (fun _ h => (Option.some.inj h).symm) (Or.inr ⟨_, rfl⟩) q1697 (Or.inr ⟨rfl, rfl, rfl⟩) (htX16_init_0 (144, .putfield 57, 3) (gx_m 65 rfl)) ?_
  refine gx_aload_n (pc := 147) (n := 0) (i := 0) rfl 0 rfl (htX16_init_0 (147, .aload_n 0, 1) (gx_m 66 rfl)) ?_
  refine gx_sipush (pc := 148) (v := 24000) (by decide) (htX16_init_0 (148, .sipush 24000, 3) (gx_m 67 rfl)) ?_
  refine gx_Jna (pc := 151) (t := 0) (by decide) rfl rfl q189 (htX16_init_0 (151, .newarray .int, 2) (gx_m 68 rfl)) ?_
  refine gx_Jpr (pc := 153) (ci := 16) (kk := 24) (by decide) (Or.inr rfl) (by decide) rfl rfl (by decide) (fun _ h => (Option.some.inj h).symm) (Or.inr ⟨_, rfl⟩) q1698 (Or.inr ⟨rfl, rfl, rfl⟩) (htX16_init_0 (153, .putfield 60, 3) (gx_m 69 rfl)) ?_
  refine gx_aload_n (pc := 156) (n := 0) (i := 0) rfl 0 rfl (htX16_init_0 (156, .aload_n 0, 1) (gx_m 70 rfl)) ?_
  refine gx_sipush (pc := 157) (v := 24000) (by decide) (htX16_init_0 (157, .sipush 24000, 3) (gx_m 71 rfl)) ?_
  refine gx_Jna (pc := 160) (t := 0) (by decide) rfl rfl q189 (htX16_init_0 (160, .newarray .int, 2) (gx_m 72 rfl)) ?_
  refine gx_Jpr (pc := 162) (ci := 16) (kk := 25) (by decide) (Or.inr rfl) (by decide) rfl rfl (by decide) (fun _ h => (Option.some.inj h).symm) (Or.inr ⟨_, rfl⟩) q1699 (Or.inr ⟨rfl, rfl, rfl⟩) (htX16_init_0 (162, .putfield 63, 3) (gx_m 73 rfl)) ?_
  refine gx_aload_n (pc := 165) (n := 0) (i := 0) rfl 0 rfl (htX16_init_0 (165, .aload_n 0, 1) (gx_m 74 rfl)) ?_
  refine gx_sipush (pc := 166) (v := 24000) (by decide) (htX16_init_0 (166, .sipush 24000, 3) (gx_m 75 rfl)) ?_
  refine gx_Jna (pc := 169) (t := 0) (by decide) rfl rfl q189 (htX16_init_0 (169, .newarray .int, 2) (gx_m 76 rfl)) ?_
  refine gx_Jpr (pc := 171) (ci := 16) (kk := 26) (by decide) (Or.inr rfl) (by decide) rfl rfl (by decide) (fun _ h => (Option.some.inj h).symm) (Or.inr ⟨_, rfl⟩) q1700 (Or.inr ⟨rfl, rfl, rfl⟩) (htX16_init_0 (171, .putfield 66, 3) (gx_m 77 rfl)) ?_
  refine gx_aload_n (pc := 174) (n := 0) (i := 0) rfl 0 rfl (htX16_init_0 (174, .aload_n 0, 1) (gx_m 78 rfl)) ?_
  refine gx_iconst (pc := 175) (v := 1) (by decide) (htX16_init_0 (175, .iconst 1, 1) (gx_m 79 rfl)) ?_
  refine gx_Jpi (pc := 176) (ci := 16) (kk := 27) (by decide) (Or.inr rfl) (by decide) rfl rfl q1701 (Or.inl rfl) (htX16_init_0 (176, .putfield 69, 3) (gx_m 80 rfl)) ?_
  refine gx_aload_n (pc := 179) (n := 0) (i := 0) rfl 0 rfl (htX16_init_0 (179, .aload_n 0, 1) (gx_m 81 rfl)) ?_
  refine gx_sipush (pc := 180) (v := 1502) (by decide) (htX16_init_0 (180, .sipush 1502, 3) (gx_m 82 rfl)) ?_
  refine gx_Jna (pc := 183) (t := 0) (by decide) rfl rfl q189 (htX16_init_0 (183, .newarray .int, 2) (gx_m 83 rfl)) ?_
  refine gx_Jpr (pc := 185) (ci := 16) (kk := 28) (by decide) (Or.inr rfl) (by decide) rfl rfl (by decide) (fun _ h => (Option.some.inj h).symm) (Or.inr ⟨_, rfl⟩) q1702 (Or.inr ⟨rfl, rfl, rfl⟩) (htX16_init_0 (185, .putfield 73, 3) (gx_m 84 rfl)) ?_
  refine gx_aload_n (pc := 188) (n := 0) (i := 0) rfl 0 rfl (htX16_init_0 (188, .aload_n 0, 1) (gx_m 85 rfl)) ?_
  refine gx_bipush (pc := 189) (v := 7) (by decide) (htX16_init_0 (189, .bipush 7, 2) (gx_m 86 rfl)) ?_
  refine gx_Jna (pc := 191) (t := 2) (by decide) rfl rfl q2041 (htX16_init_0 (191, .newarray .boolean, 2) (gx_m 87 rfl)) ?_
  refine gx_Jpr (pc := 193) (ci := 16) (kk := 30) (by decide) (Or.inr rfl) (by decide) rfl rfl (by decide) (fun _ h => (Option.some.inj h).symm) (Or.inr ⟨_, rfl⟩) q1704 (Or.inr ⟨rfl, rfl, rfl⟩) (htX16_init_0 (193, .putfield 76, 3) (gx_m 88 rfl)) ?_
  refine gx_aload_n (pc := 196) (n := 0) (i := 0) rfl 0 rfl (htX16_init_0 (196, .aload_n 0, 1) (gx_m 89 rfl)) ?_
  refine gx_bipush (pc := 197) (v := 7) (by decide) (htX16_init_0 (197, .bipush 7, 2) (gx_m 90 rfl)) ?_
  refine gx_Jna (pc := 199) (t := 0) (by decide) rfl rfl q189 (htX16_init_0 (199, .newarray .int, 2) (gx_m 91 rfl)) ?_
  refine gx_Jpr (pc := 201) (ci := 16) (kk := 31) (by decide) (Or.inr rfl) (by decide) rfl rfl (by decide) (fun _ h => (Option.some.inj h).symm) (Or.inr ⟨_, rfl⟩) q1705 (Or.inr ⟨rfl, rfl, rfl⟩) (htX16_init_0 (201, .putfield 80, 3) (gx_m 92 rfl)) ?_
  refine gx_aload_n (pc := 204) (n := 0) (i := 0) rfl 0 rfl (htX16_init_0 (204, .aload_n 0, 1) (gx_m 93 rfl)) ?_
  refine gx_bipush (pc := 205) (v := 7) (by decide) (htX16_init_0 (205, .bipush 7, 2) (gx_m 94 rfl)) ?_
  refine gx_Jna (pc := 207) (t := 0) (by decide) rfl rfl q189 (htX16_init_0 (207, .newarray .int, 2) (gx_m 95 rfl)) ?_
  refine gx_Jpr (pc := 209) (ci := 16) (kk := 32) (by decide) (Or.inr rfl) (by decide) rfl rfl (by decide) (fun _ h => (Option.some.inj h).symm) (Or.inr ⟨_, rfl⟩) q1706 (Or.inr ⟨rfl, rfl, rfl⟩) (htX16_init_0 (209, .putfield 83, 3) (gx_m 96 rfl)) ?_
  refine gx_aload_n (pc := 212) (n := 0) (i := 0) rfl 0 rfl (htX16_init_0 (212, .aload_n 0, 1) (gx_m 97 rfl)) ?_
  refine gx_bipush (pc := 213) (v := 7) (by decide) (htX16_init_0 (213, .bipush 7, 2) (gx_m 98 rfl)) ?_
  refine gx_Jna (pc := 215) (t := 0) (by decide) rfl rfl q189 (htX16_init_0 (215, .newarray .int, 2) (gx_m 99 rfl)) ?_
  refine gx_Jpr (pc := 217) (ci := 16) (kk := 33) (by decide) (Or.inr rfl) (by decide) rfl rfl (by decide) (fun _ h => (Option.some.inj h).symm) (Or.inr ⟨_, rfl⟩) q1707 (Or.inr ⟨rfl, rfl, rfl⟩) (htX16_init_1 (217, .putfield 86, 3) (gx_m 0 rfl)) ?_
  refine gx_aload_n (pc := 220) (n := 0) (i := 0) rfl 0 rfl (htX16_init_1 (220, .aload_n 0, 1) (gx_m 1 rfl)) ?_
  refine gx_bipush (pc := 221) (v := 7) (by decide) (htX16_init_1 (221, .bipush 7, 2) (gx_m 2 rfl)) ?_
  refine gx_Jna (pc := 223) (t := 0) (by decide) rfl rfl q189 (htX16_init_1 (223, .newarray .int, 2) (gx_m 3 rfl)) ?_
  refine gx_Jpr (pc := 225) (ci := 16) (kk := 34) (by decide) (Or.inr rfl) (by decide) rfl rfl (by decide) (fun _ h => (Option.some.inj h).symm) (Or.inr ⟨_, rfl⟩) q1708 (Or.inr ⟨rfl, rfl, rfl⟩) (htX16_init_1 (225, .putfield 89, 3) (gx_m 4 rfl)) ?_
  refine gx_aload_n (pc := 228) (n := 0) (i := 0) rfl 0 rfl (htX16_init_1 (228, .aload_n 0, 1) (gx_m 5 rfl)) ?_
  refine gx_bipush (pc := 229) (v := 7) (by decide) (htX16_init_1 (229, .bipush 7, 2) (gx_m 6 rfl)) ?_
  refine gx_Jna (pc := 231) (t := 0) (by decide) rfl rfl q189 (htX16_init_1 (231, .newarray .int, 2) (gx_m 7 rfl)) ?_
  refine gx_Jpr (pc := 233) (ci := 16) (kk := 35) (by decide) (Or.inr rfl) (by decide) rfl rfl (by decide) (fun _ h => (Option.some.inj h).symm) (Or.inr ⟨_, rfl⟩) q1709 (Or.inr ⟨rfl, rfl, rfl⟩) (htX16_init_1 (233, .putfield 92, 3) (gx_m 8 rfl)) ?_
  refine gx_aload_n (pc := 236) (n := 0) (i := 0) rfl 0 rfl (htX16_init_1 (236, .aload_n 0, 1) (gx_m 9 rfl)) ?_
  refine gx_bipush (pc := 237) (v := 7) (by decide) (htX16_init_1 (237, .bipush 7, 2) (gx_m 10 rfl)) ?_
  refine gx_Jna (pc := 239) (t := 0) (by decide) rfl rfl q189 (htX16_init_1 (239, .newarray .int, 2) (gx_m 11 rfl)) ?_
  refine gx_Jpr (pc := 241) (ci := 16) (kk := 36) (by decide) (Or.inr rfl) (by decide) rfl rfl (by decide) (fun _ h => (Option.some.inj h).symm) (Or.inr ⟨_, rfl⟩) q1710 (Or.inr ⟨rfl, rfl, rfl⟩) (htX16_init_1 (241, .putfield 95, 3) (gx_m 12 rfl)) ?_
  refine gx_aload_n (pc := 244) (n := 0) (i := 0) rfl 0 rfl (htX16_init_1 (244, .aload_n 0, 1) (gx_m 13 rfl)) ?_
  refine gx_bipush (pc := 245) (v := 7) (by decide) (htX16_init_1 (245, .bipush 7, 2) (gx_m 14 rfl)) ?_
  refine gx_sipush (pc := 247) (v := 1502) (by decide) (htX16_init_1 (247, .sipush 1502, 3) (gx_m 15 rfl)) ?_
  refine gx_Jn2 (pc := 250) (t := 5) (t2 := 0) (by decide) (by decide) (by decide) rfl rfl rfl (by decide) (by decide) rfl rfl (by decide) (by decide) rfl q1667 q1668 q189 (htX16_init_1 (250, .multianewarray 98 2, 4) (gx_m 16 rfl)) ?_
  refine gx_Jpr (pc := 254) (ci := 16) (kk := 37) (by decide) (Or.inr rfl) (by decide) rfl rfl (by decide) (fun _ h => (Option.some.inj h).symm) (Or.inr ⟨_, rfl⟩) q1711 (Or.inr ⟨rfl, rfl, rfl⟩) (htX16_init_1 (254, .putfield 100, 3) (gx_m 17 rfl)) ?_
  refine gx_aload_n (pc := 257) (n := 0) (i := 0) rfl 0 rfl (htX16_init_1 (257, .aload_n 0, 1) (gx_m 18 rfl)) ?_
  refine gx_bipush (pc := 258) (v := 7) (by decide) (htX16_init_1 (258, .bipush 7, 2) (gx_m 19 rfl)) ?_
  refine gx_Jna (pc := 260) (t := 0) (by decide) rfl rfl q189 (htX16_init_1 (260, .newarray .int, 2) (gx_m 20 rfl)) ?_
  refine gx_Jpr (pc := 262) (ci := 16) (kk := 38) (by decide) (Or.inr rfl) (by decide) rfl rfl (by decide) (fun _ h => (Option.some.inj h).symm) (Or.inr ⟨_, rfl⟩) q1712 (Or.inr ⟨rfl, rfl, rfl⟩) (htX16_init_1 (262, .putfield 103, 3) (gx_m 21 rfl)) ?_
  refine gx_aload_n (pc := 265) (n := 0) (i := 0) rfl 0 rfl (htX16_init_1 (265, .aload_n 0, 1) (gx_m 22 rfl)) ?_
  refine gx_bipush (pc := 266) (v := 7) (by decide) (htX16_init_1 (266, .bipush 7, 2) (gx_m 23 rfl)) ?_
  refine gx_Jna (pc := 268) (t := 0) (by decide) rfl rfl q189 (htX16_init_1 (268, .newarray .int, 2) (gx_m 24 rfl)) ?_
  refine gx_Jpr (pc := 270) (ci := 16) (kk := 39) (by decide) (Or.inr rfl) (by decide) rfl rfl (by decide) (fun _ h => (Option.some.inj h).symm) (Or.inr ⟨_, rfl⟩) q1713 (Or.inr ⟨rfl, rfl, rfl⟩) (htX16_init_1 (270, .putfield 106, 3) (gx_m 25 rfl)) ?_
  refine gx_aload_n (pc := 273) (n := 0) (i := 0) rfl 0 rfl (htX16_init_1 (273, .aload_n 0, 1) (gx_m 26 rfl)) ?_
  refine gx_bipush (pc := 274) (v := 7) (by decide) (htX16_init_1 (274, .bipush 7, 2) (gx_m 27 rfl)) ?_
  refine gx_Jna (pc := 276) (t := 0) (by decide) rfl rfl q189 (htX16_init_1 (276, .newarray .int, 2) (gx_m 28 rfl)) ?_
  refine gx_Jpr (pc := 278) (ci := 16) (kk := 40) (by decide) (Or.inr rfl) (by decide) rfl rfl (by decide) (fun _ h => (Option.some.inj h).symm) (Or.inr ⟨_, rfl⟩) q1714 (Or.inr ⟨rfl, rfl, rfl⟩) (htX16_init_1 (278, .putfield 109, 3) (gx_m 29 rfl)) ?_
  refine gx_aload_n (pc := 281) (n := 0) (i := 0) rfl 0 rfl (htX16_init_1 (281, .aload_n 0, 1) (gx_m 30 rfl)) ?_
  refine gx_bipush (pc := 282) (v := 7) (by decide) (htX16_init_1 (282, .bipush 7, 2) (gx_m 31 rfl)) ?_
  refine gx_Jna (pc := 284) (t := 0) (by decide) rfl rfl q189 (htX16_init_1 (284, .newarray .int, 2) (gx_m 32 rfl)) ?_
  refine gx_Jpr (pc := 286) (ci := 16) (kk := 41) (by decide) (Or.inr rfl) (by decide) rfl rfl (by decide) (fun _ h => (Option.some.inj h).symm) (Or.inr ⟨_, rfl⟩) q1715 (Or.inr ⟨rfl, rfl, rfl⟩) (htX16_init_1 (286, .putfield 112, 3) (gx_m 33 rfl)) ?_
  refine gx_aload_n (pc := 289) (n := 0) (i := 0) rfl 0 rfl (htX16_init_1 (289, .aload_n 0, 1) (gx_m 34 rfl)) ?_
  refine gx_bipush (pc := 290) (v := 7) (by decide) (htX16_init_1 (290, .bipush 7, 2) (gx_m 35 rfl)) ?_
  refine gx_Jna (pc := 292) (t := 0) (by decide) rfl rfl q189 (htX16_init_1 (292, .newarray .int, 2) (gx_m 36 rfl)) ?_
  refine gx_Jpr (pc := 294) (ci := 16) (kk := 42) (by decide) (Or.inr rfl) (by decide) rfl rfl (by decide) (fun _ h => (Option.some.inj h).symm) (Or.inr ⟨_, rfl⟩) q1716 (Or.inr ⟨rfl, rfl, rfl⟩) (htX16_init_1 (294, .putfield 115, 3) (gx_m 37 rfl)) ?_
  refine gx_aload_n (pc := 297) (n := 0) (i := 0) rfl 0 rfl (htX16_init_1 (297, .aload_n 0, 1) (gx_m 38 rfl)) ?_
  refine gx_bipush (pc := 298) (v := 7) (by decide) (htX16_init_1 (298, .bipush 7, 2) (gx_m 39 rfl)) ?_
  refine gx_Jna (pc := 300) (t := 0) (by decide) rfl rfl q189 (htX16_init_1 (300, .newarray .int, 2) (gx_m 40 rfl)) ?_
  refine gx_Jpr (pc := 302) (ci := 16) (kk := 43) (by decide) (Or.inr rfl) (by decide) rfl rfl (by decide) (fun _ h => (Option.some.inj h).symm) (Or.inr ⟨_, rfl⟩) q1717 (Or.inr ⟨rfl, rfl, rfl⟩) (htX16_init_1 (302, .putfield 118, 3) (gx_m 41 rfl)) ?_
  refine gx_aload_n (pc := 305) (n := 0) (i := 0) rfl 0 rfl (htX16_init_1 (305, .aload_n 0, 1) (gx_m 42 rfl)) ?_
  refine gx_bipush (pc := 306) (v := 7) (by decide) (htX16_init_1 (306, .bipush 7, 2) (gx_m 43 rfl)) ?_
  refine gx_sipush (pc := 308) (v := 1502) (by decide) (htX16_init_1 (308, .sipush 1502, 3) (gx_m 44 rfl)) ?_
  refine gx_Jn2 (pc := 311) (t := 5) (t2 := 0) (by decide) (by decide) (by decide) rfl rfl rfl (by decide) (by decide) rfl rfl (by decide) (by decide) rfl q1667 q1668 q189 (htX16_init_1 (311, .multianewarray 98 2, 4) (gx_m 45 rfl)) ?_
  refine gx_Jpr (pc := 315) (ci := 16) (kk := 44) (by decide) (Or.inr rfl) (by decide) rfl rfl (by decide) (fun _ h => (Option.some.inj h).symm) (Or.inr ⟨_, rfl⟩) q1718 (Or.inr ⟨rfl, rfl, rfl⟩) (htX16_init_1 (315, .putfield 121, 3) (gx_m 46 rfl)) ?_
  refine gx_aload_n (pc := 318) (n := 0) (i := 0) rfl 0 rfl (htX16_init_1 (318, .aload_n 0, 1) (gx_m 47 rfl)) ?_
  refine gx_bipush (pc := 319) (v := 7) (by decide) (htX16_init_1 (319, .bipush 7, 2) (gx_m 48 rfl)) ?_
  refine gx_Jna (pc := 321) (t := 0) (by decide) rfl rfl q189 (htX16_init_1 (321, .newarray .int, 2) (gx_m 49 rfl)) ?_
  refine gx_Jpr (pc := 323) (ci := 16) (kk := 45) (by decide) (Or.inr rfl) (by decide) rfl rfl (by decide) (fun _ h => (Option.some.inj h).symm) (Or.inr ⟨_, rfl⟩) q1719 (Or.inr ⟨rfl, rfl, rfl⟩) (htX16_init_1 (323, .putfield 124, 3) (gx_m 50 rfl)) ?_
  refine gx_aload_n (pc := 326) (n := 0) (i := 0) rfl 0 rfl (htX16_init_1 (326, .aload_n 0, 1) (gx_m 51 rfl)) ?_
  refine gx_bipush (pc := 327) (v := 7) (by decide) (htX16_init_1 (327, .bipush 7, 2) (gx_m 52 rfl)) ?_
  refine gx_Jna (pc := 329) (t := 0) (by decide) rfl rfl q189 (htX16_init_1 (329, .newarray .int, 2) (gx_m 53 rfl)) ?_
  refine gx_Jpr (pc := 331) (ci := 16) (kk := 46) (by decide) (Or.inr rfl) (by decide) rfl rfl (by decide) (fun _ h => (Option.some.inj h).symm) (Or.inr ⟨_, rfl⟩) q1720 (Or.inr ⟨rfl, rfl, rfl⟩) (htX16_init_1 (331, .putfield 127, 3) (gx_m 54 rfl)) ?_
  refine gx_aload_n (pc := 334) (n := 0) (i := 0) rfl 0 rfl (htX16_init_1 (334, .aload_n 0, 1) (gx_m 55 rfl)) ?_
  refine gx_bipush (pc := 335) (v := 7) (by decide) (htX16_init_1 (335, .bipush 7, 2) (gx_m 56 rfl)) ?_
  refine gx_Jna (pc := 337) (t := 0) (by decide) rfl rfl q189 (htX16_init_1 (337, .newarray .int, 2) (gx_m 57 rfl)) ?_
  refine gx_Jpr (pc := 339) (ci := 16) (kk := 47) (by decide) (Or.inr rfl) (by decide) rfl rfl (by decide) (fun _ h => (Option.some.inj h).symm) (Or.inr ⟨_, rfl⟩) q1721 (Or.inr ⟨rfl, rfl, rfl⟩) (htX16_init_1 (339, .putfield 130, 3) (gx_m 58 rfl)) ?_
  refine gx_aload_n (pc := 342) (n := 0) (i := 0) rfl 0 rfl (htX16_init_1 (342, .aload_n 0, 1) (gx_m 59 rfl)) ?_
  refine gx_bipush (pc := 343) (v := 7) (by decide) (htX16_init_1 (343, .bipush 7, 2) (gx_m 60 rfl)) ?_
  refine gx_Jna (pc := 345) (t := 0) (by decide) rfl rfl q189 (htX16_init_1 (345, .newarray .int, 2) (gx_m 61 rfl)) ?_
  refine gx_Jpr (pc := 347) (ci := 16) (kk := 48) (by decide) (Or.inr rfl) (by decide) rfl rfl (by decide) (fun _ h => (Option.some.inj h).symm) (Or.inr ⟨_, rfl⟩) q1722 (Or.inr ⟨rfl, rfl, rfl⟩) (htX16_init_1 (347, .putfield 133, 3) (gx_m 62 rfl)) ?_
  refine gx_aload_n (pc := 350) (n := 0) (i := 0) rfl 0 rfl (htX16_init_1 (350, .aload_n 0, 1) (gx_m 63 rfl)) ?_
  refine gx_bipush (pc := 351) (v := 7) (by decide) (htX16_init_1 (351, .bipush 7, 2) (gx_m 64 rfl)) ?_
  refine gx_Jna (pc := 353) (t := 0) (by decide) rfl rfl q189 (htX16_init_1 (353, .newarray .int, 2) (gx_m 65 rfl)) ?_
  refine gx_Jpr (pc := 355) (ci := 16) (kk := 49) (by decide) (Or.inr rfl) (by decide) rfl rfl (by decide) (fun _ h => (Option.some.inj h).symm) (Or.inr ⟨_, rfl⟩) q1723 (Or.inr ⟨rfl, rfl, rfl⟩) (htX16_init_1 (355, .putfield 136, 3) (gx_m 66 rfl)) ?_
  refine gx_aload_n (pc := 358) (n := 0) (i := 0) rfl 0 rfl (htX16_init_1 (358, .aload_n 0, 1) (gx_m 67 rfl)) ?_
  refine gx_bipush (pc := 359) (v := 7) (by decide) (htX16_init_1 (359, .bipush 7, 2) (gx_m 68 rfl)) ?_
  refine gx_Jna (pc := 361) (t := 0) (by decide) rfl rfl q189 (htX16_init_1 (361, .newarray .int, 2) (gx_m 69 rfl)) ?_
  refine gx_Jpr (pc := 363) (ci := 16) (kk := 50) (by decide) (Or.inr rfl) (by decide) rfl rfl (by decide) (fun _ h => (Option.some.inj h).symm) (Or.inr ⟨_, rfl⟩) q1724 (Or.inr ⟨rfl, rfl, rfl⟩) (htX16_init_1 (363, .putfield 139, 3) (gx_m 70 rfl)) ?_
  refine gx_aload_n (pc := 366) (n := 0) (i := 0) rfl 0 rfl (htX16_init_1 (366, .aload_n 0, 1) (gx_m 71 rfl)) ?_
  refine gx_bipush (pc := 367) (v := 7) (by decide) (htX16_init_1 (367, .bipush 7, 2) (gx_m 72 rfl)) ?_
  refine gx_Jna (pc := 369) (t := 0) (by decide) rfl rfl q189 (htX16_init_1 (369, .newarray .int, 2) (gx_m 73 rfl)) ?_
  refine gx_Jpr (pc := 371) (ci := 16) (kk := 51) (by decide) (Or.inr rfl) (by decide) rfl rfl (by decide) (fun _ h => (Option.some.inj h).symm) (Or.inr ⟨_, rfl⟩) q1725 (Or.inr ⟨rfl, rfl, rfl⟩) (htX16_init_1 (371, .putfield 142, 3) (gx_m 74 rfl)) ?_
  refine gx_aload_n (pc := 374) (n := 0) (i := 0) rfl 0 rfl (htX16_init_1 (374, .aload_n 0, 1) (gx_m 75 rfl)) ?_
  refine gx_bipush (pc := 375) (v := 7) (by decide) (htX16_init_1 (375, .bipush 7, 2) (gx_m 76 rfl)) ?_
  refine gx_Jna (pc := 377) (t := 0) (by decide) rfl rfl q189 (htX16_init_1 (377, .newarray .int, 2) (gx_m 77 rfl)) ?_
  refine gx_Jpr (pc := 379) (ci := 16) (kk := 52) (by decide) (Or.inr rfl) (by decide) rfl rfl (by decide) (fun _ h => (Option.some.inj h).symm) (Or.inr ⟨_, rfl⟩) q1726 (Or.inr ⟨rfl, rfl, rfl⟩) (htX16_init_1 (379, .putfield 145, 3) (gx_m 78 rfl)) ?_
  refine gx_aload_n (pc := 382) (n := 0) (i := 0) rfl 0 rfl (htX16_init_1 (382, .aload_n 0, 1) (gx_m 79 rfl)) ?_
  refine gx_bipush (pc := 383) (v := 7) (by decide) (htX16_init_1 (383, .bipush 7, 2) (gx_m 80 rfl)) ?_
  refine gx_bipush (pc := 385) (v := 7) (by decide) (htX16_init_1 (385, .bipush 7, 2) (gx_m 81 rfl)) ?_
  refine gx_Jn2 (pc := 387) (t := 5) (t2 := 0) (by decide) (by decide) (by decide) rfl rfl rfl (by decide) (by decide) rfl rfl (by decide) (by decide) rfl q1667 q1668 q189 (htX16_init_1 (387, .multianewarray 98 2, 4) (gx_m 82 rfl)) ?_
  refine gx_Jpr (pc := 391) (ci := 16) (kk := 53) (by decide) (Or.inr rfl) (by decide) rfl rfl (by decide) (fun _ h => (Option.some.inj h).symm) (Or.inr ⟨_, rfl⟩) q1727 (Or.inr ⟨rfl, rfl, rfl⟩) (htX16_init_1 (391, .putfield 148, 3) (gx_m 83 rfl)) ?_
  refine gx_aload_n (pc := 394) (n := 0) (i := 0) rfl 0 rfl (htX16_init_1 (394, .aload_n 0, 1) (gx_m 84 rfl)) ?_
  refine gx_bipush (pc := 395) (v := 7) (by decide) (htX16_init_1 (395, .bipush 7, 2) (gx_m 85 rfl)) ?_
  refine gx_bipush (pc := 397) (v := 7) (by decide) (htX16_init_1 (397, .bipush 7, 2) (gx_m 86 rfl)) ?_
  refine gx_Jn2 (pc := 399) (t := 5) (t2 := 0) (by decide) (by decide) (by decide) rfl rfl rfl (by decide) (by decide) rfl rfl (by decide) (by decide) rfl q1667 q1668 q189 (htX16_init_1 (399, .multianewarray 98 2, 4) (gx_m 87 rfl)) ?_
  refine gx_Jpr (pc := 403) (ci := 16) (kk := 54) (by decide) (Or.inr rfl) (by decide) rfl rfl (by decide) (fun _ h => (Option.some.inj h).symm) (Or.inr ⟨_, rfl⟩) q1728 (Or.inr ⟨rfl, rfl, rfl⟩) (htX16_init_1 (403, .putfield 151, 3) (gx_m 88 rfl)) ?_
  refine gx_aload_n (pc := 406) (n := 0) (i := 0) rfl 0 rfl (htX16_init_1 (406, .aload_n 0, 1) (gx_m 89 rfl)) ?_
  refine gx_bipush (pc := 407) (v := 7) (by decide) (htX16_init_1 (407, .bipush 7, 2) (gx_m 90 rfl)) ?_
  refine gx_bipush (pc := 409) (v := 7) (by decide) (htX16_init_1 (409, .bipush 7, 2) (gx_m 91 rfl)) ?_
  refine gx_Jn2 (pc := 411) (t := 5) (t2 := 0) (by decide) (by decide) (by decide) rfl rfl rfl (by decide) (by decide) rfl rfl (by decide) (by decide) rfl q1667 q1668 q189 (htX16_init_1 (411, .multianewarray 98 2, 4) (gx_m 92 rfl)) ?_
  refine gx_Jpr (pc := 415) (ci := 16) (kk := 55) (by decide) (Or.inr rfl) (by decide) rfl rfl (by decide) (fun _ h => (Option.some.inj h).symm) (Or.inr ⟨_, rfl⟩) q1729 (Or.inr ⟨rfl, rfl, rfl⟩) (htX16_init_1 (415, .putfield 154, 3) (gx_m 93 rfl)) ?_
  refine gx_aload_n (pc := 418) (n := 0) (i := 0) rfl 0 rfl (htX16_init_1 (418, .aload_n 0, 1) (gx_m 94 rfl)) ?_
  refine gx_bipush (pc := 419) (v := 7) (by decide) (htX16_init_1 (419, .bipush 7, 2) (gx_m 95 rfl)) ?_
  refine gx_bipush (pc := 421) (v := 7) (by decide) (htX16_init_1 (421, .bipush 7, 2) (gx_m 96 rfl)) ?_
  refine gx_Jn2 (pc := 423) (t := 6) (t2 := 2) (by decide) (by decide) (by decide) rfl rfl rfl (by decide) (by decide) rfl rfl (by decide) (by decide) rfl q1669 q1670 q2041 (htX16_init_1 (423, .multianewarray 157 2, 4) (gx_m 97 rfl)) ?_
  refine gx_Jpr (pc := 427) (ci := 16) (kk := 56) (by decide) (Or.inr rfl) (by decide) rfl rfl (by decide) (fun _ h => (Option.some.inj h).symm) (Or.inr ⟨_, rfl⟩) q1730 (Or.inr ⟨rfl, rfl, rfl⟩) (htX16_init_1 (427, .putfield 159, 3) (gx_m 98 rfl)) ?_
  refine gx_aload_n (pc := 430) (n := 0) (i := 0) rfl 0 rfl (htX16_init_1 (430, .aload_n 0, 1) (gx_m 99 rfl)) ?_
  refine gx_ldc (pc := 431) (v := 33000) rfl q1671 (htX16_init_2 (431, .ldc 162, 2) (gx_m 0 rfl)) ?_
  refine gx_Jna (pc := 433) (t := 0) (by decide) rfl rfl q189 (htX16_init_2 (433, .newarray .int, 2) (gx_m 1 rfl)) ?_
  refine gx_Jpr (pc := 435) (ci := 16) (kk := 57) (by decide) (Or.inr rfl) (by decide) rfl rfl (by decide) (fun _ h => (Option.some.inj h).symm) (Or.inr ⟨_, rfl⟩) q1731 (Or.inr ⟨rfl, rfl, rfl⟩) (htX16_init_2 (435, .putfield 163, 3) (gx_m 2 rfl)) ?_
  refine gx_aload_n (pc := 438) (n := 0) (i := 0) rfl 0 rfl (htX16_init_2 (438, .aload_n 0, 1) (gx_m 3 rfl)) ?_
  refine gx_ldc (pc := 439) (v := 33000) rfl q1671 (htX16_init_2 (439, .ldc 162, 2) (gx_m 4 rfl)) ?_
  refine gx_Jna (pc := 441) (t := 0) (by decide) rfl rfl q189 (htX16_init_2 (441, .newarray .int, 2) (gx_m 5 rfl)) ?_
  refine gx_Jpr (pc := 443) (ci := 16) (kk := 58) (by decide) (Or.inr rfl) (by decide) rfl rfl (by decide) (fun _ h => (Option.some.inj h).symm) (Or.inr ⟨_, rfl⟩) q1732 (Or.inr ⟨rfl, rfl, rfl⟩) (htX16_init_2 (443, .putfield 166, 3) (gx_m 6 rfl)) ?_
  refine gx_aload_n (pc := 446) (n := 0) (i := 0) rfl 0 rfl (htX16_init_2 (446, .aload_n 0, 1) (gx_m 7 rfl)) ?_
  refine gx_ldc (pc := 447) (v := 33000) rfl q1671 (htX16_init_2 (447, .ldc 162, 2) (gx_m 8 rfl)) ?_
  refine gx_Jna (pc := 449) (t := 0) (by decide) rfl rfl q189 (htX16_init_2 (449, .newarray .int, 2) (gx_m 9 rfl)) ?_
  refine gx_Jpr (pc := 451) (ci := 16) (kk := 59) (by decide) (Or.inr rfl) (by decide) rfl rfl (by decide) (fun _ h => (Option.some.inj h).symm) (Or.inr ⟨_, rfl⟩) q1733 (Or.inr ⟨rfl, rfl, rfl⟩) (htX16_init_2 (451, .putfield 169, 3) (gx_m 10 rfl)) ?_
  refine gx_aload_n (pc := 454) (n := 0) (i := 0) rfl 0 rfl (htX16_init_2 (454, .aload_n 0, 1) (gx_m 11 rfl)) ?_
  refine gx_ldc (pc := 455) (v := 33000) rfl q1671 (htX16_init_2 (455, .ldc 162, 2) (gx_m 12 rfl)) ?_
  refine gx_Jna (pc := 457) (t := 0) (by decide) rfl rfl q189 (htX16_init_2 (457, .newarray .int, 2) (gx_m 13 rfl)) ?_
  refine gx_Jpr (pc := 459) (ci := 16) (kk := 60) (by decide) (Or.inr rfl) (by decide) rfl rfl (by decide) (fun _ h => (Option.some.inj h).symm) (Or.inr ⟨_, rfl⟩) q1734 (Or.inr ⟨rfl, rfl, rfl⟩) (htX16_init_2 (459, .putfield 172, 3) (gx_m 14 rfl)) ?_
  refine gx_aload_n (pc := 462) (n := 0) (i := 0) rfl 0 rfl (htX16_init_2 (462, .aload_n 0, 1) (gx_m 15 rfl)) ?_
  refine gx_ldc (pc := 463) (v := 33000) rfl q1671 (htX16_init_2 (463, .ldc 162, 2) (gx_m 16 rfl)) ?_
  refine gx_Jna (pc := 465) (t := 0) (by decide) rfl rfl q189 (htX16_init_2 (465, .newarray .int, 2) (gx_m 17 rfl)) ?_
  refine gx_Jpr (pc := 467) (ci := 16) (kk := 61) (by decide) (Or.inr rfl) (by decide) rfl rfl (by decide) (fun _ h => (Option.some.inj h).symm) (Or.inr ⟨_, rfl⟩) q1735 (Or.inr ⟨rfl, rfl, rfl⟩) (htX16_init_2 (467, .putfield 175, 3) (gx_m 18 rfl)) ?_
  refine gx_aload_n (pc := 470) (n := 0) (i := 0) rfl 0 rfl (htX16_init_2 (470, .aload_n 0, 1) (gx_m 19 rfl)) ?_
  refine gx_bipush (pc := 471) (v := 7) (by decide) (htX16_init_2 (471, .bipush 7, 2) (gx_m 20 rfl)) ?_
  refine gx_Jna (pc := 473) (t := 0) (by decide) rfl rfl q189 (htX16_init_2 (473, .newarray .int, 2) (gx_m 21 rfl)) ?_
  refine gx_Jpr (pc := 475) (ci := 16) (kk := 63) (by decide) (Or.inr rfl) (by decide) rfl rfl (by decide) (fun _ h => (Option.some.inj h).symm) (Or.inr ⟨_, rfl⟩) q1737 (Or.inr ⟨rfl, rfl, rfl⟩) (htX16_init_2 (475, .putfield 178, 3) (gx_m 22 rfl)) ?_
  refine gx_aload_n (pc := 478) (n := 0) (i := 0) rfl 0 rfl (htX16_init_2 (478, .aload_n 0, 1) (gx_m 23 rfl)) ?_
  refine gx_ldc (pc := 479) (v := 33000) rfl q1671 (htX16_init_2 (479, .ldc 162, 2) (gx_m 24 rfl)) ?_
  refine gx_Jna (pc := 481) (t := 0) (by decide) rfl rfl q189 (htX16_init_2 (481, .newarray .int, 2) (gx_m 25 rfl)) ?_
  refine gx_Jpr (pc := 483) (ci := 16) (kk := 64) (by decide) (Or.inr rfl) (by decide) rfl rfl (by decide) (fun _ h => (Option.some.inj h).symm) (Or.inr ⟨_, rfl⟩) q1738 (Or.inr ⟨rfl, rfl, rfl⟩) (htX16_init_2 (483, .putfield 181, 3) (gx_m 26 rfl)) ?_
  refine gx_aload_n (pc := 486) (n := 0) (i := 0) rfl 0 rfl (htX16_init_2 (486, .aload_n 0, 1) (gx_m 27 rfl)) ?_
  refine gx_ldc (pc := 487) (v := 33000) rfl q1671 (htX16_init_2 (487, .ldc 162, 2) (gx_m 28 rfl)) ?_
  refine gx_Jna (pc := 489) (t := 0) (by decide) rfl rfl q189 (htX16_init_2 (489, .newarray .int, 2) (gx_m 29 rfl)) ?_
  refine gx_Jpr (pc := 491) (ci := 16) (kk := 65) (by decide) (Or.inr rfl) (by decide) rfl rfl (by decide) (fun _ h => (Option.some.inj h).symm) (Or.inr ⟨_, rfl⟩) q1739 (Or.inr ⟨rfl, rfl, rfl⟩) (htX16_init_2 (491, .putfield 184, 3) (gx_m 30 rfl)) ?_
  refine gx_aload_n (pc := 494) (n := 0) (i := 0) rfl 0 rfl (htX16_init_2 (494, .aload_n 0, 1) (gx_m 31 rfl)) ?_
  refine gx_ldc (pc := 495) (v := 33000) rfl q1671 (htX16_init_2 (495, .ldc 162, 2) (gx_m 32 rfl)) ?_
  refine gx_Jna (pc := 497) (t := 0) (by decide) rfl rfl q189 (htX16_init_2 (497, .newarray .int, 2) (gx_m 33 rfl)) ?_
  refine gx_Jpr (pc := 499) (ci := 16) (kk := 66) (by decide) (Or.inr rfl) (by decide) rfl rfl (by decide) (fun _ h => (Option.some.inj h).symm) (Or.inr ⟨_, rfl⟩) q1740 (Or.inr ⟨rfl, rfl, rfl⟩) (htX16_init_2 (499, .putfield 187, 3) (gx_m 34 rfl)) ?_
  refine gx_aload_n (pc := 502) (n := 0) (i := 0) rfl 0 rfl (htX16_init_2 (502, .aload_n 0, 1) (gx_m 35 rfl)) ?_
  refine gx_ldc (pc := 503) (v := 33000) rfl q1671 (htX16_init_2 (503, .ldc 162, 2) (gx_m 36 rfl)) ?_
  refine gx_Jna (pc := 505) (t := 0) (by decide) rfl rfl q189 (htX16_init_2 (505, .newarray .int, 2) (gx_m 37 rfl)) ?_
  refine gx_Jpr (pc := 507) (ci := 16) (kk := 67) (by decide) (Or.inr rfl) (by decide) rfl rfl (by decide) (fun _ h => (Option.some.inj h).symm) (Or.inr ⟨_, rfl⟩) q1741 (Or.inr ⟨rfl, rfl, rfl⟩) (htX16_init_2 (507, .putfield 190, 3) (gx_m 38 rfl)) ?_
  refine gx_aload_n (pc := 510) (n := 0) (i := 0) rfl 0 rfl (htX16_init_2 (510, .aload_n 0, 1) (gx_m 39 rfl)) ?_
  refine gx_ldc (pc := 511) (v := 33000) rfl q1671 (htX16_init_2 (511, .ldc 162, 2) (gx_m 40 rfl)) ?_
  refine gx_Jna (pc := 513) (t := 0) (by decide) rfl rfl q189 (htX16_init_2 (513, .newarray .int, 2) (gx_m 41 rfl)) ?_
  refine gx_Jpr (pc := 515) (ci := 16) (kk := 68) (by decide) (Or.inr rfl) (by decide) rfl rfl (by decide) (fun _ h => (Option.some.inj h).symm) (Or.inr ⟨_, rfl⟩) q1742 (Or.inr ⟨rfl, rfl, rfl⟩) (htX16_init_2 (515, .putfield 193, 3) (gx_m 42 rfl)) ?_
  refine gx_aload_n (pc := 518) (n := 0) (i := 0) rfl 0 rfl (htX16_init_2 (518, .aload_n 0, 1) (gx_m 43 rfl)) ?_
  refine gx_ldc (pc := 519) (v := 33000) rfl q1671 (htX16_init_2 (519, .ldc 162, 2) (gx_m 44 rfl)) ?_
  refine gx_Jna (pc := 521) (t := 0) (by decide) rfl rfl q189 (htX16_init_2 (521, .newarray .int, 2) (gx_m 45 rfl)) ?_
  refine gx_Jpr (pc := 523) (ci := 16) (kk := 69) (by decide) (Or.inr rfl) (by decide) rfl rfl (by decide) (fun _ h => (Option.some.inj h).symm) (Or.inr ⟨_, rfl⟩) q1743 (Or.inr ⟨rfl, rfl, rfl⟩) (htX16_init_2 (523, .putfield 196, 3) (gx_m 46 rfl)) ?_
  refine gx_aload_n (pc := 526) (n := 0) (i := 0) rfl 0 rfl (htX16_init_2 (526, .aload_n 0, 1) (gx_m 47 rfl)) ?_
  refine gx_ldc (pc := 527) (v := 33000) rfl q1671 (htX16_init_2 (527, .ldc 162, 2) (gx_m 48 rfl)) ?_
  refine gx_Jna (pc := 529) (t := 0) (by decide) rfl rfl q189 (htX16_init_2 (529, .newarray .int, 2) (gx_m 49 rfl)) ?_
  refine gx_Jpr (pc := 531) (ci := 16) (kk := 70) (by decide) (Or.inr rfl) (by decide) rfl rfl (by decide) (fun _ h => (Option.some.inj h).symm) (Or.inr ⟨_, rfl⟩) q1744 (Or.inr ⟨rfl, rfl, rfl⟩) (htX16_init_2 (531, .putfield 199, 3) (gx_m 50 rfl)) ?_
  refine gx_aload_n (pc := 534) (n := 0) (i := 0) rfl 0 rfl (htX16_init_2 (534, .aload_n 0, 1) (gx_m 51 rfl)) ?_
  refine gx_ldc (pc := 535) (v := 33000) rfl q1671 (htX16_init_2 (535, .ldc 162, 2) (gx_m 52 rfl)) ?_
  refine gx_Jna (pc := 537) (t := 0) (by decide) rfl rfl q189 (htX16_init_2 (537, .newarray .int, 2) (gx_m 53 rfl)) ?_
  refine gx_Jpr (pc := 539) (ci := 16) (kk := 71) (by decide) (Or.inr rfl) (by decide) rfl rfl (by decide) (fun _ h => (Option.some.inj h).symm) (Or.inr ⟨_, rfl⟩) q1745 (Or.inr ⟨rfl, rfl, rfl⟩) (htX16_init_2 (539, .putfield 202, 3) (gx_m 54 rfl)) ?_
  refine gx_aload_n (pc := 542) (n := 0) (i := 0) rfl 0 rfl (htX16_init_2 (542, .aload_n 0, 1) (gx_m 55 rfl)) ?_
  refine gx_ldc (pc := 543) (v := 33000) rfl q1671 (htX16_init_2 (543, .ldc 162, 2) (gx_m 56 rfl)) ?_
  refine gx_Jna (pc := 545) (t := 0) (by decide) rfl rfl q189 (htX16_init_2 (545, .newarray .int, 2) (gx_m 57 rfl)) ?_
  refine gx_Jpr (pc := 547) (ci := 16) (kk := 72) (by decide) (Or.inr rfl) (by decide) rfl rfl (by decide) (fun _ h => (Option.some.inj h).symm) (Or.inr ⟨_, rfl⟩) q1746 (Or.inr ⟨rfl, rfl, rfl⟩) (htX16_init_2 (547, .putfield 205, 3) (gx_m 58 rfl)) ?_
  refine gx_aload_n (pc := 550) (n := 0) (i := 0) rfl 0 rfl (htX16_init_2 (550, .aload_n 0, 1) (gx_m 59 rfl)) ?_
  refine gx_ldc (pc := 551) (v := 33000) rfl q1671 (htX16_init_2 (551, .ldc 162, 2) (gx_m 60 rfl)) ?_
  refine gx_Jna (pc := 553) (t := 0) (by decide) rfl rfl q189 (htX16_init_2 (553, .newarray .int, 2) (gx_m 61 rfl)) ?_
  refine gx_Jpr (pc := 555) (ci := 16) (kk := 73) (by decide) (Or.inr rfl) (by decide) rfl rfl (by decide) (fun _ h => (Option.some.inj h).symm) (Or.inr ⟨_, rfl⟩) q1747 (Or.inr ⟨rfl, rfl, rfl⟩) (htX16_init_2 (555, .putfield 208, 3) (gx_m 62 rfl)) ?_
  refine gx_aload_n (pc := 558) (n := 0) (i := 0) rfl 0 rfl (htX16_init_2 (558, .aload_n 0, 1) (gx_m 63 rfl)) ?_
  refine gx_ldc (pc := 559) (v := 132000) rfl q1672 (htX16_init_2 (559, .ldc 211, 2) (gx_m 64 rfl)) ?_
  refine gx_Jna (pc := 561) (t := 0) (by decide) rfl rfl q189 (htX16_init_2 (561, .newarray .int, 2) (gx_m 65 rfl)) ?_
  refine gx_Jpr (pc := 563) (ci := 16) (kk := 74) (by decide) (Or.inr rfl) (by decide) rfl rfl (by decide) (fun _ h => (Option.some.inj h).symm) (Or.inr ⟨_, rfl⟩) q1748 (Or.inr ⟨rfl, rfl, rfl⟩) (htX16_init_2 (563, .putfield 212, 3) (gx_m 66 rfl)) ?_
  refine gx_aload_n (pc := 566) (n := 0) (i := 0) rfl 0 rfl (htX16_init_2 (566, .aload_n 0, 1) (gx_m 67 rfl)) ?_
  refine gx_sipush (pc := 567) (v := 201) (by decide) (htX16_init_2 (567, .sipush 201, 3) (gx_m 68 rfl)) ?_
  refine gx_Jna (pc := 570) (t := 0) (by decide) rfl rfl q189 (htX16_init_2 (570, .newarray .int, 2) (gx_m 69 rfl)) ?_
  refine gx_Jpr (pc := 572) (ci := 16) (kk := 77) (by decide) (Or.inr rfl) (by decide) rfl rfl (by decide) (fun _ h => (Option.some.inj h).symm) (Or.inr ⟨_, rfl⟩) q1751 (Or.inr ⟨rfl, rfl, rfl⟩) (htX16_init_2 (572, .putfield 215, 3) (gx_m 70 rfl)) ?_
  refine gx_aload_n (pc := 575) (n := 0) (i := 0) rfl 0 rfl (htX16_init_2 (575, .aload_n 0, 1) (gx_m 71 rfl)) ?_
  refine gx_ldc (pc := 576) (v := 33000) rfl q1671 (htX16_init_2 (576, .ldc 162, 2) (gx_m 72 rfl)) ?_
  refine gx_Jna (pc := 578) (t := 0) (by decide) rfl rfl q189 (htX16_init_2 (578, .newarray .int, 2) (gx_m 73 rfl)) ?_
  refine gx_Jpr (pc := 580) (ci := 16) (kk := 79) (by decide) (Or.inr rfl) (by decide) rfl rfl (by decide) (fun _ h => (Option.some.inj h).symm) (Or.inr ⟨_, rfl⟩) q1753 (Or.inr ⟨rfl, rfl, rfl⟩) (htX16_init_2 (580, .putfield 218, 3) (gx_m 74 rfl)) ?_
  refine gx_aload_n (pc := 583) (n := 0) (i := 0) rfl 0 rfl (htX16_init_2 (583, .aload_n 0, 1) (gx_m 75 rfl)) ?_
  refine gx_ldc (pc := 584) (v := 33000) rfl q1671 (htX16_init_2 (584, .ldc 162, 2) (gx_m 76 rfl)) ?_
  refine gx_Jna (pc := 586) (t := 0) (by decide) rfl rfl q189 (htX16_init_2 (586, .newarray .int, 2) (gx_m 77 rfl)) ?_
  refine gx_Jpr (pc := 588) (ci := 16) (kk := 80) (by decide) (Or.inr rfl) (by decide) rfl rfl (by decide) (fun _ h => (Option.some.inj h).symm) (Or.inr ⟨_, rfl⟩) q1754 (Or.inr ⟨rfl, rfl, rfl⟩) (htX16_init_2 (588, .putfield 221, 3) (gx_m 78 rfl)) ?_
  refine gx_aload_n (pc := 591) (n := 0) (i := 0) rfl 0 rfl (htX16_init_2 (591, .aload_n 0, 1) (gx_m 79 rfl)) ?_
  refine gx_sipush (pc := 592) (v := 4200) (by decide) (htX16_init_2 (592, .sipush 4200, 3) (gx_m 80 rfl)) ?_
  refine gx_Jna (pc := 595) (t := 0) (by decide) rfl rfl q189 (htX16_init_2 (595, .newarray .int, 2) (gx_m 81 rfl)) ?_
  refine gx_Jpr (pc := 597) (ci := 16) (kk := 82) (by decide) (Or.inr rfl) (by decide) rfl rfl (by decide) (fun _ h => (Option.some.inj h).symm) (Or.inr ⟨_, rfl⟩) q1756 (Or.inr ⟨rfl, rfl, rfl⟩) (htX16_init_2 (597, .putfield 224, 3) (gx_m 82 rfl)) ?_
  refine gx_aload_n (pc := 600) (n := 0) (i := 0) rfl 0 rfl (htX16_init_2 (600, .aload_n 0, 1) (gx_m 83 rfl)) ?_
  refine gx_sipush (pc := 601) (v := 4200) (by decide) (htX16_init_2 (601, .sipush 4200, 3) (gx_m 84 rfl)) ?_
  refine gx_Jna (pc := 604) (t := 0) (by decide) rfl rfl q189 (htX16_init_2 (604, .newarray .int, 2) (gx_m 85 rfl)) ?_
  refine gx_Jpr (pc := 606) (ci := 16) (kk := 83) (by decide) (Or.inr rfl) (by decide) rfl rfl (by decide) (fun _ h => (Option.some.inj h).symm) (Or.inr ⟨_, rfl⟩) q1757 (Or.inr ⟨rfl, rfl, rfl⟩) (htX16_init_2 (606, .putfield 227, 3) (gx_m 86 rfl)) ?_
  refine gx_aload_n (pc := 609) (n := 0) (i := 0) rfl 0 rfl (htX16_init_2 (609, .aload_n 0, 1) (gx_m 87 rfl)) ?_
  refine gx_sipush (pc := 610) (v := 4200) (by decide) (htX16_init_2 (610, .sipush 4200, 3) (gx_m 88 rfl)) ?_
  refine gx_Jna (pc := 613) (t := 0) (by decide) rfl rfl q189 (htX16_init_2 (613, .newarray .int, 2) (gx_m 89 rfl)) ?_
  refine gx_Jpr (pc := 615) (ci := 16) (kk := 84) (by decide) (Or.inr rfl) (by decide) rfl rfl (by decide) (fun _ h => (Option.some.inj h).symm) (Or.inr ⟨_, rfl⟩) q1758 (Or.inr ⟨rfl, rfl, rfl⟩) (htX16_init_2 (615, .putfield 230, 3) (gx_m 90 rfl)) ?_
  refine gx_aload_n (pc := 618) (n := 0) (i := 0) rfl 0 rfl (htX16_init_2 (618, .aload_n 0, 1) (gx_m 91 rfl)) ?_
  refine gx_sipush (pc := 619) (v := 4200) (by decide) (htX16_init_2 (619, .sipush 4200, 3) (gx_m 92 rfl)) ?_
  refine gx_Jna (pc := 622) (t := 0) (by decide) rfl rfl q189 (htX16_init_2 (622, .newarray .int, 2) (gx_m 93 rfl)) ?_
  refine gx_Jpr (pc := 624) (ci := 16) (kk := 85) (by decide) (Or.inr rfl) (by decide) rfl rfl (by decide) (fun _ h => (Option.some.inj h).symm) (Or.inr ⟨_, rfl⟩) q1759 (Or.inr ⟨rfl, rfl, rfl⟩) (htX16_init_2 (624, .putfield 233, 3) (gx_m 94 rfl)) ?_
  refine gx_aload_n (pc := 627) (n := 0) (i := 0) rfl 0 rfl (htX16_init_2 (627, .aload_n 0, 1) (gx_m 95 rfl)) ?_
  refine gx_sipush (pc := 628) (v := 4200) (by decide) (htX16_init_2 (628, .sipush 4200, 3) (gx_m 96 rfl)) ?_
  refine gx_Jna (pc := 631) (t := 0) (by decide) rfl rfl q189 (htX16_init_2 (631, .newarray .int, 2) (gx_m 97 rfl)) ?_
  refine gx_Jpr (pc := 633) (ci := 16) (kk := 86) (by decide) (Or.inr rfl) (by decide) rfl rfl (by decide) (fun _ h => (Option.some.inj h).symm) (Or.inr ⟨_, rfl⟩) q1760 (Or.inr ⟨rfl, rfl, rfl⟩) (htX16_init_2 (633, .putfield 236, 3) (gx_m 98 rfl)) ?_
  refine gx_aload_n (pc := 636) (n := 0) (i := 0) rfl 0 rfl (htX16_init_2 (636, .aload_n 0, 1) (gx_m 99 rfl)) ?_
  refine gx_sipush (pc := 637) (v := 4200) (by decide) (htX16_init_3 (637, .sipush 4200, 3) (gx_m 0 rfl)) ?_
  refine gx_Jna (pc := 640) (t := 2) (by decide) rfl rfl q2041 (htX16_init_3 (640, .newarray .boolean, 2) (gx_m 1 rfl)) ?_
  refine gx_Jpr (pc := 642) (ci := 16) (kk := 87) (by decide) (Or.inr rfl) (by decide) rfl rfl (by decide) (fun _ h => (Option.some.inj h).symm) (Or.inr ⟨_, rfl⟩) q1761 (Or.inr ⟨rfl, rfl, rfl⟩) (htX16_init_3 (642, .putfield 239, 3) (gx_m 2 rfl)) ?_
  refine gx_aload_n (pc := 645) (n := 0) (i := 0) rfl 0 rfl (htX16_init_3 (645, .aload_n 0, 1) (gx_m 3 rfl)) ?_
  refine gx_sipush (pc := 646) (v := 4200) (by decide) (htX16_init_3 (646, .sipush 4200, 3) (gx_m 4 rfl)) ?_
  refine gx_Jna (pc := 649) (t := 0) (by decide) rfl rfl q189 (htX16_init_3 (649, .newarray .int, 2) (gx_m 5 rfl)) ?_
  refine gx_Jpr (pc := 651) (ci := 16) (kk := 88) (by decide) (Or.inr rfl) (by decide) rfl rfl (by decide) (fun _ h => (Option.some.inj h).symm) (Or.inr ⟨_, rfl⟩) q1762 (Or.inr ⟨rfl, rfl, rfl⟩) (htX16_init_3 (651, .putfield 242, 3) (gx_m 6 rfl)) ?_
  refine gx_aload_n (pc := 654) (n := 0) (i := 0) rfl 0 rfl (htX16_init_3 (654, .aload_n 0, 1) (gx_m 7 rfl)) ?_
  refine gx_sipush (pc := 655) (v := 4200) (by decide) (htX16_init_3 (655, .sipush 4200, 3) (gx_m 8 rfl)) ?_
  refine gx_Jna (pc := 658) (t := 0) (by decide) rfl rfl q189 (htX16_init_3 (658, .newarray .int, 2) (gx_m 9 rfl)) ?_
  refine gx_Jpr (pc := 660) (ci := 16) (kk := 89) (by decide) (Or.inr rfl) (by decide) rfl rfl (by decide) (fun _ h => (Option.some.inj h).symm) (Or.inr ⟨_, rfl⟩) q1763 (Or.inr ⟨rfl, rfl, rfl⟩) (htX16_init_3 (660, .putfield 245, 3) (gx_m 10 rfl)) ?_
  refine gx_aload_n (pc := 663) (n := 0) (i := 0) rfl 0 rfl (htX16_init_3 (663, .aload_n 0, 1) (gx_m 11 rfl)) ?_
  refine gx_sipush (pc := 664) (v := 4200) (by decide) (htX16_init_3 (664, .sipush 4200, 3) (gx_m 12 rfl)) ?_
  refine gx_Jna (pc := 667) (t := 0) (by decide) rfl rfl q189 (htX16_init_3 (667, .newarray .int, 2) (gx_m 13 rfl)) ?_
  refine gx_Jpr (pc := 669) (ci := 16) (kk := 90) (by decide) (Or.inr rfl) (by decide) rfl rfl (by decide) (fun _ h => (Option.some.inj h).symm) (Or.inr ⟨_, rfl⟩) q1764 (Or.inr ⟨rfl, rfl, rfl⟩) (htX16_init_3 (669, .putfield 248, 3) (gx_m 14 rfl)) ?_
  refine gx_aload_n (pc := 672) (n := 0) (i := 0) rfl 0 rfl (htX16_init_3 (672, .aload_n 0, 1) (gx_m 15 rfl)) ?_
  refine gx_sipush (pc := 673) (v := 4200) (by decide) (htX16_init_3 (673, .sipush 4200, 3) (gx_m 16 rfl)) ?_
  refine gx_Jna (pc := 676) (t := 0) (by decide) rfl rfl q189 (htX16_init_3 (676, .newarray .int, 2) (gx_m 17 rfl)) ?_
  refine gx_Jpr (pc := 678) (ci := 16) (kk := 91) (by decide) (Or.inr rfl) (by decide) rfl rfl (by decide) (fun _ h => (Option.some.inj h).symm) (Or.inr ⟨_, rfl⟩) q1765 (Or.inr ⟨rfl, rfl, rfl⟩) (htX16_init_3 (678, .putfield 251, 3) (gx_m 18 rfl)) ?_
  refine gx_aload_n (pc := 681) (n := 0) (i := 0) rfl 0 rfl (htX16_init_3 (681, .aload_n 0, 1) (gx_m 19 rfl)) ?_
  refine gx_ldc (pc := 682) (v := 134400) rfl q1673 (htX16_init_3 (682, .ldc 254, 2) (gx_m 20 rfl)) ?_
  refine gx_Jna (pc := 684) (t := 1) (by decide) rfl rfl q168 (htX16_init_3 (684, .newarray .byte, 2) (gx_m 21 rfl)) ?_
  refine gx_Jpr (pc := 686) (ci := 16) (kk := 92) (by decide) (Or.inr rfl) (by decide) rfl rfl (by decide) (fun _ h => (Option.some.inj h).symm) (Or.inr ⟨_, rfl⟩) q1766 (Or.inr ⟨rfl, rfl, rfl⟩) (htX16_init_3 (686, .putfield 255, 3) (gx_m 22 rfl)) ?_
  refine gx_aload_n (pc := 689) (n := 0) (i := 0) rfl 0 rfl (htX16_init_3 (689, .aload_n 0, 1) (gx_m 23 rfl)) ?_
  refine gx_bipush (pc := 690) (v := 7) (by decide) (htX16_init_3 (690, .bipush 7, 2) (gx_m 24 rfl)) ?_
  refine gx_Jna (pc := 692) (t := 0) (by decide) rfl rfl q189 (htX16_init_3 (692, .newarray .int, 2) (gx_m 25 rfl)) ?_
  refine gx_Jpr (pc := 694) (ci := 16) (kk := 94) (by decide) (Or.inr rfl) (by decide) rfl rfl (by decide) (fun _ h => (Option.some.inj h).symm) (Or.inr ⟨_, rfl⟩) q1768 (Or.inr ⟨rfl, rfl, rfl⟩) (htX16_init_3 (694, .putfield 258, 3) (gx_m 26 rfl)) ?_
  refine gx_aload_n (pc := 697) (n := 0) (i := 0) rfl 0 rfl (htX16_init_3 (697, .aload_n 0, 1) (gx_m 27 rfl)) ?_
  refine gx_sipush (pc := 698) (v := 5000) (by decide) (htX16_init_3 (698, .sipush 5000, 3) (gx_m 28 rfl)) ?_
  refine gx_Jna (pc := 701) (t := 0) (by decide) rfl rfl q189 (htX16_init_3 (701, .newarray .int, 2) (gx_m 29 rfl)) ?_
  refine gx_Jpr (pc := 703) (ci := 16) (kk := 95) (by decide) (Or.inr rfl) (by decide) rfl rfl (by decide) (fun _ h => (Option.some.inj h).symm) (Or.inr ⟨_, rfl⟩) q1769 (Or.inr ⟨rfl, rfl, rfl⟩) (htX16_init_3 (703, .putfield 261, 3) (gx_m 30 rfl)) ?_
  refine gx_aload_n (pc := 706) (n := 0) (i := 0) rfl 0 rfl (htX16_init_3 (706, .aload_n 0, 1) (gx_m 31 rfl)) ?_
  refine gx_sipush (pc := 707) (v := 208) (by decide) (htX16_init_3 (707, .sipush 208, 3) (gx_m 32 rfl)) ?_
  refine gx_Jna (pc := 710) (t := 0) (by decide) rfl rfl q189 (htX16_init_3 (710, .newarray .int, 2) (gx_m 33 rfl)) ?_
  refine gx_Jpr (pc := 712) (ci := 16) (kk := 97) (by decide) (Or.inr rfl) (by decide) rfl rfl (by decide) (fun _ h => (Option.some.inj h).symm) (Or.inr ⟨_, rfl⟩) q1771 (Or.inr ⟨rfl, rfl, rfl⟩) (htX16_init_3 (712, .putfield 264, 3) (gx_m 34 rfl)) ?_
  refine gx_aload_n (pc := 715) (n := 0) (i := 0) rfl 0 rfl (htX16_init_3 (715, .aload_n 0, 1) (gx_m 35 rfl)) ?_
  refine gx_sipush (pc := 716) (v := 208) (by decide) (htX16_init_3 (716, .sipush 208, 3) (gx_m 36 rfl)) ?_
  refine gx_Jna (pc := 719) (t := 0) (by decide) rfl rfl q189 (htX16_init_3 (719, .newarray .int, 2) (gx_m 37 rfl)) ?_
  refine gx_Jpr (pc := 721) (ci := 16) (kk := 98) (by decide) (Or.inr rfl) (by decide) rfl rfl (by decide) (fun _ h => (Option.some.inj h).symm) (Or.inr ⟨_, rfl⟩) q1772 (Or.inr ⟨rfl, rfl, rfl⟩) (htX16_init_3 (721, .putfield 267, 3) (gx_m 38 rfl)) ?_
  refine gx_aload_n (pc := 724) (n := 0) (i := 0) rfl 0 rfl (htX16_init_3 (724, .aload_n 0, 1) (gx_m 39 rfl)) ?_
  refine gx_sipush (pc := 725) (v := 208) (by decide) (htX16_init_3 (725, .sipush 208, 3) (gx_m 40 rfl)) ?_
  refine gx_Jna (pc := 728) (t := 0) (by decide) rfl rfl q189 (htX16_init_3 (728, .newarray .int, 2) (gx_m 41 rfl)) ?_
  refine gx_Jpr (pc := 730) (ci := 16) (kk := 99) (by decide) (Or.inr rfl) (by decide) rfl rfl (by decide) (fun _ h => (Option.some.inj h).symm) (Or.inr ⟨_, rfl⟩) q1773 (Or.inr ⟨rfl, rfl, rfl⟩) (htX16_init_3 (730, .putfield 270, 3) (gx_m 42 rfl)) ?_
  refine gx_aload_n (pc := 733) (n := 0) (i := 0) rfl 0 rfl (htX16_init_3 (733, .aload_n 0, 1) (gx_m 43 rfl)) ?_
  refine gx_sipush (pc := 734) (v := 208) (by decide) (htX16_init_3 (734, .sipush 208, 3) (gx_m 44 rfl)) ?_
  refine gx_Jna (pc := 737) (t := 0) (by decide) rfl rfl q189 (htX16_init_3 (737, .newarray .int, 2) (gx_m 45 rfl)) ?_
  refine gx_Jpr (pc := 739) (ci := 16) (kk := 100) (by decide) (Or.inr rfl) (by decide) rfl rfl (by decide) (fun _ h => (Option.some.inj h).symm) (Or.inr ⟨_, rfl⟩) q1774 (Or.inr ⟨rfl, rfl, rfl⟩) (htX16_init_3 (739, .putfield 273, 3) (gx_m 46 rfl)) ?_
  refine gx_aload_n (pc := 742) (n := 0) (i := 0) rfl 0 rfl (htX16_init_3 (742, .aload_n 0, 1) (gx_m 47 rfl)) ?_
  refine gx_sipush (pc := 743) (v := 208) (by decide) (htX16_init_3 (743, .sipush 208, 3) (gx_m 48 rfl)) ?_
  refine gx_Jna (pc := 746) (t := 0) (by decide) rfl rfl q189 (htX16_init_3 (746, .newarray .int, 2) (gx_m 49 rfl)) ?_
  refine gx_Jpr (pc := 748) (ci := 16) (kk := 101) (by decide) (Or.inr rfl) (by decide) rfl rfl (by decide) (fun _ h => (Option.some.inj h).symm) (Or.inr ⟨_, rfl⟩) q1775 (Or.inr ⟨rfl, rfl, rfl⟩) (htX16_init_3 (748, .putfield 276, 3) (gx_m 50 rfl)) ?_
  refine gx_aload_n (pc := 751) (n := 0) (i := 0) rfl 0 rfl (htX16_init_3 (751, .aload_n 0, 1) (gx_m 51 rfl)) ?_
  refine gx_sipush (pc := 752) (v := 208) (by decide) (htX16_init_3 (752, .sipush 208, 3) (gx_m 52 rfl)) ?_
  refine gx_Jna (pc := 755) (t := 0) (by decide) rfl rfl q189 (htX16_init_3 (755, .newarray .int, 2) (gx_m 53 rfl)) ?_
  refine gx_Jpr (pc := 757) (ci := 16) (kk := 102) (by decide) (Or.inr rfl) (by decide) rfl rfl (by decide) (fun _ h => (Option.some.inj h).symm) (Or.inr ⟨_, rfl⟩) q1776 (Or.inr ⟨rfl, rfl, rfl⟩) (htX16_init_3 (757, .putfield 279, 3) (gx_m 54 rfl)) ?_
  refine gx_aload_n (pc := 760) (n := 0) (i := 0) rfl 0 rfl (htX16_init_3 (760, .aload_n 0, 1) (gx_m 55 rfl)) ?_
  refine gx_sipush (pc := 761) (v := 208) (by decide) (htX16_init_3 (761, .sipush 208, 3) (gx_m 56 rfl)) ?_
  refine gx_Jna (pc := 764) (t := 0) (by decide) rfl rfl q189 (htX16_init_3 (764, .newarray .int, 2) (gx_m 57 rfl)) ?_
  refine gx_Jpr (pc := 766) (ci := 16) (kk := 103) (by decide) (Or.inr rfl) (by decide) rfl rfl (by decide) (fun _ h => (Option.some.inj h).symm) (Or.inr ⟨_, rfl⟩) q1777 (Or.inr ⟨rfl, rfl, rfl⟩) (htX16_init_3 (766, .putfield 282, 3) (gx_m 58 rfl)) ?_
  refine gx_aload_n (pc := 769) (n := 0) (i := 0) rfl 0 rfl (htX16_init_3 (769, .aload_n 0, 1) (gx_m 59 rfl)) ?_
  refine gx_sipush (pc := 770) (v := 208) (by decide) (htX16_init_3 (770, .sipush 208, 3) (gx_m 60 rfl)) ?_
  refine gx_Jna (pc := 773) (t := 0) (by decide) rfl rfl q189 (htX16_init_3 (773, .newarray .int, 2) (gx_m 61 rfl)) ?_
  refine gx_Jpr (pc := 775) (ci := 16) (kk := 104) (by decide) (Or.inr rfl) (by decide) rfl rfl (by decide) (fun _ h => (Option.some.inj h).symm) (Or.inr ⟨_, rfl⟩) q1778 (Or.inr ⟨rfl, rfl, rfl⟩) (htX16_init_3 (775, .putfield 285, 3) (gx_m 62 rfl)) ?_
  refine gx_aload_n (pc := 778) (n := 0) (i := 0) rfl 0 rfl (htX16_init_3 (778, .aload_n 0, 1) (gx_m 63 rfl)) ?_
  refine gx_bipush (pc := 779) (v := 100) (by decide) (htX16_init_3 (779, .bipush 100, 2) (gx_m 64 rfl)) ?_
  refine gx_Jna (pc := 781) (t := 2) (by decide) rfl rfl q2041 (htX16_init_3 (781, .newarray .boolean, 2) (gx_m 65 rfl)) ?_
  refine gx_Jpr (pc := 783) (ci := 16) (kk := 105) (by decide) (Or.inr rfl) (by decide) rfl rfl (by decide) (fun _ h => (Option.some.inj h).symm) (Or.inr ⟨_, rfl⟩) q1779 (Or.inr ⟨rfl, rfl, rfl⟩) (htX16_init_3 (783, .putfield 288, 3) (gx_m 66 rfl)) ?_
  refine gx_aload_n (pc := 786) (n := 0) (i := 0) rfl 0 rfl (htX16_init_3 (786, .aload_n 0, 1) (gx_m 67 rfl)) ?_
  refine gx_bipush (pc := 787) (v := 100) (by decide) (htX16_init_3 (787, .bipush 100, 2) (gx_m 68 rfl)) ?_
  refine gx_Jna (pc := 789) (t := 2) (by decide) rfl rfl q2041 (htX16_init_3 (789, .newarray .boolean, 2) (gx_m 69 rfl)) ?_
  refine gx_Jpr (pc := 791) (ci := 16) (kk := 106) (by decide) (Or.inr rfl) (by decide) rfl rfl (by decide) (fun _ h => (Option.some.inj h).symm) (Or.inr ⟨_, rfl⟩) q1780 (Or.inr ⟨rfl, rfl, rfl⟩) (htX16_init_3 (791, .putfield 291, 3) (gx_m 70 rfl)) ?_
  refine gx_aload_n (pc := 794) (n := 0) (i := 0) rfl 0 rfl (htX16_init_3 (794, .aload_n 0, 1) (gx_m 71 rfl)) ?_
  refine gx_bipush (pc := 795) (v := 8) (by decide) (htX16_init_3 (795, .bipush 8, 2) (gx_m 72 rfl)) ?_
  refine gx_sipush (pc := 797) (v := 208) (by decide) (htX16_init_3 (797, .sipush 208, 3) (gx_m 73 rfl)) ?_
  refine gx_Jn2 (pc := 800) (t := 5) (t2 := 0) (by decide) (by decide) (by decide) rfl rfl rfl (by decide) (by decide) rfl rfl (by decide) (by decide) rfl q1667 q1668 q189 (htX16_init_3 (800, .multianewarray 98 2, 4) (gx_m 74 rfl)) ?_
  refine gx_Jpr (pc := 804) (ci := 16) (kk := 109) (by decide) (Or.inr rfl) (by decide) rfl rfl (by decide) (fun _ h => (Option.some.inj h).symm) (Or.inr ⟨_, rfl⟩) q1783 (Or.inr ⟨rfl, rfl, rfl⟩) (htX16_init_3 (804, .putfield 294, 3) (gx_m 75 rfl)) ?_
  refine gx_aload_n (pc := 807) (n := 0) (i := 0) rfl 0 rfl (htX16_init_3 (807, .aload_n 0, 1) (gx_m 76 rfl)) ?_
  refine gx_sipush (pc := 808) (v := 1502) (by decide) (htX16_init_3 (808, .sipush 1502, 3) (gx_m 77 rfl)) ?_
  refine gx_Jna (pc := 811) (t := 0) (by decide) rfl rfl q189 (htX16_init_3 (811, .newarray .int, 2) (gx_m 78 rfl)) ?_
  refine gx_Jpr (pc := 813) (ci := 16) (kk := 114) (by decide) (Or.inr rfl) (by decide) rfl rfl (by decide) (fun _ h => (Option.some.inj h).symm) (Or.inr ⟨_, rfl⟩) q1788 (Or.inr ⟨rfl, rfl, rfl⟩) (htX16_init_3 (813, .putfield 297, 3) (gx_m 79 rfl)) ?_
  refine gx_aload_n (pc := 816) (n := 0) (i := 0) rfl 0 rfl (htX16_init_3 (816, .aload_n 0, 1) (gx_m 80 rfl)) ?_
  refine gx_sipush (pc := 817) (v := 500) (by decide) (htX16_init_3 (817, .sipush 500, 3) (gx_m 81 rfl)) ?_
  refine gx_Jna (pc := 820) (t := 0) (by decide) rfl rfl q189 (htX16_init_3 (820, .newarray .int, 2) (gx_m 82 rfl)) ?_
  refine gx_Jpr (pc := 822) (ci := 16) (kk := 116) (by decide) (Or.inr rfl) (by decide) rfl rfl (by decide) (fun _ h => (Option.some.inj h).symm) (Or.inr ⟨_, rfl⟩) q1790 (Or.inr ⟨rfl, rfl, rfl⟩) (htX16_init_3 (822, .putfield 300, 3) (gx_m 83 rfl)) ?_
  refine gx_aload_n (pc := 825) (n := 0) (i := 0) rfl 0 rfl (htX16_init_3 (825, .aload_n 0, 1) (gx_m 84 rfl)) ?_
  refine gx_sipush (pc := 826) (v := 500) (by decide) (htX16_init_3 (826, .sipush 500, 3) (gx_m 85 rfl)) ?_
  refine gx_Jna (pc := 829) (t := 0) (by decide) rfl rfl q189 (htX16_init_3 (829, .newarray .int, 2) (gx_m 86 rfl)) ?_
  refine gx_Jpr (pc := 831) (ci := 16) (kk := 117) (by decide) (Or.inr rfl) (by decide) rfl rfl (by decide) (fun _ h => (Option.some.inj h).symm) (Or.inr ⟨_, rfl⟩) q1791 (Or.inr ⟨rfl, rfl, rfl⟩) (htX16_init_3 (831, .putfield 303, 3) (gx_m 87 rfl)) ?_
  refine gx_aload_n (pc := 834) (n := 0) (i := 0) rfl 0 rfl (htX16_init_3 (834, .aload_n 0, 1) (gx_m 88 rfl)) ?_
  refine gx_sipush (pc := 835) (v := 500) (by decide) (htX16_init_3 (835, .sipush 500, 3) (gx_m 89 rfl)) ?_
  refine gx_Jna (pc := 838) (t := 2) (by decide) rfl rfl q2041 (htX16_init_3 (838, .newarray .boolean, 2) (gx_m 90 rfl)) ?_
  refine gx_Jpr (pc := 840) (ci := 16) (kk := 118) (by decide) (Or.inr rfl) (by decide) rfl rfl (by decide) (fun _ h => (Option.some.inj h).symm) (Or.inr ⟨_, rfl⟩) q1792 (Or.inr ⟨rfl, rfl, rfl⟩) (htX16_init_3 (840, .putfield 306, 3) (gx_m 91 rfl)) ?_
  refine gx_aload_n (pc := 843) (n := 0) (i := 0) rfl 0 rfl (htX16_init_3 (843, .aload_n 0, 1) (gx_m 92 rfl)) ?_
  refine gx_bipush (pc := 844) (v := 8) (by decide) (htX16_init_3 (844, .bipush 8, 2) (gx_m 93 rfl)) ?_
  refine gx_sipush (pc := 846) (v := 208) (by decide) (htX16_init_3 (846, .sipush 208, 3) (gx_m 94 rfl)) ?_
  refine gx_Jn2 (pc := 849) (t := 5) (t2 := 0) (by decide) (by decide) (by decide) rfl rfl rfl (by decide) (by decide) rfl rfl (by decide) (by decide) rfl q1667 q1668 q189 (htX16_init_3 (849, .multianewarray 98 2, 4) (gx_m 95 rfl)) ?_
  refine gx_Jpr (pc := 853) (ci := 16) (kk := 119) (by decide) (Or.inr rfl) (by decide) rfl rfl (by decide) (fun _ h => (Option.some.inj h).symm) (Or.inr ⟨_, rfl⟩) q1793 (Or.inr ⟨rfl, rfl, rfl⟩) (htX16_init_3 (853, .putfield 309, 3) (gx_m 96 rfl)) ?_
  exact gx_Jvret (pc := 856) rfl (fun _ => trivial) (fun _ _ => rfl) (htX16_init_3 (856, .return_, 1) (gx_m 97 rfl))
