/-! ===== the machine does what f_L_law says (printed by gen/lprint.py) ===== -/
set_option maxRecDepth 100000
set_option maxHeartbeats 4000000
theorem ct_L_law (Y : gx_Y) (hT : gx_Tr Y) (x0 n0 : Nat) (u0 : Nat → Int32) (hsc : gx_Scr Y x0 n0 u0) : gx_J Y (cL_law, "CouncilStoreLaw", (some .boolean), "law", 7, 24, 11050, []) gx_Oz 0 [(0, gx_x x0)] [] (f_L_law n0 u0) gx_rt := by
  unfold f_L_law
  refine gx_Jnw (pc := 0) (ci := 1) (by decide) rfl rfl rfl q130 q131 q101 (htL_law_0 (0, .new 8, 3) (gx_m 0 rfl)) ?_
  refine gx_dup (pc := 3) rfl (htL_law_0 (3, .dup, 1) (gx_m 1 rfl)) ?_
  refine gx_Jcv (pc := 4) (gx_hst (as := []) (b := gx_r 31 (some [1]))) (gx_runI (as := []) (ct_X1_init Y [1]) rfl rfl rfl rfl q132 q133 q101 q134 rfl dd_X1_init (by decide) (by decide) (Nat.le_of_ble_eq_true rfl) (htL_law_0 (4, .invokespecial 101, 3) (gx_m 2 rfl))) ?_
  refine gx_Jfu (ci := 1) (by decide) rfl rfl sn_1 ?_
  refine gx_astore_n (pc := 7) (n := 1) (i := 1) (lv' := [(1, gx_r 2 (some [1])), (0, gx_x x0)]) rfl (by decide) rfl (htL_law_0 (7, .astore_n 1, 1) (gx_m 3 rfl)) ?_
  refine gx_Jnw (pc := 8) (ci := 16) (by decide) rfl rfl rfl q1660 q1661 q117 (htL_law_0 (8, .new 102, 3) (gx_m 4 rfl)) ?_
  refine gx_dup (pc := 11) rfl (htL_law_0 (11, .dup, 1) (gx_m 5 rfl)) ?_
  refine gx_Jcv (pc := 12) (gx_hst (as := []) (b := gx_r 46 (some [2]))) (gx_runI (as := []) (ct_X16_init Y [2]) rfl rfl rfl rfl q1662 q1663 q117 q1664 rfl dd_X16_init (by decide) (by decide) (Nat.le_of_ble_eq_true rfl) (htL_law_0 (12, .invokespecial 104, 3) (gx_m 6 rfl))) ?_
  refine gx_Jfu (ci := 16) (by decide) rfl rfl sn_16 ?_
  refine gx_astore_n (pc := 15) (n := 2) (i := 2) (lv' := [(2, gx_r 17 (some [2])), (1, gx_r 2 (some [1])), (0, gx_x x0)]) rfl (by decide) rfl (htL_law_0 (15, .astore_n 2, 1) (gx_m 7 rfl)) ?_
  refine gx_iconst (pc := 16) (v := 1) (by decide) (htL_law_0 (16, .iconst 1, 1) (gx_m 8 rfl)) ?_
  refine gx_Jna (pc := 17) (t := 3) (by decide) rfl rfl q2391 (htL_law_0 (17, .newarray .long, 2) (gx_m 9 rfl)) ?_
  refine gx_astore_n (pc := 19) (n := 3) (i := 3) (lv' := [(3, gx_r 103 (some [3])), (2, gx_r 17 (some [2])), (1, gx_r 2 (some [1])), (0, gx_x x0)]) rfl (by decide) rfl (htL_law_0 (19, .astore_n 3, 1) (gx_m 10 rfl)) ?_
  refine gx_iconst (pc := 20) (v := 0) (by decide) (htL_law_0 (20, .iconst 0, 1) (gx_m 11 rfl)) ?_
  refine gx_istore (pc := 21) (i := 4) (lv' := [(4, gx_i 0), (3, gx_r 103 (some [3])), (2, gx_r 17 (some [2])), (1, gx_r 2 (some [1])), (0, gx_x x0)]) (by decide) rfl (htL_law_0 (21, .istore 4, 2) (gx_m 12 rfl)) ?_
  refine gx_JjoinE (pcJ := 1734) (lvJ := fun (j_1 : Unit) => []) (stJ := fun (j_1 : Unit) => []) (gr := fun r => gx_rt r) (fun _ => rfl) (fun _ => rfl) (fun j_1 => ?_) (fun kk1 hj1 he1 => ?_)
  · refine gx_iconst (pc := 1734) (v := 1) (by decide) (htL_law_10 (1734, .iconst 1, 1) (gx_m 64 rfl)) ?_
    exact gx_Jzret (pc := 1735) rfl gx_b1 (fun _ => gx_b1) (fun _ _ => rfl) (htL_law_10 (1735, .ireturn, 1) (gx_m 65 rfl))
  · refine gx_Jw (lv := [(0, gx_x x0), (1, gx_r 2 (some [1])), (2, gx_r 17 (some [2])), (3, gx_r 103 (some [3])), (4, gx_i 0)]) [4, 3, 2, 1, 0] rfl ?_
    refine gx_Jlp (pc := 23) (lvh := fun (s1 : Int32) => [(0, gx_x x0), (1, gx_r 2 (some [1])), (2, gx_r 17 (some [2])), (3, gx_r 103 (some [3])), (4, gx_i s1)]) (fun s1 kl1 ha1 hb1 => ?_) _
    unfold lb_L_law_1
    refine gx_iload (pc := 23) (i := 4) 4 rfl (htL_law_0 (23, .iload 4, 2) (gx_m 13 rfl)) ?_
    refine gx_aload_nx (pc := 25) (n := 0) (i := 0) rfl 0 rfl (htL_law_0 (25, .aload_n 0, 1) (gx_m 14 rfl)) ?_
    refine gx_Jsl (pc := 26) hsc (htL_law_0 (26, .arraylength, 1) (gx_m 15 rfl)) ?_
    refine gx_bipush (pc := 27) (v := 6) (by decide) (htL_law_0 (27, .bipush 6, 2) (gx_m 16 rfl)) ?_
    refine gx_isub (pc := 29) (htL_law_0 (29, .isub, 1) (gx_m 17 rfl)) ?_
    refine gx_icmp_gt (pc := 30) (tgt := 1734) (by decide) (htL_law_0 (30, .if_icmp .gt 1704, 3) (gx_m 18 rfl)) (fun c2 => ?_) (fun c2 => ?_)
    · refine gx_Jw (lv := []) [] rfl ?_
      exact gx_Jout hb1 (hj1 ())
    · refine gx_aload_nx (pc := 33) (n := 0) (i := 0) rfl 0 rfl (htL_law_0 (33, .aload_n 0, 1) (gx_m 19 rfl)) ?_
      refine gx_iload (pc := 34) (i := 4) 4 rfl (htL_law_0 (34, .iload 4, 2) (gx_m 20 rfl)) ?_
      refine gx_Jsc (pc := 36) hsc (htL_law_0 (36, .iaload, 1) (gx_m 21 rfl)) (fun v2 => ?_)
      refine gx_bipush (pc := 37) (v := 31) (by decide) (htL_law_0 (37, .bipush 31, 2) (gx_m 22 rfl)) ?_
      refine gx_iand (pc := 39) (htL_law_0 (39, .iand, 1) (gx_m 23 rfl)) ?_
      refine gx_Jite (fun c3 => ?_) (fun c3 => ?_)
      · refine gx_Jtab (pc := 40) (tgt := 164) (htL_law_0 (40, .tableswitch 1688 0 26 #[124, 160, 264, 320, 380, 428, 464, 540, 596, 607, 643, 679, 735, 783, 819, 883, 919, 975, 1031, 1111, 1191, 1295, 1399, 1447, 1527, 1595, 1663], 124) (gx_m 24 rfl)) (by decide) (gx_tD c3 (by decide)) (gx_tI c3 (by decide)) ?_
        refine gx_aload_n (pc := 164) (n := 1) (i := 1) rfl 1 rfl (htL_law_0 (164, .aload_n 1, 1) (gx_m 25 rfl)) ?_
        refine gx_aload_nx (pc := 165) (n := 0) (i := 0) rfl 0 rfl (htL_law_0 (165, .aload_n 0, 1) (gx_m 26 rfl)) ?_
        refine gx_iload (pc := 166) (i := 4) 4 rfl (htL_law_0 (166, .iload 4, 2) (gx_m 27 rfl)) ?_
        refine gx_iconst (pc := 168) (v := 1) (by decide) (htL_law_0 (168, .iconst 1, 1) (gx_m 28 rfl)) ?_
        refine gx_iadd (pc := 169) (htL_law_0 (169, .iadd, 1) (gx_m 29 rfl)) ?_
        refine gx_Jsc (pc := 170) hsc (htL_law_0 (170, .iaload, 1) (gx_m 30 rfl)) (fun v3 => ?_)
        refine gx_Jci (pc := 171) (gx_hstS (as := [gx_r 2 (some [1]), gx_i v3])) (gx_runSW (as := [gx_r 2 (some [1]), gx_i v3]) (ct_X0_nodes Y hT [1] v3) rfl rfl rfl q748 q749 q100 q750 rfl dd_X0_nodes (by decide) (by decide) (Nat.le_of_ble_eq_true rfl) (htL_law_0 (171, .invokestatic 105, 3) (gx_m 31 rfl))) (fun v4 => ?_)
        refine gx_istore (pc := 174) (i := 5) (lv' := [(5, gx_i v4), (0, gx_x x0), (1, gx_r 2 (some [1])), (2, gx_r 17 (some [2])), (3, gx_r 103 (some [3])), (4, gx_i s1)]) (by decide) rfl (htL_law_0 (174, .istore 5, 2) (gx_m 32 rfl)) ?_
        refine gx_aload_n (pc := 176) (n := 2) (i := 2) rfl 3 rfl (htL_law_0 (176, .aload_n 2, 1) (gx_m 33 rfl)) ?_
        refine gx_aload_nx (pc := 177) (n := 0) (i := 0) rfl 1 rfl (htL_law_0 (177, .aload_n 0, 1) (gx_m 34 rfl)) ?_
        refine gx_iload (pc := 178) (i := 4) 5 rfl (htL_law_0 (178, .iload 4, 2) (gx_m 35 rfl)) ?_
        refine gx_iconst (pc := 180) (v := 1) (by decide) (htL_law_0 (180, .iconst 1, 1) (gx_m 36 rfl)) ?_
        refine gx_iadd (pc := 181) (htL_law_0 (181, .iadd, 1) (gx_m 37 rfl)) ?_
        refine gx_Jsc (pc := 182) hsc (htL_law_0 (182, .iaload, 1) (gx_m 38 rfl)) (fun v5 => ?_)
        refine gx_Jcv (pc := 183) (gx_hst (as := [gx_i v5]) (b := gx_r 17 (some [2]))) (gx_runV (as := [gx_i v5]) (ci := 16) (ct_X16_nodes Y [2] v5) (by decide) (Or.inl rfl) rfl rfl rfl rfl q2046 q2047 q2048 q117 q2049 rfl dd_X16_nodes (by decide) (by decide) (Nat.le_of_ble_eq_true rfl) (htL_law_0 (183, .invokevirtual 110, 3) (gx_m 39 rfl))) ?_
        refine gx_aload_n (pc := 186) (n := 2) (i := 2) rfl 3 rfl (htL_law_0 (186, .aload_n 2, 1) (gx_m 40 rfl)) ?_
        refine gx_Jci (pc := 187) (gx_hst (as := []) (b := gx_r 17 (some [2]))) (gx_runV (as := []) (ci := 16) (ct_X16_thrown Y [2]) (by decide) (Or.inl rfl) rfl rfl rfl rfl q2042 q2043 q2044 q117 q2045 rfl dd_X16_thrown (by decide) (by decide) (Nat.le_of_ble_eq_true rfl) (htL_law_0 (187, .invokevirtual 111, 3) (gx_m 41 rfl))) (fun v6 => ?_)
        refine gx_iload (pc := 190) (i := 5) 0 rfl (htL_law_0 (190, .iload 5, 2) (gx_m 42 rfl)) ?_
        refine gx_icmp_eq (pc := 192) (tgt := 197) (by decide) (htL_law_0 (192, .if_icmp .eq 5, 3) (gx_m 43 rfl)) (fun c4 => ?_) (fun c4 => ?_)
        · refine gx_goto (pc := 197) (tgt := 1728) (by decide) (htL_law_0 (197, .goto 1531, 3) (gx_m 46 rfl)) ?_
          refine gx_iinc (pc := 1728) (i := 4) (j := 5) (v := (s1 + 6)) (lv' := [(4, gx_i (s1 + 6)), (5, gx_i v4), (0, gx_x x0), (1, gx_r 2 (some [1])), (2, gx_r 17 (some [2])), (3, gx_r 103 (some [3]))]) rfl (gx_iv (by decide)) (by decide) rfl (htL_law_10 (1728, .iinc 4 6, 3) (gx_m 62 rfl)) ?_
          refine gx_goto (pc := 1731) (tgt := 23) (by decide) (htL_law_10 (1731, .goto (-1708), 3) (gx_m 63 rfl)) ?_
          refine gx_Jw (lv := [(0, gx_x x0), (1, gx_r 2 (some [1])), (2, gx_r 17 (some [2])), (3, gx_r 103 (some [3])), (4, gx_i (s1 + 6))]) [2, 3, 4, 5, 0] rfl ?_
          exact ha1 ((s1 + 6) : Int32)
        · refine gx_iconst (pc := 195) (v := 0) (by decide) (htL_law_0 (195, .iconst 0, 1) (gx_m 44 rfl)) ?_
          refine gx_Jret ((hb1 _).trans (he1 _)) ?_
          exact gx_Jzret (pc := 196) rfl gx_b0 (fun _ => gx_b0) (fun _ _ => rfl) (htL_law_0 (196, .ireturn, 1) (gx_m 45 rfl))
      · refine gx_Jite (fun c5 => ?_) (fun c5 => ?_)
        · refine gx_Jtab (pc := 40) (tgt := 200) (htL_law_0 (40, .tableswitch 1688 0 26 #[124, 160, 264, 320, 380, 428, 464, 540, 596, 607, 643, 679, 735, 783, 819, 883, 919, 975, 1031, 1111, 1191, 1295, 1399, 1447, 1527, 1595, 1663], 124) (gx_m 24 rfl)) (by decide) (gx_tD c5 (by decide)) (gx_tI c5 (by decide)) ?_
          refine gx_aload_n (pc := 200) (n := 1) (i := 1) rfl 1 rfl (htL_law_0 (200, .aload_n 1, 1) (gx_m 47 rfl)) ?_
          refine gx_aload_nx (pc := 201) (n := 0) (i := 0) rfl 0 rfl (htL_law_0 (201, .aload_n 0, 1) (gx_m 48 rfl)) ?_
          refine gx_iload (pc := 202) (i := 4) 4 rfl (htL_law_0 (202, .iload 4, 2) (gx_m 49 rfl)) ?_
          refine gx_iconst (pc := 204) (v := 1) (by decide) (htL_law_0 (204, .iconst 1, 1) (gx_m 50 rfl)) ?_
          refine gx_iadd (pc := 205) (htL_law_0 (205, .iadd, 1) (gx_m 51 rfl)) ?_
          refine gx_Jsc (pc := 206) hsc (htL_law_0 (206, .iaload, 1) (gx_m 52 rfl)) (fun v7 => ?_)
          refine gx_aload_nx (pc := 207) (n := 0) (i := 0) rfl 0 rfl (htL_law_0 (207, .aload_n 0, 1) (gx_m 53 rfl)) ?_
          refine gx_iload (pc := 208) (i := 4) 4 rfl (htL_law_0 (208, .iload 4, 2) (gx_m 54 rfl)) ?_
          refine gx_iconst (pc := 210) (v := 2) (by decide) (htL_law_0 (210, .iconst 2, 1) (gx_m 55 rfl)) ?_
          refine gx_iadd (pc := 211) (htL_law_0 (211, .iadd, 1) (gx_m 56 rfl)) ?_
          refine gx_Jsc (pc := 212) hsc (htL_law_0 (212, .iaload, 1) (gx_m 57 rfl)) (fun v8 => ?_)
          refine gx_aload_nx (pc := 213) (n := 0) (i := 0) rfl 0 rfl (htL_law_0 (213, .aload_n 0, 1) (gx_m 58 rfl)) ?_
          refine gx_iload (pc := 214) (i := 4) 4 rfl (htL_law_0 (214, .iload 4, 2) (gx_m 59 rfl)) ?_
          refine gx_iconst (pc := 216) (v := 3) (by decide) (htL_law_0 (216, .iconst 3, 1) (gx_m 60 rfl)) ?_
          refine gx_iadd (pc := 217) (htL_law_0 (217, .iadd, 1) (gx_m 61 rfl)) ?_
          refine gx_Jsc (pc := 218) hsc (htL_law_0 (218, .iaload, 1) (gx_m 62 rfl)) (fun v9 => ?_)
          refine gx_aload_nx (pc := 219) (n := 0) (i := 0) rfl 0 rfl (htL_law_0 (219, .aload_n 0, 1) (gx_m 63 rfl)) ?_
          refine gx_iload (pc := 220) (i := 4) 4 rfl (htL_law_0 (220, .iload 4, 2) (gx_m 64 rfl)) ?_
          refine gx_iconst (pc := 222) (v := 4) (by decide) (htL_law_0 (222, .iconst 4, 1) (gx_m 65 rfl)) ?_
          refine gx_iadd (pc := 223) (htL_law_0 (223, .iadd, 1) (gx_m 66 rfl)) ?_
          refine gx_Jsc (pc := 224) hsc (htL_law_0 (224, .iaload, 1) (gx_m 67 rfl)) (fun v10 => ?_)
          refine gx_aload_nx (pc := 225) (n := 0) (i := 0) rfl 0 rfl (htL_law_0 (225, .aload_n 0, 1) (gx_m 68 rfl)) ?_
          refine gx_iload (pc := 226) (i := 4) 4 rfl (htL_law_0 (226, .iload 4, 2) (gx_m 69 rfl)) ?_
          refine gx_iconst (pc := 228) (v := 5) (by decide) (htL_law_0 (228, .iconst 5, 1) (gx_m 70 rfl)) ?_
          refine gx_iadd (pc := 229) (htL_law_0 (229, .iadd, 1) (gx_m 71 rfl)) ?_
          refine gx_Jsc (pc := 230) hsc (htL_law_0 (230, .iaload, 1) (gx_m 72 rfl)) (fun v11 => ?_)
          refine gx_aload_n (pc := 231) (n := 3) (i := 3) rfl 3 rfl (htL_law_0 (231, .aload_n 3, 1) (gx_m 73 rfl)) ?_
          refine gx_Jci (pc := 232) (gx_hstS (as := [gx_r 2 (some [1]), gx_i v7, gx_i v8, gx_i v9, gx_i v10, gx_i v11, gx_r 103 (some [3])])) (gx_runSW (as := [gx_r 2 (some [1]), gx_i v7, gx_i v8, gx_i v9, gx_i v10, gx_i v11, gx_r 103 (some [3])]) (ct_X0_feed Y hT [1] v7 v8 v9 v10 v11 [3]) rfl rfl rfl q870 q871 q100 q872 rfl dd_X0_feed (by decide) (by decide) (Nat.le_of_ble_eq_true rfl) (htL_law_0 (232, .invokestatic 115, 3) (gx_m 74 rfl))) (fun v12 => ?_)
          refine gx_istore (pc := 235) (i := 5) (lv' := [(5, gx_i v12), (0, gx_x x0), (1, gx_r 2 (some [1])), (2, gx_r 17 (some [2])), (3, gx_r 103 (some [3])), (4, gx_i s1)]) (by decide) rfl (htL_law_0 (235, .istore 5, 2) (gx_m 75 rfl)) ?_
          refine gx_aload_n (pc := 237) (n := 2) (i := 2) rfl 3 rfl (htL_law_0 (237, .aload_n 2, 1) (gx_m 76 rfl)) ?_
          refine gx_aload_nx (pc := 238) (n := 0) (i := 0) rfl 1 rfl (htL_law_0 (238, .aload_n 0, 1) (gx_m 77 rfl)) ?_
          refine gx_iload (pc := 239) (i := 4) 5 rfl (htL_law_0 (239, .iload 4, 2) (gx_m 78 rfl)) ?_
          refine gx_iconst (pc := 241) (v := 1) (by decide) (htL_law_0 (241, .iconst 1, 1) (gx_m 79 rfl)) ?_
          refine gx_iadd (pc := 242) (htL_law_0 (242, .iadd, 1) (gx_m 80 rfl)) ?_
          refine gx_Jsc (pc := 243) hsc (htL_law_0 (243, .iaload, 1) (gx_m 81 rfl)) (fun v13 => ?_)
          refine gx_aload_nx (pc := 244) (n := 0) (i := 0) rfl 1 rfl (htL_law_0 (244, .aload_n 0, 1) (gx_m 82 rfl)) ?_
          refine gx_iload (pc := 245) (i := 4) 5 rfl (htL_law_0 (245, .iload 4, 2) (gx_m 83 rfl)) ?_
          refine gx_iconst (pc := 247) (v := 2) (by decide) (htL_law_0 (247, .iconst 2, 1) (gx_m 84 rfl)) ?_
          refine gx_iadd (pc := 248) (htL_law_0 (248, .iadd, 1) (gx_m 85 rfl)) ?_
          refine gx_Jsc (pc := 249) hsc (htL_law_0 (249, .iaload, 1) (gx_m 86 rfl)) (fun v14 => ?_)
          refine gx_aload_nx (pc := 250) (n := 0) (i := 0) rfl 1 rfl (htL_law_0 (250, .aload_n 0, 1) (gx_m 87 rfl)) ?_
          refine gx_iload (pc := 251) (i := 4) 5 rfl (htL_law_0 (251, .iload 4, 2) (gx_m 88 rfl)) ?_
          refine gx_iconst (pc := 253) (v := 3) (by decide) (htL_law_0 (253, .iconst 3, 1) (gx_m 89 rfl)) ?_
          refine gx_iadd (pc := 254) (htL_law_0 (254, .iadd, 1) (gx_m 90 rfl)) ?_
          refine gx_Jsc (pc := 255) hsc (htL_law_0 (255, .iaload, 1) (gx_m 91 rfl)) (fun v15 => ?_)
          refine gx_aload_nx (pc := 256) (n := 0) (i := 0) rfl 1 rfl (htL_law_0 (256, .aload_n 0, 1) (gx_m 92 rfl)) ?_
          refine gx_iload (pc := 257) (i := 4) 5 rfl (htL_law_0 (257, .iload 4, 2) (gx_m 93 rfl)) ?_
          refine gx_iconst (pc := 259) (v := 4) (by decide) (htL_law_0 (259, .iconst 4, 1) (gx_m 94 rfl)) ?_
          refine gx_iadd (pc := 260) (htL_law_0 (260, .iadd, 1) (gx_m 95 rfl)) ?_
          refine gx_Jsc (pc := 261) hsc (htL_law_0 (261, .iaload, 1) (gx_m 96 rfl)) (fun v16 => ?_)
          refine gx_aload_nx (pc := 262) (n := 0) (i := 0) rfl 1 rfl (htL_law_0 (262, .aload_n 0, 1) (gx_m 97 rfl)) ?_
          refine gx_iload (pc := 263) (i := 4) 5 rfl (htL_law_0 (263, .iload 4, 2) (gx_m 98 rfl)) ?_
          refine gx_iconst (pc := 265) (v := 5) (by decide) (htL_law_0 (265, .iconst 5, 1) (gx_m 99 rfl)) ?_
          refine gx_iadd (pc := 266) (htL_law_1 (266, .iadd, 1) (gx_m 0 rfl)) ?_
          refine gx_Jsc (pc := 267) hsc (htL_law_1 (267, .iaload, 1) (gx_m 1 rfl)) (fun v17 => ?_)
          refine gx_Jci (pc := 268) (gx_hst (as := [gx_i v13, gx_i v14, gx_i v15, gx_i v16, gx_i v17]) (b := gx_r 17 (some [2]))) (gx_runV (as := [gx_i v13, gx_i v14, gx_i v15, gx_i v16, gx_i v17]) (ci := 16) (ct_X16_feed Y [2] v13 v14 v15 v16 v17) (by decide) (Or.inl rfl) rfl rfl rfl rfl q2058 q2059 q2060 q117 q2061 rfl dd_X16_feed (by decide) (by decide) (Nat.le_of_ble_eq_true rfl) (htL_law_1 (268, .invokevirtual 118, 3) (gx_m 2 rfl))) (fun v18 => ?_)
          refine gx_istore (pc := 271) (i := 6) (lv' := [(6, gx_i v18), (5, gx_i v12), (0, gx_x x0), (1, gx_r 2 (some [1])), (2, gx_r 17 (some [2])), (3, gx_r 103 (some [3])), (4, gx_i s1)]) (by decide) rfl (htL_law_1 (271, .istore 6, 2) (gx_m 3 rfl)) ?_
          refine gx_aload_n (pc := 273) (n := 2) (i := 2) rfl 4 rfl (htL_law_1 (273, .aload_n 2, 1) (gx_m 4 rfl)) ?_
          refine gx_Jci (pc := 274) (gx_hst (as := []) (b := gx_r 17 (some [2]))) (gx_runV (as := []) (ci := 16) (ct_X16_thrown Y [2]) (by decide) (Or.inl rfl) rfl rfl rfl rfl q2042 q2043 q2044 q117 q2045 rfl dd_X16_thrown (by decide) (by decide) (Nat.le_of_ble_eq_true rfl) (htL_law_1 (274, .invokevirtual 111, 3) (gx_m 5 rfl))) (fun v19 => ?_)
          refine gx_iload (pc := 277) (i := 5) 1 rfl (htL_law_1 (277, .iload 5, 2) (gx_m 6 rfl)) ?_
          refine gx_icmp_eq (pc := 279) (tgt := 284) (by decide) (htL_law_1 (279, .if_icmp .eq 5, 3) (gx_m 7 rfl)) (fun c6 => ?_) (fun c6 => ?_)
          · refine gx_iload (pc := 284) (i := 5) 1 rfl (htL_law_1 (284, .iload 5, 2) (gx_m 10 rfl)) ?_
            refine gx_if_ne (pc := 286) (y := 0) (tgt := 301) (by decide) (htL_law_1 (286, .ifCond .ne 15, 3) (gx_m 11 rfl)) (fun c7 => ?_) (fun c7 => ?_)
            · refine gx_aload_n (pc := 289) (n := 3) (i := 3) rfl 5 rfl (htL_law_1 (289, .aload_n 3, 1) (gx_m 12 rfl)) ?_
              refine gx_iconst (pc := 290) (v := 0) (by decide) (htL_law_1 (290, .iconst 0, 1) (gx_m 13 rfl)) ?_
              refine gx_Jla (pc := 291) (htL_law_1 (291, .laload, 1) (gx_m 14 rfl)) (fun v20 => ?_)
              refine gx_iload (pc := 292) (i := 6) 0 rfl (htL_law_1 (292, .iload 6, 2) (gx_m 15 rfl)) ?_
              refine gx_i2l (pc := 294) (htL_law_1 (294, .i2l, 1) (gx_m 16 rfl)) ?_
              refine gx_lcmp (pc := 295) (htL_law_1 (295, .lcmp, 1) (gx_m 17 rfl)) ?_
              refine gx_if_eq (pc := 296) (y := 0) (tgt := 301) (by decide) (htL_law_1 (296, .ifCond .eq 5, 3) (gx_m 18 rfl)) (fun c8 => ?_) (fun c8 => ?_)
              · refine gx_goto (pc := 301) (tgt := 1728) (by decide) (htL_law_1 (301, .goto 1427, 3) (gx_m 21 rfl)) ?_
                refine gx_iinc (pc := 1728) (i := 4) (j := 6) (v := (s1 + 6)) (lv' := [(4, gx_i (s1 + 6)), (6, gx_i v18), (5, gx_i v12), (0, gx_x x0), (1, gx_r 2 (some [1])), (2, gx_r 17 (some [2])), (3, gx_r 103 (some [3]))]) rfl (gx_iv (by decide)) (by decide) rfl (htL_law_10 (1728, .iinc 4 6, 3) (gx_m 62 rfl)) ?_
                refine gx_goto (pc := 1731) (tgt := 23) (by decide) (htL_law_10 (1731, .goto (-1708), 3) (gx_m 63 rfl)) ?_
                refine gx_Jw (lv := [(0, gx_x x0), (1, gx_r 2 (some [1])), (2, gx_r 17 (some [2])), (3, gx_r 103 (some [3])), (4, gx_i (s1 + 6))]) [3, 4, 5, 6, 0] rfl ?_
                exact ha1 ((s1 + 6) : Int32)
              · refine gx_iconst (pc := 299) (v := 0) (by decide) (htL_law_1 (299, .iconst 0, 1) (gx_m 19 rfl)) ?_
                refine gx_Jret ((hb1 _).trans (he1 _)) ?_
                exact gx_Jzret (pc := 300) rfl gx_b0 (fun _ => gx_b0) (fun _ _ => rfl) (htL_law_1 (300, .ireturn, 1) (gx_m 20 rfl))
            · refine gx_goto (pc := 301) (tgt := 1728) (by decide) (htL_law_1 (301, .goto 1427, 3) (gx_m 21 rfl)) ?_
              refine gx_iinc (pc := 1728) (i := 4) (j := 6) (v := (s1 + 6)) (lv' := [(4, gx_i (s1 + 6)), (6, gx_i v18), (5, gx_i v12), (0, gx_x x0), (1, gx_r 2 (some [1])), (2, gx_r 17 (some [2])), (3, gx_r 103 (some [3]))]) rfl (gx_iv (by decide)) (by decide) rfl (htL_law_10 (1728, .iinc 4 6, 3) (gx_m 62 rfl)) ?_
              refine gx_goto (pc := 1731) (tgt := 23) (by decide) (htL_law_10 (1731, .goto (-1708), 3) (gx_m 63 rfl)) ?_
              refine gx_Jw (lv := [(0, gx_x x0), (1, gx_r 2 (some [1])), (2, gx_r 17 (some [2])), (3, gx_r 103 (some [3])), (4, gx_i (s1 + 6))]) [3, 4, 5, 6, 0] rfl ?_
              exact ha1 ((s1 + 6) : Int32)
          · refine gx_iconst (pc := 282) (v := 0) (by decide) (htL_law_1 (282, .iconst 0, 1) (gx_m 8 rfl)) ?_
            refine gx_Jret ((hb1 _).trans (he1 _)) ?_
            exact gx_Jzret (pc := 283) rfl gx_b0 (fun _ => gx_b0) (fun _ _ => rfl) (htL_law_1 (283, .ireturn, 1) (gx_m 9 rfl))
        · refine gx_Jite (fun c9 => ?_) (fun c9 => ?_)
          · refine gx_Jtab (pc := 40) (tgt := 304) (htL_law_0 (40, .tableswitch 1688 0 26 #[124, 160, 264, 320, 380, 428, 464, 540, 596, 607, 643, 679, 735, 783, 819, 883, 919, 975, 1031, 1111, 1191, 1295, 1399, 1447, 1527, 1595, 1663], 124) (gx_m 24 rfl)) (by decide) (gx_tD c9 (by decide)) (gx_tI c9 (by decide)) ?_
            refine gx_aload_n (pc := 304) (n := 1) (i := 1) rfl 1 rfl (htL_law_1 (304, .aload_n 1, 1) (gx_m 22 rfl)) ?_
            refine gx_aload_nx (pc := 305) (n := 0) (i := 0) rfl 0 rfl (htL_law_1 (305, .aload_n 0, 1) (gx_m 23 rfl)) ?_
            refine gx_iload (pc := 306) (i := 4) 4 rfl (htL_law_1 (306, .iload 4, 2) (gx_m 24 rfl)) ?_
            refine gx_iconst (pc := 308) (v := 1) (by decide) (htL_law_1 (308, .iconst 1, 1) (gx_m 25 rfl)) ?_
            refine gx_iadd (pc := 309) (htL_law_1 (309, .iadd, 1) (gx_m 26 rfl)) ?_
            refine gx_Jsc (pc := 310) hsc (htL_law_1 (310, .iaload, 1) (gx_m 27 rfl)) (fun v21 => ?_)
            refine gx_aload_n (pc := 311) (n := 3) (i := 3) rfl 3 rfl (htL_law_1 (311, .aload_n 3, 1) (gx_m 28 rfl)) ?_
            refine gx_Jci (pc := 312) (gx_hstS (as := [gx_r 2 (some [1]), gx_i v21, gx_r 103 (some [3])])) (gx_runSW (as := [gx_r 2 (some [1]), gx_i v21, gx_r 103 (some [3])]) (ct_X0_end Y hT [1] v21 [3]) rfl rfl rfl q932 q933 q100 q934 rfl dd_X0_end (by decide) (by decide) (Nat.le_of_ble_eq_true rfl) (htL_law_1 (312, .invokestatic 119, 3) (gx_m 29 rfl))) (fun v22 => ?_)
            refine gx_istore (pc := 315) (i := 5) (lv' := [(5, gx_i v22), (0, gx_x x0), (1, gx_r 2 (some [1])), (2, gx_r 17 (some [2])), (3, gx_r 103 (some [3])), (4, gx_i s1)]) (by decide) rfl (htL_law_1 (315, .istore 5, 2) (gx_m 30 rfl)) ?_
            refine gx_aload_n (pc := 317) (n := 2) (i := 2) rfl 3 rfl (htL_law_1 (317, .aload_n 2, 1) (gx_m 31 rfl)) ?_
            refine gx_aload_nx (pc := 318) (n := 0) (i := 0) rfl 1 rfl (htL_law_1 (318, .aload_n 0, 1) (gx_m 32 rfl)) ?_
            refine gx_iload (pc := 319) (i := 4) 5 rfl (htL_law_1 (319, .iload 4, 2) (gx_m 33 rfl)) ?_
            refine gx_iconst (pc := 321) (v := 1) (by decide) (htL_law_1 (321, .iconst 1, 1) (gx_m 34 rfl)) ?_
            refine gx_iadd (pc := 322) (htL_law_1 (322, .iadd, 1) (gx_m 35 rfl)) ?_
            refine gx_Jsc (pc := 323) hsc (htL_law_1 (323, .iaload, 1) (gx_m 36 rfl)) (fun v23 => ?_)
            refine gx_Jci (pc := 324) (gx_hst (as := [gx_i v23]) (b := gx_r 17 (some [2]))) (gx_runV (as := [gx_i v23]) (ci := 16) (ct_X16_end Y [2] v23) (by decide) (Or.inl rfl) rfl rfl rfl rfl q2066 q2067 q2068 q117 q2069 rfl dd_X16_end (by decide) (by decide) (Nat.le_of_ble_eq_true rfl) (htL_law_1 (324, .invokevirtual 122, 3) (gx_m 37 rfl))) (fun v24 => ?_)
            refine gx_istore (pc := 327) (i := 6) (lv' := [(6, gx_i v24), (5, gx_i v22), (0, gx_x x0), (1, gx_r 2 (some [1])), (2, gx_r 17 (some [2])), (3, gx_r 103 (some [3])), (4, gx_i s1)]) (by decide) rfl (htL_law_1 (327, .istore 6, 2) (gx_m 38 rfl)) ?_
            refine gx_aload_n (pc := 329) (n := 2) (i := 2) rfl 4 rfl (htL_law_1 (329, .aload_n 2, 1) (gx_m 39 rfl)) ?_
            refine gx_Jci (pc := 330) (gx_hst (as := []) (b := gx_r 17 (some [2]))) (gx_runV (as := []) (ci := 16) (ct_X16_thrown Y [2]) (by decide) (Or.inl rfl) rfl rfl rfl rfl q2042 q2043 q2044 q117 q2045 rfl dd_X16_thrown (by decide) (by decide) (Nat.le_of_ble_eq_true rfl) (htL_law_1 (330, .invokevirtual 111, 3) (gx_m 40 rfl))) (fun v25 => ?_)
            refine gx_iload (pc := 333) (i := 5) 1 rfl (htL_law_1 (333, .iload 5, 2) (gx_m 41 rfl)) ?_
            refine gx_icmp_eq (pc := 335) (tgt := 340) (by decide) (htL_law_1 (335, .if_icmp .eq 5, 3) (gx_m 42 rfl)) (fun c10 => ?_) (fun c10 => ?_)
            · refine gx_iload (pc := 340) (i := 5) 1 rfl (htL_law_1 (340, .iload 5, 2) (gx_m 45 rfl)) ?_
              refine gx_if_ne (pc := 342) (y := 0) (tgt := 357) (by decide) (htL_law_1 (342, .ifCond .ne 15, 3) (gx_m 46 rfl)) (fun c11 => ?_) (fun c11 => ?_)
              · refine gx_aload_n (pc := 345) (n := 3) (i := 3) rfl 5 rfl (htL_law_1 (345, .aload_n 3, 1) (gx_m 47 rfl)) ?_
                refine gx_iconst (pc := 346) (v := 0) (by decide) (htL_law_1 (346, .iconst 0, 1) (gx_m 48 rfl)) ?_
                refine gx_Jla (pc := 347) (htL_law_1 (347, .laload, 1) (gx_m 49 rfl)) (fun v26 => ?_)
                refine gx_iload (pc := 348) (i := 6) 0 rfl (htL_law_1 (348, .iload 6, 2) (gx_m 50 rfl)) ?_
                refine gx_i2l (pc := 350) (htL_law_1 (350, .i2l, 1) (gx_m 51 rfl)) ?_
                refine gx_lcmp (pc := 351) (htL_law_1 (351, .lcmp, 1) (gx_m 52 rfl)) ?_
                refine gx_if_eq (pc := 352) (y := 0) (tgt := 357) (by decide) (htL_law_1 (352, .ifCond .eq 5, 3) (gx_m 53 rfl)) (fun c12 => ?_) (fun c12 => ?_)
                · refine gx_goto (pc := 357) (tgt := 1728) (by decide) (htL_law_1 (357, .goto 1371, 3) (gx_m 56 rfl)) ?_
                  refine gx_iinc (pc := 1728) (i := 4) (j := 6) (v := (s1 + 6)) (lv' := [(4, gx_i (s1 + 6)), (6, gx_i v24), (5, gx_i v22), (0, gx_x x0), (1, gx_r 2 (some [1])), (2, gx_r 17 (some [2])), (3, gx_r 103 (some [3]))]) rfl (gx_iv (by decide)) (by decide) rfl (htL_law_10 (1728, .iinc 4 6, 3) (gx_m 62 rfl)) ?_
                  refine gx_goto (pc := 1731) (tgt := 23) (by decide) (htL_law_10 (1731, .goto (-1708), 3) (gx_m 63 rfl)) ?_
                  refine gx_Jw (lv := [(0, gx_x x0), (1, gx_r 2 (some [1])), (2, gx_r 17 (some [2])), (3, gx_r 103 (some [3])), (4, gx_i (s1 + 6))]) [3, 4, 5, 6, 0] rfl ?_
                  exact ha1 ((s1 + 6) : Int32)
                · refine gx_iconst (pc := 355) (v := 0) (by decide) (htL_law_1 (355, .iconst 0, 1) (gx_m 54 rfl)) ?_
                  refine gx_Jret ((hb1 _).trans (he1 _)) ?_
                  exact gx_Jzret (pc := 356) rfl gx_b0 (fun _ => gx_b0) (fun _ _ => rfl) (htL_law_1 (356, .ireturn, 1) (gx_m 55 rfl))
              · refine gx_goto (pc := 357) (tgt := 1728) (by decide) (htL_law_1 (357, .goto 1371, 3) (gx_m 56 rfl)) ?_
                refine gx_iinc (pc := 1728) (i := 4) (j := 6) (v := (s1 + 6)) (lv' := [(4, gx_i (s1 + 6)), (6, gx_i v24), (5, gx_i v22), (0, gx_x x0), (1, gx_r 2 (some [1])), (2, gx_r 17 (some [2])), (3, gx_r 103 (some [3]))]) rfl (gx_iv (by decide)) (by decide) rfl (htL_law_10 (1728, .iinc 4 6, 3) (gx_m 62 rfl)) ?_
                refine gx_goto (pc := 1731) (tgt := 23) (by decide) (htL_law_10 (1731, .goto (-1708), 3) (gx_m 63 rfl)) ?_
                refine gx_Jw (lv := [(0, gx_x x0), (1, gx_r 2 (some [1])), (2, gx_r 17 (some [2])), (3, gx_r 103 (some [3])), (4, gx_i (s1 + 6))]) [3, 4, 5, 6, 0] rfl ?_
                exact ha1 ((s1 + 6) : Int32)
            · refine gx_iconst (pc := 338) (v := 0) (by decide) (htL_law_1 (338, .iconst 0, 1) (gx_m 43 rfl)) ?_
              refine gx_Jret ((hb1 _).trans (he1 _)) ?_
              exact gx_Jzret (pc := 339) rfl gx_b0 (fun _ => gx_b0) (fun _ _ => rfl) (htL_law_1 (339, .ireturn, 1) (gx_m 44 rfl))
          · refine gx_Jite (fun c13 => ?_) (fun c13 => ?_)
            · refine gx_Jtab (pc := 40) (tgt := 360) (htL_law_0 (40, .tableswitch 1688 0 26 #[124, 160, 264, 320, 380, 428, 464, 540, 596, 607, 643, 679, 735, 783, 819, 883, 919, 975, 1031, 1111, 1191, 1295, 1399, 1447, 1527, 1595, 1663], 124) (gx_m 24 rfl)) (by decide) (gx_tD c13 (by decide)) (gx_tI c13 (by decide)) ?_
              refine gx_aload_n (pc := 360) (n := 1) (i := 1) rfl 1 rfl (htL_law_1 (360, .aload_n 1, 1) (gx_m 57 rfl)) ?_
              refine gx_aload_nx (pc := 361) (n := 0) (i := 0) rfl 0 rfl (htL_law_1 (361, .aload_n 0, 1) (gx_m 58 rfl)) ?_
              refine gx_iload (pc := 362) (i := 4) 4 rfl (htL_law_1 (362, .iload 4, 2) (gx_m 59 rfl)) ?_
              refine gx_iconst (pc := 364) (v := 1) (by decide) (htL_law_1 (364, .iconst 1, 1) (gx_m 60 rfl)) ?_
              refine gx_iadd (pc := 365) (htL_law_1 (365, .iadd, 1) (gx_m 61 rfl)) ?_
              refine gx_Jsc (pc := 366) hsc (htL_law_1 (366, .iaload, 1) (gx_m 62 rfl)) (fun v27 => ?_)
              refine gx_aload_nx (pc := 367) (n := 0) (i := 0) rfl 0 rfl (htL_law_1 (367, .aload_n 0, 1) (gx_m 63 rfl)) ?_
              refine gx_iload (pc := 368) (i := 4) 4 rfl (htL_law_1 (368, .iload 4, 2) (gx_m 64 rfl)) ?_
              refine gx_iconst (pc := 370) (v := 2) (by decide) (htL_law_1 (370, .iconst 2, 1) (gx_m 65 rfl)) ?_
              refine gx_iadd (pc := 371) (htL_law_1 (371, .iadd, 1) (gx_m 66 rfl)) ?_
              refine gx_Jsc (pc := 372) hsc (htL_law_1 (372, .iaload, 1) (gx_m 67 rfl)) (fun v28 => ?_)
              refine gx_aload_nx (pc := 373) (n := 0) (i := 0) rfl 0 rfl (htL_law_1 (373, .aload_n 0, 1) (gx_m 68 rfl)) ?_
              refine gx_iload (pc := 374) (i := 4) 4 rfl (htL_law_1 (374, .iload 4, 2) (gx_m 69 rfl)) ?_
              refine gx_iconst (pc := 376) (v := 3) (by decide) (htL_law_1 (376, .iconst 3, 1) (gx_m 70 rfl)) ?_
              refine gx_iadd (pc := 377) (htL_law_1 (377, .iadd, 1) (gx_m 71 rfl)) ?_
              refine gx_Jsc (pc := 378) hsc (htL_law_1 (378, .iaload, 1) (gx_m 72 rfl)) (fun v29 => ?_)
              refine gx_Jci (pc := 379) (gx_hstS (as := [gx_r 2 (some [1]), gx_i v27, gx_i v28, gx_i v29])) (gx_runSW (as := [gx_r 2 (some [1]), gx_i v27, gx_i v28, gx_i v29]) (ct_X0_when Y hT [1] v27 v28 v29) rfl rfl rfl q944 q945 q100 q946 rfl dd_X0_when (by decide) (by decide) (Nat.le_of_ble_eq_true rfl) (htL_law_1 (379, .invokestatic 123, 3) (gx_m 73 rfl))) (fun v30 => ?_)
              refine gx_istore (pc := 382) (i := 5) (lv' := [(5, gx_i v30), (0, gx_x x0), (1, gx_r 2 (some [1])), (2, gx_r 17 (some [2])), (3, gx_r 103 (some [3])), (4, gx_i s1)]) (by decide) rfl (htL_law_1 (382, .istore 5, 2) (gx_m 74 rfl)) ?_
              refine gx_aload_n (pc := 384) (n := 2) (i := 2) rfl 3 rfl (htL_law_1 (384, .aload_n 2, 1) (gx_m 75 rfl)) ?_
              refine gx_aload_nx (pc := 385) (n := 0) (i := 0) rfl 1 rfl (htL_law_1 (385, .aload_n 0, 1) (gx_m 76 rfl)) ?_
              refine gx_iload (pc := 386) (i := 4) 5 rfl (htL_law_1 (386, .iload 4, 2) (gx_m 77 rfl)) ?_
              refine gx_iconst (pc := 388) (v := 1) (by decide) (htL_law_1 (388, .iconst 1, 1) (gx_m 78 rfl)) ?_
              refine gx_iadd (pc := 389) (htL_law_1 (389, .iadd, 1) (gx_m 79 rfl)) ?_
              refine gx_Jsc (pc := 390) hsc (htL_law_1 (390, .iaload, 1) (gx_m 80 rfl)) (fun v31 => ?_)
              refine gx_aload_nx (pc := 391) (n := 0) (i := 0) rfl 1 rfl (htL_law_1 (391, .aload_n 0, 1) (gx_m 81 rfl)) ?_
              refine gx_iload (pc := 392) (i := 4) 5 rfl (htL_law_1 (392, .iload 4, 2) (gx_m 82 rfl)) ?_
              refine gx_iconst (pc := 394) (v := 2) (by decide) (htL_law_1 (394, .iconst 2, 1) (gx_m 83 rfl)) ?_
              refine gx_iadd (pc := 395) (htL_law_1 (395, .iadd, 1) (gx_m 84 rfl)) ?_
              refine gx_Jsc (pc := 396) hsc (htL_law_1 (396, .iaload, 1) (gx_m 85 rfl)) (fun v32 => ?_)
              refine gx_aload_nx (pc := 397) (n := 0) (i := 0) rfl 1 rfl (htL_law_1 (397, .aload_n 0, 1) (gx_m 86 rfl)) ?_
              refine gx_iload (pc := 398) (i := 4) 5 rfl (htL_law_1 (398, .iload 4, 2) (gx_m 87 rfl)) ?_
              refine gx_iconst (pc := 400) (v := 3) (by decide) (htL_law_1 (400, .iconst 3, 1) (gx_m 88 rfl)) ?_
              refine gx_iadd (pc := 401) (htL_law_1 (401, .iadd, 1) (gx_m 89 rfl)) ?_
              refine gx_Jsc (pc := 402) hsc (htL_law_1 (402, .iaload, 1) (gx_m 90 rfl)) (fun v33 => ?_)
              refine gx_Jcv (pc := 403) (gx_hst (as := [gx_i v31, gx_i v32, gx_i v33]) (b := gx_r 17 (some [2]))) (gx_runV (as := [gx_i v31, gx_i v32, gx_i v33]) (ci := 16) (ct_X16_when Y [2] v31 v32 v33) (by decide) (Or.inl rfl) rfl rfl rfl rfl q2070 q2071 q2072 q117 q2073 rfl dd_X16_when (by decide) (by decide) (Nat.le_of_ble_eq_true rfl) (htL_law_1 (403, .invokevirtual 126, 3) (gx_m 91 rfl))) ?_
              refine gx_aload_n (pc := 406) (n := 2) (i := 2) rfl 3 rfl (htL_law_1 (406, .aload_n 2, 1) (gx_m 92 rfl)) ?_
              refine gx_Jci (pc := 407) (gx_hst (as := []) (b := gx_r 17 (some [2]))) (gx_runV (as := []) (ci := 16) (ct_X16_thrown Y [2]) (by decide) (Or.inl rfl) rfl rfl rfl rfl q2042 q2043 q2044 q117 q2045 rfl dd_X16_thrown (by decide) (by decide) (Nat.le_of_ble_eq_true rfl) (htL_law_1 (407, .invokevirtual 111, 3) (gx_m 93 rfl))) (fun v34 => ?_)
              refine gx_iload (pc := 410) (i := 5) 0 rfl (htL_law_1 (410, .iload 5, 2) (gx_m 94 rfl)) ?_
              refine gx_icmp_eq (pc := 412) (tgt := 417) (by decide) (htL_law_1 (412, .if_icmp .eq 5, 3) (gx_m 95 rfl)) (fun c14 => ?_) (fun c14 => ?_)
              · refine gx_goto (pc := 417) (tgt := 1728) (by decide) (htL_law_1 (417, .goto 1311, 3) (gx_m 98 rfl)) ?_
                refine gx_iinc (pc := 1728) (i := 4) (j := 5) (v := (s1 + 6)) (lv' := [(4, gx_i (s1 + 6)), (5, gx_i v30), (0, gx_x x0), (1, gx_r 2 (some [1])), (2, gx_r 17 (some [2])), (3, gx_r 103 (some [3]))]) rfl (gx_iv (by decide)) (by decide) rfl (htL_law_10 (1728, .iinc 4 6, 3) (gx_m 62 rfl)) ?_
                refine gx_goto (pc := 1731) (tgt := 23) (by decide) (htL_law_10 (1731, .goto (-1708), 3) (gx_m 63 rfl)) ?_
                refine gx_Jw (lv := [(0, gx_x x0), (1, gx_r 2 (some [1])), (2, gx_r 17 (some [2])), (3, gx_r 103 (some [3])), (4, gx_i (s1 + 6))]) [2, 3, 4, 5, 0] rfl ?_
                exact ha1 ((s1 + 6) : Int32)
              · refine gx_iconst (pc := 415) (v := 0) (by decide) (htL_law_1 (415, .iconst 0, 1) (gx_m 96 rfl)) ?_
                refine gx_Jret ((hb1 _).trans (he1 _)) ?_
                exact gx_Jzret (pc := 416) rfl gx_b0 (fun _ => gx_b0) (fun _ _ => rfl) (htL_law_1 (416, .ireturn, 1) (gx_m 97 rfl))
            · refine gx_Jite (fun c15 => ?_) (fun c15 => ?_)
              · refine gx_Jtab (pc := 40) (tgt := 420) (htL_law_0 (40, .tableswitch 1688 0 26 #[124, 160, 264, 320, 380, 428, 464, 540, 596, 607, 643, 679, 735, 783, 819, 883, 919, 975, 1031, 1111, 1191, 1295, 1399, 1447, 1527, 1595, 1663], 124) (gx_m 24 rfl)) (by decide) (gx_tD c15 (by decide)) (gx_tI c15 (by decide)) ?_
                refine gx_aload_n (pc := 420) (n := 1) (i := 1) rfl 1 rfl (htL_law_1 (420, .aload_n 1, 1) (gx_m 99 rfl)) ?_
                refine gx_aload_nx (pc := 421) (n := 0) (i := 0) rfl 0 rfl (htL_law_2 (421, .aload_n 0, 1) (gx_m 0 rfl)) ?_
                refine gx_iload (pc := 422) (i := 4) 4 rfl (htL_law_2 (422, .iload 4, 2) (gx_m 1 rfl)) ?_
                refine gx_iconst (pc := 424) (v := 1) (by decide) (htL_law_2 (424, .iconst 1, 1) (gx_m 2 rfl)) ?_
                refine gx_iadd (pc := 425) (htL_law_2 (425, .iadd, 1) (gx_m 3 rfl)) ?_
                refine gx_Jsc (pc := 426) hsc (htL_law_2 (426, .iaload, 1) (gx_m 4 rfl)) (fun v35 => ?_)
                refine gx_aload_nx (pc := 427) (n := 0) (i := 0) rfl 0 rfl (htL_law_2 (427, .aload_n 0, 1) (gx_m 5 rfl)) ?_
                refine gx_iload (pc := 428) (i := 4) 4 rfl (htL_law_2 (428, .iload 4, 2) (gx_m 6 rfl)) ?_
                refine gx_iconst (pc := 430) (v := 2) (by decide) (htL_law_2 (430, .iconst 2, 1) (gx_m 7 rfl)) ?_
                refine gx_iadd (pc := 431) (htL_law_2 (431, .iadd, 1) (gx_m 8 rfl)) ?_
                refine gx_Jsc (pc := 432) hsc (htL_law_2 (432, .iaload, 1) (gx_m 9 rfl)) (fun v36 => ?_)
                refine gx_Jci (pc := 433) (gx_hstS (as := [gx_r 2 (some [1]), gx_i v35, gx_i v36])) (gx_runSW (as := [gx_r 2 (some [1]), gx_i v35, gx_i v36]) (ct_X0_put Y hT [1] v35 v36) rfl rfl rfl q962 q963 q100 q964 rfl dd_X0_put (by decide) (by decide) (Nat.le_of_ble_eq_true rfl) (htL_law_2 (433, .invokestatic 127, 3) (gx_m 10 rfl))) (fun v37 => ?_)
                refine gx_istore (pc := 436) (i := 5) (lv' := [(5, gx_i v37), (0, gx_x x0), (1, gx_r 2 (some [1])), (2, gx_r 17 (some [2])), (3, gx_r 103 (some [3])), (4, gx_i s1)]) (by decide) rfl (htL_law_2 (436, .istore 5, 2) (gx_m 11 rfl)) ?_
                refine gx_aload_n (pc := 438) (n := 2) (i := 2) rfl 3 rfl (htL_law_2 (438, .aload_n 2, 1) (gx_m 12 rfl)) ?_
                refine gx_aload_nx (pc := 439) (n := 0) (i := 0) rfl 1 rfl (htL_law_2 (439, .aload_n 0, 1) (gx_m 13 rfl)) ?_
                refine gx_iload (pc := 440) (i := 4) 5 rfl (htL_law_2 (440, .iload 4, 2) (gx_m 14 rfl)) ?_
                refine gx_iconst (pc := 442) (v := 1) (by decide) (htL_law_2 (442, .iconst 1, 1) (gx_m 15 rfl)) ?_
                refine gx_iadd (pc := 443) (htL_law_2 (443, .iadd, 1) (gx_m 16 rfl)) ?_
                refine gx_Jsc (pc := 444) hsc (htL_law_2 (444, .iaload, 1) (gx_m 17 rfl)) (fun v38 => ?_)
                refine gx_aload_nx (pc := 445) (n := 0) (i := 0) rfl 1 rfl (htL_law_2 (445, .aload_n 0, 1) (gx_m 18 rfl)) ?_
                refine gx_iload (pc := 446) (i := 4) 5 rfl (htL_law_2 (446, .iload 4, 2) (gx_m 19 rfl)) ?_
                refine gx_iconst (pc := 448) (v := 2) (by decide) (htL_law_2 (448, .iconst 2, 1) (gx_m 20 rfl)) ?_
                refine gx_iadd (pc := 449) (htL_law_2 (449, .iadd, 1) (gx_m 21 rfl)) ?_
                refine gx_Jsc (pc := 450) hsc (htL_law_2 (450, .iaload, 1) (gx_m 22 rfl)) (fun v39 => ?_)
                refine gx_Jcv (pc := 451) (gx_hst (as := [gx_i v38, gx_i v39]) (b := gx_r 17 (some [2]))) (gx_runV (as := [gx_i v38, gx_i v39]) (ci := 16) (ct_X16_put Y [2] v38 v39) (by decide) (Or.inl rfl) rfl rfl rfl rfl q2089 q2090 q2091 q117 q2092 rfl dd_X16_put (by decide) (by decide) (Nat.le_of_ble_eq_true rfl) (htL_law_2 (451, .invokevirtual 130, 3) (gx_m 23 rfl))) ?_
                refine gx_aload_n (pc := 454) (n := 2) (i := 2) rfl 3 rfl (htL_law_2 (454, .aload_n 2, 1) (gx_m 24 rfl)) ?_
                refine gx_Jci (pc := 455) (gx_hst (as := []) (b := gx_r 17 (some [2]))) (gx_runV (as := []) (ci := 16) (ct_X16_thrown Y [2]) (by decide) (Or.inl rfl) rfl rfl rfl rfl q2042 q2043 q2044 q117 q2045 rfl dd_X16_thrown (by decide) (by decide) (Nat.le_of_ble_eq_true rfl) (htL_law_2 (455, .invokevirtual 111, 3) (gx_m 25 rfl))) (fun v40 => ?_)
                refine gx_iload (pc := 458) (i := 5) 0 rfl (htL_law_2 (458, .iload 5, 2) (gx_m 26 rfl)) ?_
                refine gx_icmp_eq (pc := 460) (tgt := 465) (by decide) (htL_law_2 (460, .if_icmp .eq 5, 3) (gx_m 27 rfl)) (fun c16 => ?_) (fun c16 => ?_)
                · refine gx_goto (pc := 465) (tgt := 1728) (by decide) (htL_law_2 (465, .goto 1263, 3) (gx_m 30 rfl)) ?_
                  refine gx_iinc (pc := 1728) (i := 4) (j := 5) (v := (s1 + 6)) (lv' := [(4, gx_i (s1 + 6)), (5, gx_i v37), (0, gx_x x0), (1, gx_r 2 (some [1])), (2, gx_r 17 (some [2])), (3, gx_r 103 (some [3]))]) rfl (gx_iv (by decide)) (by decide) rfl (htL_law_10 (1728, .iinc 4 6, 3) (gx_m 62 rfl)) ?_
                  refine gx_goto (pc := 1731) (tgt := 23) (by decide) (htL_law_10 (1731, .goto (-1708), 3) (gx_m 63 rfl)) ?_
                  refine gx_Jw (lv := [(0, gx_x x0), (1, gx_r 2 (some [1])), (2, gx_r 17 (some [2])), (3, gx_r 103 (some [3])), (4, gx_i (s1 + 6))]) [2, 3, 4, 5, 0] rfl ?_
                  exact ha1 ((s1 + 6) : Int32)
                · refine gx_iconst (pc := 463) (v := 0) (by decide) (htL_law_2 (463, .iconst 0, 1) (gx_m 28 rfl)) ?_
                  refine gx_Jret ((hb1 _).trans (he1 _)) ?_
                  exact gx_Jzret (pc := 464) rfl gx_b0 (fun _ => gx_b0) (fun _ _ => rfl) (htL_law_2 (464, .ireturn, 1) (gx_m 29 rfl))
              · refine gx_Jite (fun c17 => ?_) (fun c17 => ?_)
                · refine gx_Jtab (pc := 40) (tgt := 468) (htL_law_0 (40, .tableswitch 1688 0 26 #[124, 160, 264, 320, 380, 428, 464, 540, 596, 607, 643, 679, 735, 783, 819, 883, 919, 975, 1031, 1111, 1191, 1295, 1399, 1447, 1527, 1595, 1663], 124) (gx_m 24 rfl)) (by decide) (gx_tD c17 (by decide)) (gx_tI c17 (by decide)) ?_
                  refine gx_aload_n (pc := 468) (n := 1) (i := 1) rfl 1 rfl (htL_law_2 (468, .aload_n 1, 1) (gx_m 31 rfl)) ?_
                  refine gx_aload_nx (pc := 469) (n := 0) (i := 0) rfl 0 rfl (htL_law_2 (469, .aload_n 0, 1) (gx_m 32 rfl)) ?_
                  refine gx_iload (pc := 470) (i := 4) 4 rfl (htL_law_2 (470, .iload 4, 2) (gx_m 33 rfl)) ?_
                  refine gx_iconst (pc := 472) (v := 1) (by decide) (htL_law_2 (472, .iconst 1, 1) (gx_m 34 rfl)) ?_
                  refine gx_iadd (pc := 473) (htL_law_2 (473, .iadd, 1) (gx_m 35 rfl)) ?_
                  refine gx_Jsc (pc := 474) hsc (htL_law_2 (474, .iaload, 1) (gx_m 36 rfl)) (fun v41 => ?_)
                  refine gx_Jci (pc := 475) (gx_hstS (as := [gx_r 2 (some [1]), gx_i v41])) (gx_runSW (as := [gx_r 2 (some [1]), gx_i v41]) (ct_X0_erase Y hT [1] v41) rfl rfl rfl q980 q981 q100 q982 rfl dd_X0_erase (by decide) (by decide) (Nat.le_of_ble_eq_true rfl) (htL_law_2 (475, .invokestatic 131, 3) (gx_m 37 rfl))) (fun v42 => ?_)
                  refine gx_istore (pc := 478) (i := 5) (lv' := [(5, gx_i v42), (0, gx_x x0), (1, gx_r 2 (some [1])), (2, gx_r 17 (some [2])), (3, gx_r 103 (some [3])), (4, gx_i s1)]) (by decide) rfl (htL_law_2 (478, .istore 5, 2) (gx_m 38 rfl)) ?_
                  refine gx_aload_n (pc := 480) (n := 2) (i := 2) rfl 3 rfl (htL_law_2 (480, .aload_n 2, 1) (gx_m 39 rfl)) ?_
                  refine gx_aload_nx (pc := 481) (n := 0) (i := 0) rfl 1 rfl (htL_law_2 (481, .aload_n 0, 1) (gx_m 40 rfl)) ?_
                  refine gx_iload (pc := 482) (i := 4) 5 rfl (htL_law_2 (482, .iload 4, 2) (gx_m 41 rfl)) ?_
                  refine gx_iconst (pc := 484) (v := 1) (by decide) (htL_law_2 (484, .iconst 1, 1) (gx_m 42 rfl)) ?_
                  refine gx_iadd (pc := 485) (htL_law_2 (485, .iadd, 1) (gx_m 43 rfl)) ?_
                  refine gx_Jsc (pc := 486) hsc (htL_law_2 (486, .iaload, 1) (gx_m 44 rfl)) (fun v43 => ?_)
                  refine gx_Jcv (pc := 487) (gx_hst (as := [gx_i v43]) (b := gx_r 17 (some [2]))) (gx_runV (as := [gx_i v43]) (ci := 16) (ct_X16_erase Y [2] v43) (by decide) (Or.inl rfl) rfl rfl rfl rfl q2097 q2098 q2099 q117 q2100 rfl dd_X16_erase (by decide) (by decide) (Nat.le_of_ble_eq_true rfl) (htL_law_2 (487, .invokevirtual 133, 3) (gx_m 45 rfl))) ?_
                  refine gx_aload_n (pc := 490) (n := 2) (i := 2) rfl 3 rfl (htL_law_2 (490, .aload_n 2, 1) (gx_m 46 rfl)) ?_
                  refine gx_Jci (pc := 491) (gx_hst (as := []) (b := gx_r 17 (some [2]))) (gx_runV (as := []) (ci := 16) (ct_X16_thrown Y [2]) (by decide) (Or.inl rfl) rfl rfl rfl rfl q2042 q2043 q2044 q117 q2045 rfl dd_X16_thrown (by decide) (by decide) (Nat.le_of_ble_eq_true rfl) (htL_law_2 (491, .invokevirtual 111, 3) (gx_m 47 rfl))) (fun v44 => ?_)
                  refine gx_iload (pc := 494) (i := 5) 0 rfl (htL_law_2 (494, .iload 5, 2) (gx_m 48 rfl)) ?_
                  refine gx_icmp_eq (pc := 496) (tgt := 501) (by decide) (htL_law_2 (496, .if_icmp .eq 5, 3) (gx_m 49 rfl)) (fun c18 => ?_) (fun c18 => ?_)
                  · refine gx_goto (pc := 501) (tgt := 1728) (by decide) (htL_law_2 (501, .goto 1227, 3) (gx_m 52 rfl)) ?_
                    refine gx_iinc (pc := 1728) (i := 4) (j := 5) (v := (s1 + 6)) (lv' := [(4, gx_i (s1 + 6)), (5, gx_i v42), (0, gx_x x0), (1, gx_r 2 (some [1])), (2, gx_r 17 (some [2])), (3, gx_r 103 (some [3]))]) rfl (gx_iv (by decide)) (by decide) rfl (htL_law_10 (1728, .iinc 4 6, 3) (gx_m 62 rfl)) ?_
                    refine gx_goto (pc := 1731) (tgt := 23) (by decide) (htL_law_10 (1731, .goto (-1708), 3) (gx_m 63 rfl)) ?_
                    refine gx_Jw (lv := [(0, gx_x x0), (1, gx_r 2 (some [1])), (2, gx_r 17 (some [2])), (3, gx_r 103 (some [3])), (4, gx_i (s1 + 6))]) [2, 3, 4, 5, 0] rfl ?_
                    exact ha1 ((s1 + 6) : Int32)
                  · refine gx_iconst (pc := 499) (v := 0) (by decide) (htL_law_2 (499, .iconst 0, 1) (gx_m 50 rfl)) ?_
                    refine gx_Jret ((hb1 _).trans (he1 _)) ?_
                    exact gx_Jzret (pc := 500) rfl gx_b0 (fun _ => gx_b0) (fun _ _ => rfl) (htL_law_2 (500, .ireturn, 1) (gx_m 51 rfl))
                · refine gx_Jite (fun c19 => ?_) (fun c19 => ?_)
                  · refine gx_Jtab (pc := 40) (tgt := 504) (htL_law_0 (40, .tableswitch 1688 0 26 #[124, 160, 264, 320, 380, 428, 464, 540, 596, 607, 643, 679, 735, 783, 819, 883, 919, 975, 1031, 1111, 1191, 1295, 1399, 1447, 1527, 1595, 1663], 124) (gx_m 24 rfl)) (by decide) (gx_tD c19 (by decide)) (gx_tI c19 (by decide)) ?_
                    refine gx_aload_n (pc := 504) (n := 1) (i := 1) rfl 1 rfl (htL_law_2 (504, .aload_n 1, 1) (gx_m 53 rfl)) ?_
                    refine gx_aload_nx (pc := 505) (n := 0) (i := 0) rfl 0 rfl (htL_law_2 (505, .aload_n 0, 1) (gx_m 54 rfl)) ?_
                    refine gx_iload (pc := 506) (i := 4) 4 rfl (htL_law_2 (506, .iload 4, 2) (gx_m 55 rfl)) ?_
                    refine gx_iconst (pc := 508) (v := 1) (by decide) (htL_law_2 (508, .iconst 1, 1) (gx_m 56 rfl)) ?_
                    refine gx_iadd (pc := 509) (htL_law_2 (509, .iadd, 1) (gx_m 57 rfl)) ?_
                    refine gx_Jsc (pc := 510) hsc (htL_law_2 (510, .iaload, 1) (gx_m 58 rfl)) (fun v45 => ?_)
                    refine gx_aload_nx (pc := 511) (n := 0) (i := 0) rfl 0 rfl (htL_law_2 (511, .aload_n 0, 1) (gx_m 59 rfl)) ?_
                    refine gx_iload (pc := 512) (i := 4) 4 rfl (htL_law_2 (512, .iload 4, 2) (gx_m 60 rfl)) ?_
                    refine gx_iconst (pc := 514) (v := 2) (by decide) (htL_law_2 (514, .iconst 2, 1) (gx_m 61 rfl)) ?_
                    refine gx_iadd (pc := 515) (htL_law_2 (515, .iadd, 1) (gx_m 62 rfl)) ?_
                    refine gx_Jsc (pc := 516) hsc (htL_law_2 (516, .iaload, 1) (gx_m 63 rfl)) (fun v46 => ?_)
                    refine gx_aload_nx (pc := 517) (n := 0) (i := 0) rfl 0 rfl (htL_law_2 (517, .aload_n 0, 1) (gx_m 64 rfl)) ?_
                    refine gx_iload (pc := 518) (i := 4) 4 rfl (htL_law_2 (518, .iload 4, 2) (gx_m 65 rfl)) ?_
                    refine gx_iconst (pc := 520) (v := 3) (by decide) (htL_law_2 (520, .iconst 3, 1) (gx_m 66 rfl)) ?_
                    refine gx_iadd (pc := 521) (htL_law_2 (521, .iadd, 1) (gx_m 67 rfl)) ?_
                    refine gx_Jsc (pc := 522) hsc (htL_law_2 (522, .iaload, 1) (gx_m 68 rfl)) (fun v47 => ?_)
                    refine gx_Jjoin (pcJ := 531) (lvJ := fun (j48 : Int32) => [(0, gx_x x0), (1, gx_r 2 (some [1])), (2, gx_r 17 (some [2])), (3, gx_r 103 (some [3])), (4, gx_i s1)]) (stJ := fun (j48 : Int32) => [gx_i j48, gx_i v46, gx_i v45, gx_r 2 (some [1])]) (fun (j48 : Int32) => j48 &&& 1 = j48) (fun j48 hj48 => ?_) (fun kk20 hj20 => ?_)
                    · refine gx_Jci (pc := 531) (gx_hstS (as := [gx_r 2 (some [1]), gx_i v45, gx_i v46, gx_i j48])) (gx_runSW (as := [gx_r 2 (some [1]), gx_i v45, gx_i v46, gx_i j48]) (ct_X0_lease Y hT [1] v45 v46 j48) rfl rfl rfl q987 q988 q100 q989 rfl dd_X0_lease (by decide) (by decide) (Nat.le_of_ble_eq_true rfl) (htL_law_2 (531, .invokestatic 134, 3) (gx_m 73 rfl))) (fun v49 => ?_)
                      refine gx_istore (pc := 534) (i := 5) (lv' := [(5, gx_i v49), (0, gx_x x0), (1, gx_r 2 (some [1])), (2, gx_r 17 (some [2])), (3, gx_r 103 (some [3])), (4, gx_i s1)]) (by decide) rfl (htL_law_2 (534, .istore 5, 2) (gx_m 74 rfl)) ?_
                      refine gx_aload_n (pc := 536) (n := 2) (i := 2) rfl 3 rfl (htL_law_2 (536, .aload_n 2, 1) (gx_m 75 rfl)) ?_
                      refine gx_aload_nx (pc := 537) (n := 0) (i := 0) rfl 1 rfl (htL_law_2 (537, .aload_n 0, 1) (gx_m 76 rfl)) ?_
                      refine gx_iload (pc := 538) (i := 4) 5 rfl (htL_law_2 (538, .iload 4, 2) (gx_m 77 rfl)) ?_
                      refine gx_iconst (pc := 540) (v := 1) (by decide) (htL_law_2 (540, .iconst 1, 1) (gx_m 78 rfl)) ?_
                      refine gx_iadd (pc := 541) (htL_law_2 (541, .iadd, 1) (gx_m 79 rfl)) ?_
                      refine gx_Jsc (pc := 542) hsc (htL_law_2 (542, .iaload, 1) (gx_m 80 rfl)) (fun v50 => ?_)
                      refine gx_aload_nx (pc := 543) (n := 0) (i := 0) rfl 1 rfl (htL_law_2 (543, .aload_n 0, 1) (gx_m 81 rfl)) ?_
                      refine gx_iload (pc := 544) (i := 4) 5 rfl (htL_law_2 (544, .iload 4, 2) (gx_m 82 rfl)) ?_
                      refine gx_iconst (pc := 546) (v := 2) (by decide) (htL_law_2 (546, .iconst 2, 1) (gx_m 83 rfl)) ?_
                      refine gx_iadd (pc := 547) (htL_law_2 (547, .iadd, 1) (gx_m 84 rfl)) ?_
                      refine gx_Jsc (pc := 548) hsc (htL_law_2 (548, .iaload, 1) (gx_m 85 rfl)) (fun v51 => ?_)
                      refine gx_aload_nx (pc := 549) (n := 0) (i := 0) rfl 1 rfl (htL_law_2 (549, .aload_n 0, 1) (gx_m 86 rfl)) ?_
                      refine gx_iload (pc := 550) (i := 4) 5 rfl (htL_law_2 (550, .iload 4, 2) (gx_m 87 rfl)) ?_
                      refine gx_iconst (pc := 552) (v := 3) (by decide) (htL_law_2 (552, .iconst 3, 1) (gx_m 88 rfl)) ?_
                      refine gx_iadd (pc := 553) (htL_law_2 (553, .iadd, 1) (gx_m 89 rfl)) ?_
                      refine gx_Jsc (pc := 554) hsc (htL_law_2 (554, .iaload, 1) (gx_m 90 rfl)) (fun v52 => ?_)
                      refine gx_Jjoin (pcJ := 563) (lvJ := fun (j53 : Int32) => [(0, gx_x x0), (1, gx_r 2 (some [1])), (2, gx_r 17 (some [2])), (3, gx_r 103 (some [3])), (4, gx_i s1), (5, gx_i v49)]) (stJ := fun (j53 : Int32) => [gx_i j53, gx_i v51, gx_i v50, gx_r 17 (some [2])]) (fun (j53 : Int32) => j53 &&& 1 = j53) (fun j53 hj53 => ?_) (fun kk21 hj21 => ?_)
                      · refine gx_Jcv (pc := 563) (gx_hst (as := [gx_i v50, gx_i v51, gx_i j53]) (b := gx_r 17 (some [2]))) (gx_runV (as := [gx_i v50, gx_i v51, gx_i j53]) (ci := 16) (ct_X16_lease Y [2] v50 v51 j53) (by decide) (Or.inl rfl) rfl rfl rfl rfl q2101 q2102 q2103 q117 q2104 rfl dd_X16_lease (by decide) (by decide) (Nat.le_of_ble_eq_true rfl) (htL_law_2 (563, .invokevirtual 137, 3) (gx_m 95 rfl))) ?_
                        refine gx_aload_n (pc := 566) (n := 2) (i := 2) rfl 2 rfl (htL_law_2 (566, .aload_n 2, 1) (gx_m 96 rfl)) ?_
                        refine gx_Jci (pc := 567) (gx_hst (as := []) (b := gx_r 17 (some [2]))) (gx_runV (as := []) (ci := 16) (ct_X16_thrown Y [2]) (by decide) (Or.inl rfl) rfl rfl rfl rfl q2042 q2043 q2044 q117 q2045 rfl dd_X16_thrown (by decide) (by decide) (Nat.le_of_ble_eq_true rfl) (htL_law_2 (567, .invokevirtual 111, 3) (gx_m 97 rfl))) (fun v54 => ?_)
                        refine gx_iload (pc := 570) (i := 5) 5 rfl (htL_law_2 (570, .iload 5, 2) (gx_m 98 rfl)) ?_
                        refine gx_icmp_eq (pc := 572) (tgt := 577) (by decide) (htL_law_2 (572, .if_icmp .eq 5, 3) (gx_m 99 rfl)) (fun c22 => ?_) (fun c22 => ?_)
                        · refine gx_goto (pc := 577) (tgt := 1728) (by decide) (htL_law_3 (577, .goto 1151, 3) (gx_m 2 rfl)) ?_
                          refine gx_iinc (pc := 1728) (i := 4) (j := 4) (v := (s1 + 6)) (lv' := [(4, gx_i (s1 + 6)), (0, gx_x x0), (1, gx_r 2 (some [1])), (2, gx_r 17 (some [2])), (3, gx_r 103 (some [3])), (5, gx_i v49)]) rfl (gx_iv (by decide)) (by decide) rfl (htL_law_10 (1728, .iinc 4 6, 3) (gx_m 62 rfl)) ?_
                          refine gx_goto (pc := 1731) (tgt := 23) (by decide) (htL_law_10 (1731, .goto (-1708), 3) (gx_m 63 rfl)) ?_
                          refine gx_Jw (lv := [(0, gx_x x0), (1, gx_r 2 (some [1])), (2, gx_r 17 (some [2])), (3, gx_r 103 (some [3])), (4, gx_i (s1 + 6))]) [1, 2, 3, 4, 0] rfl ?_
                          exact ha1 ((s1 + 6) : Int32)
                        · refine gx_iconst (pc := 575) (v := 0) (by decide) (htL_law_3 (575, .iconst 0, 1) (gx_m 0 rfl)) ?_
                          refine gx_Jret ((hb1 _).trans (he1 _)) ?_
                          exact gx_Jzret (pc := 576) rfl gx_b0 (fun _ => gx_b0) (fun _ _ => rfl) (htL_law_3 (576, .ireturn, 1) (gx_m 1 rfl))
                      · refine gx_if_eq (pc := 555) (y := 0) (tgt := 562) (by decide) (htL_law_2 (555, .ifCond .eq 7, 3) (gx_m 91 rfl)) (fun c23 => ?_) (fun c23 => ?_)
                        · refine gx_iconst (pc := 562) (v := 0) (by decide) (htL_law_2 (562, .iconst 0, 1) (gx_m 94 rfl)) ?_
                          refine gx_Jw (lv := [(0, gx_x x0), (1, gx_r 2 (some [1])), (2, gx_r 17 (some [2])), (3, gx_r 103 (some [3])), (4, gx_i s1), (5, gx_i v49)]) [1, 2, 3, 4, 5, 0] rfl ?_
                          exact hj21 (0 : Int32) gx_b0
                        · refine gx_iconst (pc := 558) (v := 1) (by decide) (htL_law_2 (558, .iconst 1, 1) (gx_m 92 rfl)) ?_
                          refine gx_goto (pc := 559) (tgt := 563) (by decide) (htL_law_2 (559, .goto 4, 3) (gx_m 93 rfl)) ?_
                          refine gx_Jw (lv := [(0, gx_x x0), (1, gx_r 2 (some [1])), (2, gx_r 17 (some [2])), (3, gx_r 103 (some [3])), (4, gx_i s1), (5, gx_i v49)]) [1, 2, 3, 4, 5, 0] rfl ?_
                          exact hj21 (1 : Int32) gx_b1
                    · refine gx_if_eq (pc := 523) (y := 0) (tgt := 530) (by decide) (htL_law_2 (523, .ifCond .eq 7, 3) (gx_m 69 rfl)) (fun c24 => ?_) (fun c24 => ?_)
                      · refine gx_iconst (pc := 530) (v := 0) (by decide) (htL_law_2 (530, .iconst 0, 1) (gx_m 72 rfl)) ?_
                        exact hj20 (0 : Int32) gx_b0
                      · refine gx_iconst (pc := 526) (v := 1) (by decide) (htL_law_2 (526, .iconst 1, 1) (gx_m 70 rfl)) ?_
                        refine gx_goto (pc := 527) (tgt := 531) (by decide) (htL_law_2 (527, .goto 4, 3) (gx_m 71 rfl)) ?_
                        exact hj20 (1 : Int32) gx_b1
                  · refine gx_Jite (fun c25 => ?_) (fun c25 => ?_)
                    · refine gx_Jtab (pc := 40) (tgt := 580) (htL_law_0 (40, .tableswitch 1688 0 26 #[124, 160, 264, 320, 380, 428, 464, 540, 596, 607, 643, 679, 735, 783, 819, 883, 919, 975, 1031, 1111, 1191, 1295, 1399, 1447, 1527, 1595, 1663], 124) (gx_m 24 rfl)) (by decide) (gx_tD c25 (by decide)) (gx_tI c25 (by decide)) ?_
                      refine gx_aload_n (pc := 580) (n := 1) (i := 1) rfl 1 rfl (htL_law_3 (580, .aload_n 1, 1) (gx_m 3 rfl)) ?_
                      refine gx_aload_nx (pc := 581) (n := 0) (i := 0) rfl 0 rfl (htL_law_3 (581, .aload_n 0, 1) (gx_m 4 rfl)) ?_
                      refine gx_iload (pc := 582) (i := 4) 4 rfl (htL_law_3 (582, .iload 4, 2) (gx_m 5 rfl)) ?_
                      refine gx_iconst (pc := 584) (v := 1) (by decide) (htL_law_3 (584, .iconst 1, 1) (gx_m 6 rfl)) ?_
                      refine gx_iadd (pc := 585) (htL_law_3 (585, .iadd, 1) (gx_m 7 rfl)) ?_
                      refine gx_Jsc (pc := 586) hsc (htL_law_3 (586, .iaload, 1) (gx_m 8 rfl)) (fun v55 => ?_)
                      refine gx_aload_n (pc := 587) (n := 3) (i := 3) rfl 3 rfl (htL_law_3 (587, .aload_n 3, 1) (gx_m 9 rfl)) ?_
                      refine gx_Jci (pc := 588) (gx_hstS (as := [gx_r 2 (some [1]), gx_i v55, gx_r 103 (some [3])])) (gx_runSW (as := [gx_r 2 (some [1]), gx_i v55, gx_r 103 (some [3])]) (ct_X0_propose Y hT [1] v55 [3]) rfl rfl rfl q994 q995 q100 q996 rfl dd_X0_propose (by decide) (by decide) (Nat.le_of_ble_eq_true rfl) (htL_law_3 (588, .invokestatic 138, 3) (gx_m 10 rfl))) (fun v56 => ?_)
                      refine gx_istore (pc := 591) (i := 5) (lv' := [(5, gx_i v56), (0, gx_x x0), (1, gx_r 2 (some [1])), (2, gx_r 17 (some [2])), (3, gx_r 103 (some [3])), (4, gx_i s1)]) (by decide) rfl (htL_law_3 (591, .istore 5, 2) (gx_m 11 rfl)) ?_
                      refine gx_aload_n (pc := 593) (n := 2) (i := 2) rfl 3 rfl (htL_law_3 (593, .aload_n 2, 1) (gx_m 12 rfl)) ?_
                      refine gx_aload_nx (pc := 594) (n := 0) (i := 0) rfl 1 rfl (htL_law_3 (594, .aload_n 0, 1) (gx_m 13 rfl)) ?_
                      refine gx_iload (pc := 595) (i := 4) 5 rfl (htL_law_3 (595, .iload 4, 2) (gx_m 14 rfl)) ?_
                      refine gx_iconst (pc := 597) (v := 1) (by decide) (htL_law_3 (597, .iconst 1, 1) (gx_m 15 rfl)) ?_
                      refine gx_iadd (pc := 598) (htL_law_3 (598, .iadd, 1) (gx_m 16 rfl)) ?_
                      refine gx_Jsc (pc := 599) hsc (htL_law_3 (599, .iaload, 1) (gx_m 17 rfl)) (fun v57 => ?_)
                      refine gx_Jci (pc := 600) (gx_hst (as := [gx_i v57]) (b := gx_r 17 (some [2]))) (gx_runV (as := [gx_i v57]) (ci := 16) (ct_X16_propose Y [2] v57) (by decide) (Or.inl rfl) rfl rfl rfl rfl q2109 q2110 q2111 q117 q2112 rfl dd_X16_propose (by decide) (by decide) (Nat.le_of_ble_eq_true rfl) (htL_law_3 (600, .invokevirtual 140, 3) (gx_m 18 rfl))) (fun v58 => ?_)
                      refine gx_istore (pc := 603) (i := 6) (lv' := [(6, gx_i v58), (5, gx_i v56), (0, gx_x x0), (1, gx_r 2 (some [1])), (2, gx_r 17 (some [2])), (3, gx_r 103 (some [3])), (4, gx_i s1)]) (by decide) rfl (htL_law_3 (603, .istore 6, 2) (gx_m 19 rfl)) ?_
                      refine gx_aload_n (pc := 605) (n := 2) (i := 2) rfl 4 rfl (htL_law_3 (605, .aload_n 2, 1) (gx_m 20 rfl)) ?_
                      refine gx_Jci (pc := 606) (gx_hst (as := []) (b := gx_r 17 (some [2]))) (gx_runV (as := []) (ci := 16) (ct_X16_thrown Y [2]) (by decide) (Or.inl rfl) rfl rfl rfl rfl q2042 q2043 q2044 q117 q2045 rfl dd_X16_thrown (by decide) (by decide) (Nat.le_of_ble_eq_true rfl) (htL_law_3 (606, .invokevirtual 111, 3) (gx_m 21 rfl))) (fun v59 => ?_)
                      refine gx_iload (pc := 609) (i := 5) 1 rfl (htL_law_3 (609, .iload 5, 2) (gx_m 22 rfl)) ?_
                      refine gx_icmp_eq (pc := 611) (tgt := 616) (by decide) (htL_law_3 (611, .if_icmp .eq 5, 3) (gx_m 23 rfl)) (fun c26 => ?_) (fun c26 => ?_)
                      · refine gx_iload (pc := 616) (i := 5) 1 rfl (htL_law_3 (616, .iload 5, 2) (gx_m 26 rfl)) ?_
                        refine gx_if_ne (pc := 618) (y := 0) (tgt := 633) (by decide) (htL_law_3 (618, .ifCond .ne 15, 3) (gx_m 27 rfl)) (fun c27 => ?_) (fun c27 => ?_)
                        · refine gx_aload_n (pc := 621) (n := 3) (i := 3) rfl 5 rfl (htL_law_3 (621, .aload_n 3, 1) (gx_m 28 rfl)) ?_
                          refine gx_iconst (pc := 622) (v := 0) (by decide) (htL_law_3 (622, .iconst 0, 1) (gx_m 29 rfl)) ?_
                          refine gx_Jla (pc := 623) (htL_law_3 (623, .laload, 1) (gx_m 30 rfl)) (fun v60 => ?_)
                          refine gx_iload (pc := 624) (i := 6) 0 rfl (htL_law_3 (624, .iload 6, 2) (gx_m 31 rfl)) ?_
                          refine gx_i2l (pc := 626) (htL_law_3 (626, .i2l, 1) (gx_m 32 rfl)) ?_
                          refine gx_lcmp (pc := 627) (htL_law_3 (627, .lcmp, 1) (gx_m 33 rfl)) ?_
                          refine gx_if_eq (pc := 628) (y := 0) (tgt := 633) (by decide) (htL_law_3 (628, .ifCond .eq 5, 3) (gx_m 34 rfl)) (fun c28 => ?_) (fun c28 => ?_)
                          · refine gx_goto (pc := 633) (tgt := 1728) (by decide) (htL_law_3 (633, .goto 1095, 3) (gx_m 37 rfl)) ?_
                            refine gx_iinc (pc := 1728) (i := 4) (j := 6) (v := (s1 + 6)) (lv' := [(4, gx_i (s1 + 6)), (6, gx_i v58), (5, gx_i v56), (0, gx_x x0), (1, gx_r 2 (some [1])), (2, gx_r 17 (some [2])), (3, gx_r 103 (some [3]))]) rfl (gx_iv (by decide)) (by decide) rfl (htL_law_10 (1728, .iinc 4 6, 3) (gx_m 62 rfl)) ?_
                            refine gx_goto (pc := 1731) (tgt := 23) (by decide) (htL_law_10 (1731, .goto (-1708), 3) (gx_m 63 rfl)) ?_
                            refine gx_Jw (lv := [(0, gx_x x0), (1, gx_r 2 (some [1])), (2, gx_r 17 (some [2])), (3, gx_r 103 (some [3])), (4, gx_i (s1 + 6))]) [3, 4, 5, 6, 0] rfl ?_
                            exact ha1 ((s1 + 6) : Int32)
                          · refine gx_iconst (pc := 631) (v := 0) (by decide) (htL_law_3 (631, .iconst 0, 1) (gx_m 35 rfl)) ?_
                            refine gx_Jret ((hb1 _).trans (he1 _)) ?_
                            exact gx_Jzret (pc := 632) rfl gx_b0 (fun _ => gx_b0) (fun _ _ => rfl) (htL_law_3 (632, .ireturn, 1) (gx_m 36 rfl))
                        · refine gx_goto (pc := 633) (tgt := 1728) (by decide) (htL_law_3 (633, .goto 1095, 3) (gx_m 37 rfl)) ?_
                          refine gx_iinc (pc := 1728) (i := 4) (j := 6) (v := (s1 + 6)) (lv' := [(4, gx_i (s1 + 6)), (6, gx_i v58), (5, gx_i v56), (0, gx_x x0), (1, gx_r 2 (some [1])), (2, gx_r 17 (some [2])), (3, gx_r 103 (some [3]))]) rfl (gx_iv (by decide)) (by decide) rfl (htL_law_10 (1728, .iinc 4 6, 3) (gx_m 62 rfl)) ?_
                          refine gx_goto (pc := 1731) (tgt := 23) (by decide) (htL_law_10 (1731, .goto (-1708), 3) (gx_m 63 rfl)) ?_
                          refine gx_Jw (lv := [(0, gx_x x0), (1, gx_r 2 (some [1])), (2, gx_r 17 (some [2])), (3, gx_r 103 (some [3])), (4, gx_i (s1 + 6))]) [3, 4, 5, 6, 0] rfl ?_
                          exact ha1 ((s1 + 6) : Int32)
                      · refine gx_iconst (pc := 614) (v := 0) (by decide) (htL_law_3 (614, .iconst 0, 1) (gx_m 24 rfl)) ?_
                        refine gx_Jret ((hb1 _).trans (he1 _)) ?_
                        exact gx_Jzret (pc := 615) rfl gx_b0 (fun _ => gx_b0) (fun _ _ => rfl) (htL_law_3 (615, .ireturn, 1) (gx_m 25 rfl))
                    · refine gx_Jite (fun c29 => ?_) (fun c29 => ?_)
                      · refine gx_Jtab (pc := 40) (tgt := 636) (htL_law_0 (40, .tableswitch 1688 0 26 #[124, 160, 264, 320, 380, 428, 464, 540, 596, 607, 643, 679, 735, 783, 819, 883, 919, 975, 1031, 1111, 1191, 1295, 1399, 1447, 1527, 1595, 1663], 124) (gx_m 24 rfl)) (by decide) (gx_tD c29 (by decide)) (gx_tI c29 (by decide)) ?_
                        refine gx_aload_n (pc := 636) (n := 1) (i := 1) rfl 1 rfl (htL_law_3 (636, .aload_n 1, 1) (gx_m 38 rfl)) ?_
                        refine gx_Jcv (pc := 637) (gx_hst (as := []) (b := gx_r 2 (some [1]))) (gx_runV (as := []) (ci := 1) (ct_X1_forget Y [1]) (by decide) (Or.inl rfl) rfl rfl rfl rfl q722 q723 q724 q101 q725 rfl dd_X1_forget (by decide) (by decide) (Nat.le_of_ble_eq_true rfl) (htL_law_3 (637, .invokevirtual 141, 3) (gx_m 39 rfl))) ?_
                        refine gx_aload_n (pc := 640) (n := 2) (i := 2) rfl 2 rfl (htL_law_3 (640, .aload_n 2, 1) (gx_m 40 rfl)) ?_
                        refine gx_Jcv (pc := 641) (gx_hst (as := []) (b := gx_r 17 (some [2]))) (gx_runV (as := []) (ci := 16) (ct_X16_forget Y [2]) (by decide) (Or.inl rfl) rfl rfl rfl rfl q2105 q2106 q2107 q117 q2108 rfl dd_X16_forget (by decide) (by decide) (Nat.le_of_ble_eq_true rfl) (htL_law_3 (641, .invokevirtual 144, 3) (gx_m 41 rfl))) ?_
                        refine gx_goto (pc := 644) (tgt := 1728) (by decide) (htL_law_3 (644, .goto 1084, 3) (gx_m 42 rfl)) ?_
                        refine gx_iinc (pc := 1728) (i := 4) (j := 4) (v := (s1 + 6)) (lv' := [(4, gx_i (s1 + 6)), (0, gx_x x0), (1, gx_r 2 (some [1])), (2, gx_r 17 (some [2])), (3, gx_r 103 (some [3]))]) rfl (gx_iv (by decide)) (by decide) rfl (htL_law_10 (1728, .iinc 4 6, 3) (gx_m 62 rfl)) ?_
                        refine gx_goto (pc := 1731) (tgt := 23) (by decide) (htL_law_10 (1731, .goto (-1708), 3) (gx_m 63 rfl)) ?_
                        refine gx_Jw (lv := [(0, gx_x x0), (1, gx_r 2 (some [1])), (2, gx_r 17 (some [2])), (3, gx_r 103 (some [3])), (4, gx_i (s1 + 6))]) [1, 2, 3, 4, 0] rfl ?_
                        exact ha1 ((s1 + 6) : Int32)
                      · refine gx_Jite (fun c30 => ?_) (fun c30 => ?_)
                        · refine gx_Jtab (pc := 40) (tgt := 647) (htL_law_0 (40, .tableswitch 1688 0 26 #[124, 160, 264, 320, 380, 428, 464, 540, 596, 607, 643, 679, 735, 783, 819, 883, 919, 975, 1031, 1111, 1191, 1295, 1399, 1447, 1527, 1595, 1663], 124) (gx_m 24 rfl)) (by decide) (gx_tD c30 (by decide)) (gx_tI c30 (by decide)) ?_
                          refine gx_aload_n (pc := 647) (n := 1) (i := 1) rfl 1 rfl (htL_law_3 (647, .aload_n 1, 1) (gx_m 43 rfl)) ?_
                          refine gx_aload_nx (pc := 648) (n := 0) (i := 0) rfl 0 rfl (htL_law_3 (648, .aload_n 0, 1) (gx_m 44 rfl)) ?_
                          refine gx_iload (pc := 649) (i := 4) 4 rfl (htL_law_3 (649, .iload 4, 2) (gx_m 45 rfl)) ?_
                          refine gx_iconst (pc := 651) (v := 1) (by decide) (htL_law_3 (651, .iconst 1, 1) (gx_m 46 rfl)) ?_
                          refine gx_iadd (pc := 652) (htL_law_3 (652, .iadd, 1) (gx_m 47 rfl)) ?_
                          refine gx_Jsc (pc := 653) hsc (htL_law_3 (653, .iaload, 1) (gx_m 48 rfl)) (fun v61 => ?_)
                          refine gx_Jci (pc := 654) (gx_hstS (as := [gx_r 2 (some [1]), gx_i v61])) (gx_runSW (as := [gx_r 2 (some [1]), gx_i v61]) (ct_X0_rise Y hT [1] v61) rfl rfl rfl q1182 q1183 q100 q1184 rfl dd_X0_rise (by decide) (by decide) (Nat.le_of_ble_eq_true rfl) (htL_law_3 (654, .invokestatic 145, 3) (gx_m 49 rfl))) (fun v62 => ?_)
                          refine gx_istore (pc := 657) (i := 5) (lv' := [(5, gx_i v62), (0, gx_x x0), (1, gx_r 2 (some [1])), (2, gx_r 17 (some [2])), (3, gx_r 103 (some [3])), (4, gx_i s1)]) (by decide) rfl (htL_law_3 (657, .istore 5, 2) (gx_m 50 rfl)) ?_
                          refine gx_aload_n (pc := 659) (n := 2) (i := 2) rfl 3 rfl (htL_law_3 (659, .aload_n 2, 1) (gx_m 51 rfl)) ?_
                          refine gx_aload_nx (pc := 660) (n := 0) (i := 0) rfl 1 rfl (htL_law_3 (660, .aload_n 0, 1) (gx_m 52 rfl)) ?_
                          refine gx_iload (pc := 661) (i := 4) 5 rfl (htL_law_3 (661, .iload 4, 2) (gx_m 53 rfl)) ?_
                          refine gx_iconst (pc := 663) (v := 1) (by decide) (htL_law_3 (663, .iconst 1, 1) (gx_m 54 rfl)) ?_
                          refine gx_iadd (pc := 664) (htL_law_3 (664, .iadd, 1) (gx_m 55 rfl)) ?_
                          refine gx_Jsc (pc := 665) hsc (htL_law_3 (665, .iaload, 1) (gx_m 56 rfl)) (fun v63 => ?_)
                          refine gx_Jcv (pc := 666) (gx_hst (as := [gx_i v63]) (b := gx_r 17 (some [2]))) (gx_runV (as := [gx_i v63]) (ci := 16) (ct_X16_rise Y [2] v63) (by decide) (Or.inl rfl) rfl rfl rfl rfl q2154 q2155 q2156 q117 q2157 rfl dd_X16_rise (by decide) (by decide) (Nat.le_of_ble_eq_true rfl) (htL_law_3 (666, .invokevirtual 147, 3) (gx_m 57 rfl))) ?_
                          refine gx_aload_n (pc := 669) (n := 2) (i := 2) rfl 3 rfl (htL_law_3 (669, .aload_n 2, 1) (gx_m 58 rfl)) ?_
                          refine gx_Jci (pc := 670) (gx_hst (as := []) (b := gx_r 17 (some [2]))) (gx_runV (as := []) (ci := 16) (ct_X16_thrown Y [2]) (by decide) (Or.inl rfl) rfl rfl rfl rfl q2042 q2043 q2044 q117 q2045 rfl dd_X16_thrown (by decide) (by decide) (Nat.le_of_ble_eq_true rfl) (htL_law_3 (670, .invokevirtual 111, 3) (gx_m 59 rfl))) (fun v64 => ?_)
                          refine gx_iload (pc := 673) (i := 5) 0 rfl (htL_law_3 (673, .iload 5, 2) (gx_m 60 rfl)) ?_
                          refine gx_icmp_eq (pc := 675) (tgt := 680) (by decide) (htL_law_3 (675, .if_icmp .eq 5, 3) (gx_m 61 rfl)) (fun c31 => ?_) (fun c31 => ?_)
                          · refine gx_goto (pc := 680) (tgt := 1728) (by decide) (htL_law_3 (680, .goto 1048, 3) (gx_m 64 rfl)) ?_
                            refine gx_iinc (pc := 1728) (i := 4) (j := 5) (v := (s1 + 6)) (lv' := [(4, gx_i (s1 + 6)), (5, gx_i v62), (0, gx_x x0), (1, gx_r 2 (some [1])), (2, gx_r 17 (some [2])), (3, gx_r 103 (some [3]))]) rfl (gx_iv (by decide)) (by decide) rfl (htL_law_10 (1728, .iinc 4 6, 3) (gx_m 62 rfl)) ?_
                            refine gx_goto (pc := 1731) (tgt := 23) (by decide) (htL_law_10 (1731, .goto (-1708), 3) (gx_m 63 rfl)) ?_
                            refine gx_Jw (lv := [(0, gx_x x0), (1, gx_r 2 (some [1])), (2, gx_r 17 (some [2])), (3, gx_r 103 (some [3])), (4, gx_i (s1 + 6))]) [2, 3, 4, 5, 0] rfl ?_
                            exact ha1 ((s1 + 6) : Int32)
                          · refine gx_iconst (pc := 678) (v := 0) (by decide) (htL_law_3 (678, .iconst 0, 1) (gx_m 62 rfl)) ?_
                            refine gx_Jret ((hb1 _).trans (he1 _)) ?_
                            exact gx_Jzret (pc := 679) rfl gx_b0 (fun _ => gx_b0) (fun _ _ => rfl) (htL_law_3 (679, .ireturn, 1) (gx_m 63 rfl))
                        · refine gx_Jite (fun c32 => ?_) (fun c32 => ?_)
                          · refine gx_Jtab (pc := 40) (tgt := 683) (htL_law_0 (40, .tableswitch 1688 0 26 #[124, 160, 264, 320, 380, 428, 464, 540, 596, 607, 643, 679, 735, 783, 819, 883, 919, 975, 1031, 1111, 1191, 1295, 1399, 1447, 1527, 1595, 1663], 124) (gx_m 24 rfl)) (by decide) (gx_tD c32 (by decide)) (gx_tI c32 (by decide)) ?_
                            refine gx_aload_n (pc := 683) (n := 1) (i := 1) rfl 1 rfl (htL_law_3 (683, .aload_n 1, 1) (gx_m 65 rfl)) ?_
                            refine gx_aload_nx (pc := 684) (n := 0) (i := 0) rfl 0 rfl (htL_law_3 (684, .aload_n 0, 1) (gx_m 66 rfl)) ?_
                            refine gx_iload (pc := 685) (i := 4) 4 rfl (htL_law_3 (685, .iload 4, 2) (gx_m 67 rfl)) ?_
                            refine gx_iconst (pc := 687) (v := 1) (by decide) (htL_law_3 (687, .iconst 1, 1) (gx_m 68 rfl)) ?_
                            refine gx_iadd (pc := 688) (htL_law_3 (688, .iadd, 1) (gx_m 69 rfl)) ?_
                            refine gx_Jsc (pc := 689) hsc (htL_law_3 (689, .iaload, 1) (gx_m 70 rfl)) (fun v65 => ?_)
                            refine gx_Jci (pc := 690) (gx_hstS (as := [gx_r 2 (some [1]), gx_i v65])) (gx_runSW (as := [gx_r 2 (some [1]), gx_i v65]) (ct_X0_beat Y hT [1] v65) rfl rfl rfl q1230 q1231 q100 q1232 rfl dd_X0_beat (by decide) (by decide) (Nat.le_of_ble_eq_true rfl) (htL_law_3 (690, .invokestatic 148, 3) (gx_m 71 rfl))) (fun v66 => ?_)
                            refine gx_istore (pc := 693) (i := 5) (lv' := [(5, gx_i v66), (0, gx_x x0), (1, gx_r 2 (some [1])), (2, gx_r 17 (some [2])), (3, gx_r 103 (some [3])), (4, gx_i s1)]) (by decide) rfl (htL_law_3 (693, .istore 5, 2) (gx_m 72 rfl)) ?_
                            refine gx_aload_n (pc := 695) (n := 2) (i := 2) rfl 3 rfl (htL_law_3 (695, .aload_n 2, 1) (gx_m 73 rfl)) ?_
                            refine gx_aload_nx (pc := 696) (n := 0) (i := 0) rfl 1 rfl (htL_law_3 (696, .aload_n 0, 1) (gx_m 74 rfl)) ?_
                            refine gx_iload (pc := 697) (i := 4) 5 rfl (htL_law_3 (697, .iload 4, 2) (gx_m 75 rfl)) ?_
                            refine gx_iconst (pc := 699) (v := 1) (by decide) (htL_law_3 (699, .iconst 1, 1) (gx_m 76 rfl)) ?_
                            refine gx_iadd (pc := 700) (htL_law_3 (700, .iadd, 1) (gx_m 77 rfl)) ?_
                            refine gx_Jsc (pc := 701) hsc (htL_law_3 (701, .iaload, 1) (gx_m 78 rfl)) (fun v67 => ?_)
                            refine gx_Jcv (pc := 702) (gx_hst (as := [gx_i v67]) (b := gx_r 17 (some [2]))) (gx_runV (as := [gx_i v67]) (ci := 16) (ct_X16_beat Y [2] v67) (by decide) (Or.inl rfl) rfl rfl rfl rfl q2170 q2171 q2172 q117 q2173 rfl dd_X16_beat (by decide) (by decide) (Nat.le_of_ble_eq_true rfl) (htL_law_3 (702, .invokevirtual 150, 3) (gx_m 79 rfl))) ?_
                            refine gx_aload_n (pc := 705) (n := 2) (i := 2) rfl 3 rfl (htL_law_3 (705, .aload_n 2, 1) (gx_m 80 rfl)) ?_
                            refine gx_Jci (pc := 706) (gx_hst (as := []) (b := gx_r 17 (some [2]))) (gx_runV (as := []) (ci := 16) (ct_X16_thrown Y [2]) (by decide) (Or.inl rfl) rfl rfl rfl rfl q2042 q2043 q2044 q117 q2045 rfl dd_X16_thrown (by decide) (by decide) (Nat.le_of_ble_eq_true rfl) (htL_law_3 (706, .invokevirtual 111, 3) (gx_m 81 rfl))) (fun v68 => ?_)
                            refine gx_iload (pc := 709) (i := 5) 0 rfl (htL_law_3 (709, .iload 5, 2) (gx_m 82 rfl)) ?_
                            refine gx_icmp_eq (pc := 711) (tgt := 716) (by decide) (htL_law_3 (711, .if_icmp .eq 5, 3) (gx_m 83 rfl)) (fun c33 => ?_) (fun c33 => ?_)
                            · refine gx_goto (pc := 716) (tgt := 1728) (by decide) (htL_law_3 (716, .goto 1012, 3) (gx_m 86 rfl)) ?_
                              refine gx_iinc (pc := 1728) (i := 4) (j := 5) (v := (s1 + 6)) (lv' := [(4, gx_i (s1 + 6)), (5, gx_i v66), (0, gx_x x0), (1, gx_r 2 (some [1])), (2, gx_r 17 (some [2])), (3, gx_r 103 (some [3]))]) rfl (gx_iv (by decide)) (by decide) rfl (htL_law_10 (1728, .iinc 4 6, 3) (gx_m 62 rfl)) ?_
                              refine gx_goto (pc := 1731) (tgt := 23) (by decide) (htL_law_10 (1731, .goto (-1708), 3) (gx_m 63 rfl)) ?_
                              refine gx_Jw (lv := [(0, gx_x x0), (1, gx_r 2 (some [1])), (2, gx_r 17 (some [2])), (3, gx_r 103 (some [3])), (4, gx_i (s1 + 6))]) [2, 3, 4, 5, 0] rfl ?_
                              exact ha1 ((s1 + 6) : Int32)
                            · refine gx_iconst (pc := 714) (v := 0) (by decide) (htL_law_3 (714, .iconst 0, 1) (gx_m 84 rfl)) ?_
                              refine gx_Jret ((hb1 _).trans (he1 _)) ?_
                              exact gx_Jzret (pc := 715) rfl gx_b0 (fun _ => gx_b0) (fun _ _ => rfl) (htL_law_3 (715, .ireturn, 1) (gx_m 85 rfl))
                          · refine gx_Jite (fun c34 => ?_) (fun c34 => ?_)
                            · refine gx_Jtab (pc := 40) (tgt := 719) (htL_law_0 (40, .tableswitch 1688 0 26 #[124, 160, 264, 320, 380, 428, 464, 540, 596, 607, 643, 679, 735, 783, 819, 883, 919, 975, 1031, 1111, 1191, 1295, 1399, 1447, 1527, 1595, 1663], 124) (gx_m 24 rfl)) (by decide) (gx_tD c34 (by decide)) (gx_tI c34 (by decide)) ?_
                              refine gx_aload_n (pc := 719) (n := 1) (i := 1) rfl 1 rfl (htL_law_3 (719, .aload_n 1, 1) (gx_m 87 rfl)) ?_
                              refine gx_aload_nx (pc := 720) (n := 0) (i := 0) rfl 0 rfl (htL_law_3 (720, .aload_n 0, 1) (gx_m 88 rfl)) ?_
                              refine gx_iload (pc := 721) (i := 4) 4 rfl (htL_law_3 (721, .iload 4, 2) (gx_m 89 rfl)) ?_
                              refine gx_iconst (pc := 723) (v := 1) (by decide) (htL_law_3 (723, .iconst 1, 1) (gx_m 90 rfl)) ?_
                              refine gx_iadd (pc := 724) (htL_law_3 (724, .iadd, 1) (gx_m 91 rfl)) ?_
                              refine gx_Jsc (pc := 725) hsc (htL_law_3 (725, .iaload, 1) (gx_m 92 rfl)) (fun v69 => ?_)
                              refine gx_aload_n (pc := 726) (n := 3) (i := 3) rfl 3 rfl (htL_law_3 (726, .aload_n 3, 1) (gx_m 93 rfl)) ?_
                              refine gx_Jci (pc := 727) (gx_hstS (as := [gx_r 2 (some [1]), gx_i v69, gx_r 103 (some [3])])) (gx_runSW (as := [gx_r 2 (some [1]), gx_i v69, gx_r 103 (some [3])]) (ct_X0_sync Y hT [1] v69 [3]) rfl rfl rfl q1238 q1239 q100 q1240 rfl dd_X0_sync (by decide) (by decide) (Nat.le_of_ble_eq_true rfl) (htL_law_3 (727, .invokestatic 151, 3) (gx_m 94 rfl))) (fun v70 => ?_)
                              refine gx_istore (pc := 730) (i := 5) (lv' := [(5, gx_i v70), (0, gx_x x0), (1, gx_r 2 (some [1])), (2, gx_r 17 (some [2])), (3, gx_r 103 (some [3])), (4, gx_i s1)]) (by decide) rfl (htL_law_3 (730, .istore 5, 2) (gx_m 95 rfl)) ?_
                              refine gx_aload_n (pc := 732) (n := 2) (i := 2) rfl 3 rfl (htL_law_3 (732, .aload_n 2, 1) (gx_m 96 rfl)) ?_
                              refine gx_aload_nx (pc := 733) (n := 0) (i := 0) rfl 1 rfl (htL_law_3 (733, .aload_n 0, 1) (gx_m 97 rfl)) ?_
                              refine gx_iload (pc := 734) (i := 4) 5 rfl (htL_law_3 (734, .iload 4, 2) (gx_m 98 rfl)) ?_
                              refine gx_iconst (pc := 736) (v := 1) (by decide) (htL_law_3 (736, .iconst 1, 1) (gx_m 99 rfl)) ?_
                              refine gx_iadd (pc := 737) (htL_law_4 (737, .iadd, 1) (gx_m 0 rfl)) ?_
                              refine gx_Jsc (pc := 738) hsc (htL_law_4 (738, .iaload, 1) (gx_m 1 rfl)) (fun v71 => ?_)
                              refine gx_Jci (pc := 739) (gx_hst (as := [gx_i v71]) (b := gx_r 17 (some [2]))) (gx_runV (as := [gx_i v71]) (ci := 16) (ct_X16_sync Y [2] v71) (by decide) (Or.inl rfl) rfl rfl rfl rfl q2174 q2175 q2176 q117 q2177 rfl dd_X16_sync (by decide) (by decide) (Nat.le_of_ble_eq_true rfl) (htL_law_4 (739, .invokevirtual 153, 3) (gx_m 2 rfl))) (fun v72 => ?_)
                              refine gx_istore (pc := 742) (i := 6) (lv' := [(6, gx_i v72), (5, gx_i v70), (0, gx_x x0), (1, gx_r 2 (some [1])), (2, gx_r 17 (some [2])), (3, gx_r 103 (some [3])), (4, gx_i s1)]) (by decide) rfl (htL_law_4 (742, .istore 6, 2) (gx_m 3 rfl)) ?_
                              refine gx_aload_n (pc := 744) (n := 2) (i := 2) rfl 4 rfl (htL_law_4 (744, .aload_n 2, 1) (gx_m 4 rfl)) ?_
                              refine gx_Jci (pc := 745) (gx_hst (as := []) (b := gx_r 17 (some [2]))) (gx_runV (as := []) (ci := 16) (ct_X16_thrown Y [2]) (by decide) (Or.inl rfl) rfl rfl rfl rfl q2042 q2043 q2044 q117 q2045 rfl dd_X16_thrown (by decide) (by decide) (Nat.le_of_ble_eq_true rfl) (htL_law_4 (745, .invokevirtual 111, 3) (gx_m 5 rfl))) (fun v73 => ?_)
                              refine gx_iload (pc := 748) (i := 5) 1 rfl (htL_law_4 (748, .iload 5, 2) (gx_m 6 rfl)) ?_
                              refine gx_icmp_eq (pc := 750) (tgt := 755) (by decide) (htL_law_4 (750, .if_icmp .eq 5, 3) (gx_m 7 rfl)) (fun c35 => ?_) (fun c35 => ?_)
                              · refine gx_iload (pc := 755) (i := 5) 1 rfl (htL_law_4 (755, .iload 5, 2) (gx_m 10 rfl)) ?_
                                refine gx_if_ne (pc := 757) (y := 0) (tgt := 772) (by decide) (htL_law_4 (757, .ifCond .ne 15, 3) (gx_m 11 rfl)) (fun c36 => ?_) (fun c36 => ?_)
                                · refine gx_aload_n (pc := 760) (n := 3) (i := 3) rfl 5 rfl (htL_law_4 (760, .aload_n 3, 1) (gx_m 12 rfl)) ?_
                                  refine gx_iconst (pc := 761) (v := 0) (by decide) (htL_law_4 (761, .iconst 0, 1) (gx_m 13 rfl)) ?_
                                  refine gx_Jla (pc := 762) (htL_law_4 (762, .laload, 1) (gx_m 14 rfl)) (fun v74 => ?_)
                                  refine gx_iload (pc := 763) (i := 6) 0 rfl (htL_law_4 (763, .iload 6, 2) (gx_m 15 rfl)) ?_
                                  refine gx_i2l (pc := 765) (htL_law_4 (765, .i2l, 1) (gx_m 16 rfl)) ?_
                                  refine gx_lcmp (pc := 766) (htL_law_4 (766, .lcmp, 1) (gx_m 17 rfl)) ?_
                                  refine gx_if_eq (pc := 767) (y := 0) (tgt := 772) (by decide) (htL_law_4 (767, .ifCond .eq 5, 3) (gx_m 18 rfl)) (fun c37 => ?_) (fun c37 => ?_)
                                  · refine gx_goto (pc := 772) (tgt := 1728) (by decide) (htL_law_4 (772, .goto 956, 3) (gx_m 21 rfl)) ?_
                                    refine gx_iinc (pc := 1728) (i := 4) (j := 6) (v := (s1 + 6)) (lv' := [(4, gx_i (s1 + 6)), (6, gx_i v72), (5, gx_i v70), (0, gx_x x0), (1, gx_r 2 (some [1])), (2, gx_r 17 (some [2])), (3, gx_r 103 (some [3]))]) rfl (gx_iv (by decide)) (by decide) rfl (htL_law_10 (1728, .iinc 4 6, 3) (gx_m 62 rfl)) ?_
                                    refine gx_goto (pc := 1731) (tgt := 23) (by decide) (htL_law_10 (1731, .goto (-1708), 3) (gx_m 63 rfl)) ?_
                                    refine gx_Jw (lv := [(0, gx_x x0), (1, gx_r 2 (some [1])), (2, gx_r 17 (some [2])), (3, gx_r 103 (some [3])), (4, gx_i (s1 + 6))]) [3, 4, 5, 6, 0] rfl ?_
                                    exact ha1 ((s1 + 6) : Int32)
                                  · refine gx_iconst (pc := 770) (v := 0) (by decide) (htL_law_4 (770, .iconst 0, 1) (gx_m 19 rfl)) ?_
                                    refine gx_Jret ((hb1 _).trans (he1 _)) ?_
                                    exact gx_Jzret (pc := 771) rfl gx_b0 (fun _ => gx_b0) (fun _ _ => rfl) (htL_law_4 (771, .ireturn, 1) (gx_m 20 rfl))
                                · refine gx_goto (pc := 772) (tgt := 1728) (by decide) (htL_law_4 (772, .goto 956, 3) (gx_m 21 rfl)) ?_
                                  refine gx_iinc (pc := 1728) (i := 4) (j := 6) (v := (s1 + 6)) (lv' := [(4, gx_i (s1 + 6)), (6, gx_i v72), (5, gx_i v70), (0, gx_x x0), (1, gx_r 2 (some [1])), (2, gx_r 17 (some [2])), (3, gx_r 103 (some [3]))]) rfl (gx_iv (by decide)) (by decide) rfl (htL_law_10 (1728, .iinc 4 6, 3) (gx_m 62 rfl)) ?_
                                  refine gx_goto (pc := 1731) (tgt := 23) (by decide) (htL_law_10 (1731, .goto (-1708), 3) (gx_m 63 rfl)) ?_
                                  refine gx_Jw (lv := [(0, gx_x x0), (1, gx_r 2 (some [1])), (2, gx_r 17 (some [2])), (3, gx_r 103 (some [3])), (4, gx_i (s1 + 6))]) [3, 4, 5, 6, 0] rfl ?_
                                  exact ha1 ((s1 + 6) : Int32)
                              · refine gx_iconst (pc := 753) (v := 0) (by decide) (htL_law_4 (753, .iconst 0, 1) (gx_m 8 rfl)) ?_
                                refine gx_Jret ((hb1 _).trans (he1 _)) ?_
                                exact gx_Jzret (pc := 754) rfl gx_b0 (fun _ => gx_b0) (fun _ _ => rfl) (htL_law_4 (754, .ireturn, 1) (gx_m 9 rfl))
                            · refine gx_Jite (fun c38 => ?_) (fun c38 => ?_)
                              · refine gx_Jtab (pc := 40) (tgt := 775) (htL_law_0 (40, .tableswitch 1688 0 26 #[124, 160, 264, 320, 380, 428, 464, 540, 596, 607, 643, 679, 735, 783, 819, 883, 919, 975, 1031, 1111, 1191, 1295, 1399, 1447, 1527, 1595, 1663], 124) (gx_m 24 rfl)) (by decide) (gx_tD c38 (by decide)) (gx_tI c38 (by decide)) ?_
                                refine gx_aload_n (pc := 775) (n := 1) (i := 1) rfl 1 rfl (htL_law_4 (775, .aload_n 1, 1) (gx_m 22 rfl)) ?_
                                refine gx_aload_nx (pc := 776) (n := 0) (i := 0) rfl 0 rfl (htL_law_4 (776, .aload_n 0, 1) (gx_m 23 rfl)) ?_
                                refine gx_iload (pc := 777) (i := 4) 4 rfl (htL_law_4 (777, .iload 4, 2) (gx_m 24 rfl)) ?_
                                refine gx_iconst (pc := 779) (v := 1) (by decide) (htL_law_4 (779, .iconst 1, 1) (gx_m 25 rfl)) ?_
                                refine gx_iadd (pc := 780) (htL_law_4 (780, .iadd, 1) (gx_m 26 rfl)) ?_
                                refine gx_Jsc (pc := 781) hsc (htL_law_4 (781, .iaload, 1) (gx_m 27 rfl)) (fun v75 => ?_)
                                refine gx_aload_nx (pc := 782) (n := 0) (i := 0) rfl 0 rfl (htL_law_4 (782, .aload_n 0, 1) (gx_m 28 rfl)) ?_
                                refine gx_iload (pc := 783) (i := 4) 4 rfl (htL_law_4 (783, .iload 4, 2) (gx_m 29 rfl)) ?_
                                refine gx_iconst (pc := 785) (v := 2) (by decide) (htL_law_4 (785, .iconst 2, 1) (gx_m 30 rfl)) ?_
                                refine gx_iadd (pc := 786) (htL_law_4 (786, .iadd, 1) (gx_m 31 rfl)) ?_
                                refine gx_Jsc (pc := 787) hsc (htL_law_4 (787, .iaload, 1) (gx_m 32 rfl)) (fun v76 => ?_)
                                refine gx_Jci (pc := 788) (gx_hstS (as := [gx_r 2 (some [1]), gx_i v75, gx_i v76])) (gx_runSW (as := [gx_r 2 (some [1]), gx_i v75, gx_i v76]) (ct_X0_crash Y hT [1] v75 v76) rfl rfl rfl q1370 q1371 q100 q1372 rfl dd_X0_crash (by decide) (by decide) (Nat.le_of_ble_eq_true rfl) (htL_law_4 (788, .invokestatic 154, 3) (gx_m 33 rfl))) (fun v77 => ?_)
                                refine gx_istore (pc := 791) (i := 5) (lv' := [(5, gx_i v77), (0, gx_x x0), (1, gx_r 2 (some [1])), (2, gx_r 17 (some [2])), (3, gx_r 103 (some [3])), (4, gx_i s1)]) (by decide) rfl (htL_law_4 (791, .istore 5, 2) (gx_m 34 rfl)) ?_
                                refine gx_aload_n (pc := 793) (n := 2) (i := 2) rfl 3 rfl (htL_law_4 (793, .aload_n 2, 1) (gx_m 35 rfl)) ?_
                                refine gx_aload_nx (pc := 794) (n := 0) (i := 0) rfl 1 rfl (htL_law_4 (794, .aload_n 0, 1) (gx_m 36 rfl)) ?_
                                refine gx_iload (pc := 795) (i := 4) 5 rfl (htL_law_4 (795, .iload 4, 2) (gx_m 37 rfl)) ?_
                                refine gx_iconst (pc := 797) (v := 1) (by decide) (htL_law_4 (797, .iconst 1, 1) (gx_m 38 rfl)) ?_
                                refine gx_iadd (pc := 798) (htL_law_4 (798, .iadd, 1) (gx_m 39 rfl)) ?_
                                refine gx_Jsc (pc := 799) hsc (htL_law_4 (799, .iaload, 1) (gx_m 40 rfl)) (fun v78 => ?_)
                                refine gx_aload_nx (pc := 800) (n := 0) (i := 0) rfl 1 rfl (htL_law_4 (800, .aload_n 0, 1) (gx_m 41 rfl)) ?_
                                refine gx_iload (pc := 801) (i := 4) 5 rfl (htL_law_4 (801, .iload 4, 2) (gx_m 42 rfl)) ?_
                                refine gx_iconst (pc := 803) (v := 2) (by decide) (htL_law_4 (803, .iconst 2, 1) (gx_m 43 rfl)) ?_
                                refine gx_iadd (pc := 804) (htL_law_4 (804, .iadd, 1) (gx_m 44 rfl)) ?_
                                refine gx_Jsc (pc := 805) hsc (htL_law_4 (805, .iaload, 1) (gx_m 45 rfl)) (fun v79 => ?_)
                                refine gx_Jcv (pc := 806) (gx_hst (as := [gx_i v78, gx_i v79]) (b := gx_r 17 (some [2]))) (gx_runV (as := [gx_i v78, gx_i v79]) (ci := 16) (ct_X16_crash Y [2] v78 v79) (by decide) (Or.inl rfl) rfl rfl rfl rfl q2201 q2202 q2203 q117 q2204 rfl dd_X16_crash (by decide) (by decide) (Nat.le_of_ble_eq_true rfl) (htL_law_4 (806, .invokevirtual 156, 3) (gx_m 46 rfl))) ?_
                                refine gx_aload_n (pc := 809) (n := 2) (i := 2) rfl 3 rfl (htL_law_4 (809, .aload_n 2, 1) (gx_m 47 rfl)) ?_
                                refine gx_Jci (pc := 810) (gx_hst (as := []) (b := gx_r 17 (some [2]))) (gx_runV (as := []) (ci := 16) (ct_X16_thrown Y [2]) (by decide) (Or.inl rfl) rfl rfl rfl rfl q2042 q2043 q2044 q117 q2045 rfl dd_X16_thrown (by decide) (by decide) (Nat.le_of_ble_eq_true rfl) (htL_law_4 (810, .invokevirtual 111, 3) (gx_m 48 rfl))) (fun v80 => ?_)
                                refine gx_iload (pc := 813) (i := 5) 0 rfl (htL_law_4 (813, .iload 5, 2) (gx_m 49 rfl)) ?_
                                refine gx_icmp_eq (pc := 815) (tgt := 820) (by decide) (htL_law_4 (815, .if_icmp .eq 5, 3) (gx_m 50 rfl)) (fun c39 => ?_) (fun c39 => ?_)
                                · refine gx_goto (pc := 820) (tgt := 1728) (by decide) (htL_law_4 (820, .goto 908, 3) (gx_m 53 rfl)) ?_
                                  refine gx_iinc (pc := 1728) (i := 4) (j := 5) (v := (s1 + 6)) (lv' := [(4, gx_i (s1 + 6)), (5, gx_i v77), (0, gx_x x0), (1, gx_r 2 (some [1])), (2, gx_r 17 (some [2])), (3, gx_r 103 (some [3]))]) rfl (gx_iv (by decide)) (by decide) rfl (htL_law_10 (1728, .iinc 4 6, 3) (gx_m 62 rfl)) ?_
                                  refine gx_goto (pc := 1731) (tgt := 23) (by decide) (htL_law_10 (1731, .goto (-1708), 3) (gx_m 63 rfl)) ?_
                                  refine gx_Jw (lv := [(0, gx_x x0), (1, gx_r 2 (some [1])), (2, gx_r 17 (some [2])), (3, gx_r 103 (some [3])), (4, gx_i (s1 + 6))]) [2, 3, 4, 5, 0] rfl ?_
                                  exact ha1 ((s1 + 6) : Int32)
                                · refine gx_iconst (pc := 818) (v := 0) (by decide) (htL_law_4 (818, .iconst 0, 1) (gx_m 51 rfl)) ?_
                                  refine gx_Jret ((hb1 _).trans (he1 _)) ?_
                                  exact gx_Jzret (pc := 819) rfl gx_b0 (fun _ => gx_b0) (fun _ _ => rfl) (htL_law_4 (819, .ireturn, 1) (gx_m 52 rfl))
                              · refine gx_Jite (fun c40 => ?_) (fun c40 => ?_)
                                · refine gx_Jtab (pc := 40) (tgt := 823) (htL_law_0 (40, .tableswitch 1688 0 26 #[124, 160, 264, 320, 380, 428, 464, 540, 596, 607, 643, 679, 735, 783, 819, 883, 919, 975, 1031, 1111, 1191, 1295, 1399, 1447, 1527, 1595, 1663], 124) (gx_m 24 rfl)) (by decide) (gx_tD c40 (by decide)) (gx_tI c40 (by decide)) ?_
                                  refine gx_aload_n (pc := 823) (n := 1) (i := 1) rfl 1 rfl (htL_law_4 (823, .aload_n 1, 1) (gx_m 54 rfl)) ?_
                                  refine gx_aload_nx (pc := 824) (n := 0) (i := 0) rfl 0 rfl (htL_law_4 (824, .aload_n 0, 1) (gx_m 55 rfl)) ?_
                                  refine gx_iload (pc := 825) (i := 4) 4 rfl (htL_law_4 (825, .iload 4, 2) (gx_m 56 rfl)) ?_
                                  refine gx_iconst (pc := 827) (v := 1) (by decide) (htL_law_4 (827, .iconst 1, 1) (gx_m 57 rfl)) ?_
                                  refine gx_iadd (pc := 828) (htL_law_4 (828, .iadd, 1) (gx_m 58 rfl)) ?_
                                  refine gx_Jsc (pc := 829) hsc (htL_law_4 (829, .iaload, 1) (gx_m 59 rfl)) (fun v81 => ?_)
                                  refine gx_Jci (pc := 830) (gx_hstS (as := [gx_r 2 (some [1]), gx_i v81])) (gx_runSW (as := [gx_r 2 (some [1]), gx_i v81]) (ct_X0_start Y hT [1] v81) rfl rfl rfl q1382 q1383 q100 q1384 rfl dd_X0_start (by decide) (by decide) (Nat.le_of_ble_eq_true rfl) (htL_law_4 (830, .invokestatic 157, 3) (gx_m 60 rfl))) (fun v82 => ?_)
                                  refine gx_istore (pc := 833) (i := 5) (lv' := [(5, gx_i v82), (0, gx_x x0), (1, gx_r 2 (some [1])), (2, gx_r 17 (some [2])), (3, gx_r 103 (some [3])), (4, gx_i s1)]) (by decide) rfl (htL_law_4 (833, .istore 5, 2) (gx_m 61 rfl)) ?_
                                  refine gx_aload_n (pc := 835) (n := 2) (i := 2) rfl 3 rfl (htL_law_4 (835, .aload_n 2, 1) (gx_m 62 rfl)) ?_
                                  refine gx_aload_nx (pc := 836) (n := 0) (i := 0) rfl 1 rfl (htL_law_4 (836, .aload_n 0, 1) (gx_m 63 rfl)) ?_
                                  refine gx_iload (pc := 837) (i := 4) 5 rfl (htL_law_4 (837, .iload 4, 2) (gx_m 64 rfl)) ?_
                                  refine gx_iconst (pc := 839) (v := 1) (by decide) (htL_law_4 (839, .iconst 1, 1) (gx_m 65 rfl)) ?_
                                  refine gx_iadd (pc := 840) (htL_law_4 (840, .iadd, 1) (gx_m 66 rfl)) ?_
                                  refine gx_Jsc (pc := 841) hsc (htL_law_4 (841, .iaload, 1) (gx_m 67 rfl)) (fun v83 => ?_)
                                  refine gx_Jcv (pc := 842) (gx_hst (as := [gx_i v83]) (b := gx_r 17 (some [2]))) (gx_runV (as := [gx_i v83]) (ci := 16) (ct_X16_start Y [2] v83) (by decide) (Or.inl rfl) rfl rfl rfl rfl q2209 q2210 q2211 q117 q2212 rfl dd_X16_start (by decide) (by decide) (Nat.le_of_ble_eq_true rfl) (htL_law_4 (842, .invokevirtual 159, 3) (gx_m 68 rfl))) ?_
                                  refine gx_aload_n (pc := 845) (n := 2) (i := 2) rfl 3 rfl (htL_law_4 (845, .aload_n 2, 1) (gx_m 69 rfl)) ?_
                                  refine gx_Jci (pc := 846) (gx_hst (as := []) (b := gx_r 17 (some [2]))) (gx_runV (as := []) (ci := 16) (ct_X16_thrown Y [2]) (by decide) (Or.inl rfl) rfl rfl rfl rfl q2042 q2043 q2044 q117 q2045 rfl dd_X16_thrown (by decide) (by decide) (Nat.le_of_ble_eq_true rfl) (htL_law_4 (846, .invokevirtual 111, 3) (gx_m 70 rfl))) (fun v84 => ?_)
                                  refine gx_iload (pc := 849) (i := 5) 0 rfl (htL_law_4 (849, .iload 5, 2) (gx_m 71 rfl)) ?_
                                  refine gx_icmp_eq (pc := 851) (tgt := 856) (by decide) (htL_law_4 (851, .if_icmp .eq 5, 3) (gx_m 72 rfl)) (fun c41 => ?_) (fun c41 => ?_)
                                  · refine gx_goto (pc := 856) (tgt := 1728) (by decide) (htL_law_4 (856, .goto 872, 3) (gx_m 75 rfl)) ?_
                                    refine gx_iinc (pc := 1728) (i := 4) (j := 5) (v := (s1 + 6)) (lv' := [(4, gx_i (s1 + 6)), (5, gx_i v82), (0, gx_x x0), (1, gx_r 2 (some [1])), (2, gx_r 17 (some [2])), (3, gx_r 103 (some [3]))]) rfl (gx_iv (by decide)) (by decide) rfl (htL_law_10 (1728, .iinc 4 6, 3) (gx_m 62 rfl)) ?_
                                    refine gx_goto (pc := 1731) (tgt := 23) (by decide) (htL_law_10 (1731, .goto (-1708), 3) (gx_m 63 rfl)) ?_
                                    refine gx_Jw (lv := [(0, gx_x x0), (1, gx_r 2 (some [1])), (2, gx_r 17 (some [2])), (3, gx_r 103 (some [3])), (4, gx_i (s1 + 6))]) [2, 3, 4, 5, 0] rfl ?_
                                    exact ha1 ((s1 + 6) : Int32)
                                  · refine gx_iconst (pc := 854) (v := 0) (by decide) (htL_law_4 (854, .iconst 0, 1) (gx_m 73 rfl)) ?_
                                    refine gx_Jret ((hb1 _).trans (he1 _)) ?_
                                    exact gx_Jzret (pc := 855) rfl gx_b0 (fun _ => gx_b0) (fun _ _ => rfl) (htL_law_4 (855, .ireturn, 1) (gx_m 74 rfl))
                                · refine gx_Jite (fun c42 => ?_) (fun c42 => ?_)
                                  · refine gx_Jtab (pc := 40) (tgt := 859) (htL_law_0 (40, .tableswitch 1688 0 26 #[124, 160, 264, 320, 380, 428, 464, 540, 596, 607, 643, 679, 735, 783, 819, 883, 919, 975, 1031, 1111, 1191, 1295, 1399, 1447, 1527, 1595, 1663], 124) (gx_m 24 rfl)) (by decide) (gx_tD c42 (by decide)) (gx_tI c42 (by decide)) ?_
                                    refine gx_aload_n (pc := 859) (n := 1) (i := 1) rfl 1 rfl (htL_law_4 (859, .aload_n 1, 1) (gx_m 76 rfl)) ?_
                                    refine gx_aload_nx (pc := 860) (n := 0) (i := 0) rfl 0 rfl (htL_law_4 (860, .aload_n 0, 1) (gx_m 77 rfl)) ?_
                                    refine gx_iload (pc := 861) (i := 4) 4 rfl (htL_law_4 (861, .iload 4, 2) (gx_m 78 rfl)) ?_
                                    refine gx_iconst (pc := 863) (v := 1) (by decide) (htL_law_4 (863, .iconst 1, 1) (gx_m 79 rfl)) ?_
                                    refine gx_iadd (pc := 864) (htL_law_4 (864, .iadd, 1) (gx_m 80 rfl)) ?_
                                    refine gx_Jsc (pc := 865) hsc (htL_law_4 (865, .iaload, 1) (gx_m 81 rfl)) (fun v85 => ?_)
                                    refine gx_aload_nx (pc := 866) (n := 0) (i := 0) rfl 0 rfl (htL_law_4 (866, .aload_n 0, 1) (gx_m 82 rfl)) ?_
                                    refine gx_iload (pc := 867) (i := 4) 4 rfl (htL_law_4 (867, .iload 4, 2) (gx_m 83 rfl)) ?_
                                    refine gx_iconst (pc := 869) (v := 2) (by decide) (htL_law_4 (869, .iconst 2, 1) (gx_m 84 rfl)) ?_
                                    refine gx_iadd (pc := 870) (htL_law_4 (870, .iadd, 1) (gx_m 85 rfl)) ?_
                                    refine gx_Jsc (pc := 871) hsc (htL_law_4 (871, .iaload, 1) (gx_m 86 rfl)) (fun v86 => ?_)
                                    refine gx_Jjoin (pcJ := 880) (lvJ := fun (j87 : Int32) => [(0, gx_x x0), (1, gx_r 2 (some [1])), (2, gx_r 17 (some [2])), (3, gx_r 103 (some [3])), (4, gx_i s1)]) (stJ := fun (j87 : Int32) => [gx_i j87, gx_i v85, gx_r 2 (some [1])]) (fun (j87 : Int32) => j87 &&& 1 = j87) (fun j87 hj87 => ?_) (fun kk43 hj43 => ?_)
                                    · refine gx_Jci (pc := 880) (gx_hstS (as := [gx_r 2 (some [1]), gx_i v85, gx_i j87])) (gx_runSW (as := [gx_r 2 (some [1]), gx_i v85, gx_i j87]) (ct_X0_deliver Y hT [1] v85 j87) rfl rfl rfl q1390 q1391 q100 q1392 rfl dd_X0_deliver (by decide) (by decide) (Nat.le_of_ble_eq_true rfl) (htL_law_4 (880, .invokestatic 160, 3) (gx_m 91 rfl))) (fun v88 => ?_)
                                      refine gx_istore (pc := 883) (i := 5) (lv' := [(5, gx_i v88), (0, gx_x x0), (1, gx_r 2 (some [1])), (2, gx_r 17 (some [2])), (3, gx_r 103 (some [3])), (4, gx_i s1)]) (by decide) rfl (htL_law_4 (883, .istore 5, 2) (gx_m 92 rfl)) ?_
                                      refine gx_aload_n (pc := 885) (n := 2) (i := 2) rfl 3 rfl (htL_law_4 (885, .aload_n 2, 1) (gx_m 93 rfl)) ?_
                                      refine gx_aload_nx (pc := 886) (n := 0) (i := 0) rfl 1 rfl (htL_law_4 (886, .aload_n 0, 1) (gx_m 94 rfl)) ?_
                                      refine gx_iload (pc := 887) (i := 4) 5 rfl (htL_law_4 (887, .iload 4, 2) (gx_m 95 rfl)) ?_
                                      refine gx_iconst (pc := 889) (v := 1) (by decide) (htL_law_4 (889, .iconst 1, 1) (gx_m 96 rfl)) ?_
                                      refine gx_iadd (pc := 890) (htL_law_4 (890, .iadd, 1) (gx_m 97 rfl)) ?_
                                      refine gx_Jsc (pc := 891) hsc (htL_law_4 (891, .iaload, 1) (gx_m 98 rfl)) (fun v89 => ?_)
                                      refine gx_aload_nx (pc := 892) (n := 0) (i := 0) rfl 1 rfl (htL_law_4 (892, .aload_n 0, 1) (gx_m 99 rfl)) ?_
                                      refine gx_iload (pc := 893) (i := 4) 5 rfl (htL_law_5 (893, .iload 4, 2) (gx_m 0 rfl)) ?_
                                      refine gx_iconst (pc := 895) (v := 2) (by decide) (htL_law_5 (895, .iconst 2, 1) (gx_m 1 rfl)) ?_
                                      refine gx_iadd (pc := 896) (htL_law_5 (896, .iadd, 1) (gx_m 2 rfl)) ?_
                                      refine gx_Jsc (pc := 897) hsc (htL_law_5 (897, .iaload, 1) (gx_m 3 rfl)) (fun v90 => ?_)
                                      refine gx_Jjoin (pcJ := 906) (lvJ := fun (j91 : Int32) => [(0, gx_x x0), (1, gx_r 2 (some [1])), (2, gx_r 17 (some [2])), (3, gx_r 103 (some [3])), (4, gx_i s1), (5, gx_i v88)]) (stJ := fun (j91 : Int32) => [gx_i j91, gx_i v89, gx_r 17 (some [2])]) (fun (j91 : Int32) => j91 &&& 1 = j91) (fun j91 hj91 => ?_) (fun kk44 hj44 => ?_)
                                      · refine gx_Jcv (pc := 906) (gx_hst (as := [gx_i v89, gx_i j91]) (b := gx_r 17 (some [2]))) (gx_runV (as := [gx_i v89, gx_i j91]) (ci := 16) (ct_X16_deliver Y [2] v89 j91) (by decide) (Or.inl rfl) rfl rfl rfl rfl q2213 q2214 q2215 q117 q2216 rfl dd_X16_deliver (by decide) (by decide) (Nat.le_of_ble_eq_true rfl) (htL_law_5 (906, .invokevirtual 163, 3) (gx_m 8 rfl))) ?_
                                        refine gx_aload_n (pc := 909) (n := 2) (i := 2) rfl 2 rfl (htL_law_5 (909, .aload_n 2, 1) (gx_m 9 rfl)) ?_
                                        refine gx_Jci (pc := 910) (gx_hst (as := []) (b := gx_r 17 (some [2]))) (gx_runV (as := []) (ci := 16) (ct_X16_thrown Y [2]) (by decide) (Or.inl rfl) rfl rfl rfl rfl q2042 q2043 q2044 q117 q2045 rfl dd_X16_thrown (by decide) (by decide) (Nat.le_of_ble_eq_true rfl) (htL_law_5 (910, .invokevirtual 111, 3) (gx_m 10 rfl))) (fun v92 => ?_)
                                        refine gx_iload (pc := 913) (i := 5) 5 rfl (htL_law_5 (913, .iload 5, 2) (gx_m 11 rfl)) ?_
                                        refine gx_icmp_eq (pc := 915) (tgt := 920) (by decide) (htL_law_5 (915, .if_icmp .eq 5, 3) (gx_m 12 rfl)) (fun c45 => ?_) (fun c45 => ?_)
                                        · refine gx_goto (pc := 920) (tgt := 1728) (by decide) (htL_law_5 (920, .goto 808, 3) (gx_m 15 rfl)) ?_
                                          refine gx_iinc (pc := 1728) (i := 4) (j := 4) (v := (s1 + 6)) (lv' := [(4, gx_i (s1 + 6)), (0, gx_x x0), (1, gx_r 2 (some [1])), (2, gx_r 17 (some [2])), (3, gx_r 103 (some [3])), (5, gx_i v88)]) rfl (gx_iv (by decide)) (by decide) rfl (htL_law_10 (1728, .iinc 4 6, 3) (gx_m 62 rfl)) ?_
                                          refine gx_goto (pc := 1731) (tgt := 23) (by decide) (htL_law_10 (1731, .goto (-1708), 3) (gx_m 63 rfl)) ?_
                                          refine gx_Jw (lv := [(0, gx_x x0), (1, gx_r 2 (some [1])), (2, gx_r 17 (some [2])), (3, gx_r 103 (some [3])), (4, gx_i (s1 + 6))]) [1, 2, 3, 4, 0] rfl ?_
                                          exact ha1 ((s1 + 6) : Int32)
                                        · refine gx_iconst (pc := 918) (v := 0) (by decide) (htL_law_5 (918, .iconst 0, 1) (gx_m 13 rfl)) ?_
                                          refine gx_Jret ((hb1 _).trans (he1 _)) ?_
                                          exact gx_Jzret (pc := 919) rfl gx_b0 (fun _ => gx_b0) (fun _ _ => rfl) (htL_law_5 (919, .ireturn, 1) (gx_m 14 rfl))
                                      · refine gx_if_eq (pc := 898) (y := 0) (tgt := 905) (by decide) (htL_law_5 (898, .ifCond .eq 7, 3) (gx_m 4 rfl)) (fun c46 => ?_) (fun c46 => ?_)
                                        · refine gx_iconst (pc := 905) (v := 0) (by decide) (htL_law_5 (905, .iconst 0, 1) (gx_m 7 rfl)) ?_
                                          refine gx_Jw (lv := [(0, gx_x x0), (1, gx_r 2 (some [1])), (2, gx_r 17 (some [2])), (3, gx_r 103 (some [3])), (4, gx_i s1), (5, gx_i v88)]) [1, 2, 3, 4, 5, 0] rfl ?_
                                          exact hj44 (0 : Int32) gx_b0
                                        · refine gx_iconst (pc := 901) (v := 1) (by decide) (htL_law_5 (901, .iconst 1, 1) (gx_m 5 rfl)) ?_
                                          refine gx_goto (pc := 902) (tgt := 906) (by decide) (htL_law_5 (902, .goto 4, 3) (gx_m 6 rfl)) ?_
                                          refine gx_Jw (lv := [(0, gx_x x0), (1, gx_r 2 (some [1])), (2, gx_r 17 (some [2])), (3, gx_r 103 (some [3])), (4, gx_i s1), (5, gx_i v88)]) [1, 2, 3, 4, 5, 0] rfl ?_
                                          exact hj44 (1 : Int32) gx_b1
                                    · refine gx_if_eq (pc := 872) (y := 0) (tgt := 879) (by decide) (htL_law_4 (872, .ifCond .eq 7, 3) (gx_m 87 rfl)) (fun c47 => ?_) (fun c47 => ?_)
                                      · refine gx_iconst (pc := 879) (v := 0) (by decide) (htL_law_4 (879, .iconst 0, 1) (gx_m 90 rfl)) ?_
                                        exact hj43 (0 : Int32) gx_b0
                                      · refine gx_iconst (pc := 875) (v := 1) (by decide) (htL_law_4 (875, .iconst 1, 1) (gx_m 88 rfl)) ?_
                                        refine gx_goto (pc := 876) (tgt := 880) (by decide) (htL_law_4 (876, .goto 4, 3) (gx_m 89 rfl)) ?_
                                        exact hj43 (1 : Int32) gx_b1
                                  · refine gx_Jite (fun c48 => ?_) (fun c48 => ?_)
                                    · refine gx_Jtab (pc := 40) (tgt := 923) (htL_law_0 (40, .tableswitch 1688 0 26 #[124, 160, 264, 320, 380, 428, 464, 540, 596, 607, 643, 679, 735, 783, 819, 883, 919, 975, 1031, 1111, 1191, 1295, 1399, 1447, 1527, 1595, 1663], 124) (gx_m 24 rfl)) (by decide) (gx_tD c48 (by decide)) (gx_tI c48 (by decide)) ?_
                                      refine gx_aload_n (pc := 923) (n := 1) (i := 1) rfl 1 rfl (htL_law_5 (923, .aload_n 1, 1) (gx_m 16 rfl)) ?_
                                      refine gx_aload_nx (pc := 924) (n := 0) (i := 0) rfl 0 rfl (htL_law_5 (924, .aload_n 0, 1) (gx_m 17 rfl)) ?_
                                      refine gx_iload (pc := 925) (i := 4) 4 rfl (htL_law_5 (925, .iload 4, 2) (gx_m 18 rfl)) ?_
                                      refine gx_iconst (pc := 927) (v := 1) (by decide) (htL_law_5 (927, .iconst 1, 1) (gx_m 19 rfl)) ?_
                                      refine gx_iadd (pc := 928) (htL_law_5 (928, .iadd, 1) (gx_m 20 rfl)) ?_
                                      refine gx_Jsc (pc := 929) hsc (htL_law_5 (929, .iaload, 1) (gx_m 21 rfl)) (fun v93 => ?_)
                                      refine gx_Jci (pc := 930) (gx_hstS (as := [gx_r 2 (some [1]), gx_i v93])) (gx_runSW (as := [gx_r 2 (some [1]), gx_i v93]) (ct_X0_lose Y hT [1] v93) rfl rfl rfl q1461 q1462 q100 q1463 rfl dd_X0_lose (by decide) (by decide) (Nat.le_of_ble_eq_true rfl) (htL_law_5 (930, .invokestatic 164, 3) (gx_m 22 rfl))) (fun v94 => ?_)
                                      refine gx_istore (pc := 933) (i := 5) (lv' := [(5, gx_i v94), (0, gx_x x0), (1, gx_r 2 (some [1])), (2, gx_r 17 (some [2])), (3, gx_r 103 (some [3])), (4, gx_i s1)]) (by decide) rfl (htL_law_5 (933, .istore 5, 2) (gx_m 23 rfl)) ?_
                                      refine gx_aload_n (pc := 935) (n := 2) (i := 2) rfl 3 rfl (htL_law_5 (935, .aload_n 2, 1) (gx_m 24 rfl)) ?_
                                      refine gx_aload_nx (pc := 936) (n := 0) (i := 0) rfl 1 rfl (htL_law_5 (936, .aload_n 0, 1) (gx_m 25 rfl)) ?_
                                      refine gx_iload (pc := 937) (i := 4) 5 rfl (htL_law_5 (937, .iload 4, 2) (gx_m 26 rfl)) ?_
                                      refine gx_iconst (pc := 939) (v := 1) (by decide) (htL_law_5 (939, .iconst 1, 1) (gx_m 27 rfl)) ?_
                                      refine gx_iadd (pc := 940) (htL_law_5 (940, .iadd, 1) (gx_m 28 rfl)) ?_
                                      refine gx_Jsc (pc := 941) hsc (htL_law_5 (941, .iaload, 1) (gx_m 29 rfl)) (fun v95 => ?_)
                                      refine gx_Jcv (pc := 942) (gx_hst (as := [gx_i v95]) (b := gx_r 17 (some [2]))) (gx_runV (as := [gx_i v95]) (ci := 16) (ct_X16_lose Y [2] v95) (by decide) (Or.inl rfl) rfl rfl rfl rfl q2319 q2320 q2321 q117 q2322 rfl dd_X16_lose (by decide) (by decide) (Nat.le_of_ble_eq_true rfl) (htL_law_5 (942, .invokevirtual 166, 3) (gx_m 30 rfl))) ?_
                                      refine gx_aload_n (pc := 945) (n := 2) (i := 2) rfl 3 rfl (htL_law_5 (945, .aload_n 2, 1) (gx_m 31 rfl)) ?_
                                      refine gx_Jci (pc := 946) (gx_hst (as := []) (b := gx_r 17 (some [2]))) (gx_runV (as := []) (ci := 16) (ct_X16_thrown Y [2]) (by decide) (Or.inl rfl) rfl rfl rfl rfl q2042 q2043 q2044 q117 q2045 rfl dd_X16_thrown (by decide) (by decide) (Nat.le_of_ble_eq_true rfl) (htL_law_5 (946, .invokevirtual 111, 3) (gx_m 32 rfl))) (fun v96 => ?_)
                                      refine gx_iload (pc := 949) (i := 5) 0 rfl (htL_law_5 (949, .iload 5, 2) (gx_m 33 rfl)) ?_
                                      refine gx_icmp_eq (pc := 951) (tgt := 956) (by decide) (htL_law_5 (951, .if_icmp .eq 5, 3) (gx_m 34 rfl)) (fun c49 => ?_) (fun c49 => ?_)
                                      · refine gx_goto (pc := 956) (tgt := 1728) (by decide) (htL_law_5 (956, .goto 772, 3) (gx_m 37 rfl)) ?_
                                        refine gx_iinc (pc := 1728) (i := 4) (j := 5) (v := (s1 + 6)) (lv' := [(4, gx_i (s1 + 6)), (5, gx_i v94), (0, gx_x x0), (1, gx_r 2 (some [1])), (2, gx_r 17 (some [2])), (3, gx_r 103 (some [3]))]) rfl (gx_iv (by decide)) (by decide) rfl (htL_law_10 (1728, .iinc 4 6, 3) (gx_m 62 rfl)) ?_
                                        refine gx_goto (pc := 1731) (tgt := 23) (by decide) (htL_law_10 (1731, .goto (-1708), 3) (gx_m 63 rfl)) ?_
                                        refine gx_Jw (lv := [(0, gx_x x0), (1, gx_r 2 (some [1])), (2, gx_r 17 (some [2])), (3, gx_r 103 (some [3])), (4, gx_i (s1 + 6))]) [2, 3, 4, 5, 0] rfl ?_
                                        exact ha1 ((s1 + 6) : Int32)
                                      · refine gx_iconst (pc := 954) (v := 0) (by decide) (htL_law_5 (954, .iconst 0, 1) (gx_m 35 rfl)) ?_
                                        refine gx_Jret ((hb1 _).trans (he1 _)) ?_
                                        exact gx_Jzret (pc := 955) rfl gx_b0 (fun _ => gx_b0) (fun _ _ => rfl) (htL_law_5 (955, .ireturn, 1) (gx_m 36 rfl))
                                    · refine gx_Jite (fun c50 => ?_) (fun c50 => ?_)
                                      · refine gx_Jtab (pc := 40) (tgt := 959) (htL_law_0 (40, .tableswitch 1688 0 26 #[124, 160, 264, 320, 380, 428, 464, 540, 596, 607, 643, 679, 735, 783, 819, 883, 919, 975, 1031, 1111, 1191, 1295, 1399, 1447, 1527, 1595, 1663], 124) (gx_m 24 rfl)) (by decide) (gx_tD c50 (by decide)) (gx_tI c50 (by decide)) ?_
                                        refine gx_aload_n (pc := 959) (n := 1) (i := 1) rfl 1 rfl (htL_law_5 (959, .aload_n 1, 1) (gx_m 38 rfl)) ?_
                                        refine gx_aload_nx (pc := 960) (n := 0) (i := 0) rfl 0 rfl (htL_law_5 (960, .aload_n 0, 1) (gx_m 39 rfl)) ?_
                                        refine gx_iload (pc := 961) (i := 4) 4 rfl (htL_law_5 (961, .iload 4, 2) (gx_m 40 rfl)) ?_
                                        refine gx_iconst (pc := 963) (v := 1) (by decide) (htL_law_5 (963, .iconst 1, 1) (gx_m 41 rfl)) ?_
                                        refine gx_iadd (pc := 964) (htL_law_5 (964, .iadd, 1) (gx_m 42 rfl)) ?_
                                        refine gx_Jsc (pc := 965) hsc (htL_law_5 (965, .iaload, 1) (gx_m 43 rfl)) (fun v97 => ?_)
                                        refine gx_aload_n (pc := 966) (n := 3) (i := 3) rfl 3 rfl (htL_law_5 (966, .aload_n 3, 1) (gx_m 44 rfl)) ?_
                                        refine gx_Jci (pc := 967) (gx_hstS (as := [gx_r 2 (some [1]), gx_i v97, gx_r 103 (some [3])])) (gx_runSW (as := [gx_r 2 (some [1]), gx_i v97, gx_r 103 (some [3])]) (ct_X0_snapshot Y hT [1] v97 [3]) rfl rfl rfl q1468 q1469 q100 q1470 rfl dd_X0_snapshot (by decide) (by decide) (Nat.le_of_ble_eq_true rfl) (htL_law_5 (967, .invokestatic 167, 3) (gx_m 45 rfl))) (fun v98 => ?_)
                                        refine gx_istore (pc := 970) (i := 5) (lv' := [(5, gx_i v98), (0, gx_x x0), (1, gx_r 2 (some [1])), (2, gx_r 17 (some [2])), (3, gx_r 103 (some [3])), (4, gx_i s1)]) (by decide) rfl (htL_law_5 (970, .istore 5, 2) (gx_m 46 rfl)) ?_
                                        refine gx_aload_n (pc := 972) (n := 2) (i := 2) rfl 3 rfl (htL_law_5 (972, .aload_n 2, 1) (gx_m 47 rfl)) ?_
                                        refine gx_aload_nx (pc := 973) (n := 0) (i := 0) rfl 1 rfl (htL_law_5 (973, .aload_n 0, 1) (gx_m 48 rfl)) ?_
                                        refine gx_iload (pc := 974) (i := 4) 5 rfl (htL_law_5 (974, .iload 4, 2) (gx_m 49 rfl)) ?_
                                        refine gx_iconst (pc := 976) (v := 1) (by decide) (htL_law_5 (976, .iconst 1, 1) (gx_m 50 rfl)) ?_
                                        refine gx_iadd (pc := 977) (htL_law_5 (977, .iadd, 1) (gx_m 51 rfl)) ?_
                                        refine gx_Jsc (pc := 978) hsc (htL_law_5 (978, .iaload, 1) (gx_m 52 rfl)) (fun v99 => ?_)
                                        refine gx_Jci (pc := 979) (gx_hst (as := [gx_i v99]) (b := gx_r 17 (some [2]))) (gx_runV (as := [gx_i v99]) (ci := 16) (ct_X16_snapshot_2 Y [2] v99) (by decide) (Or.inl rfl) rfl rfl rfl rfl q2323 q2324 q2325 q117 q2326 rfl dd_X16_snapshot_2 (by decide) (by decide) (Nat.le_of_ble_eq_true rfl) (htL_law_5 (979, .invokevirtual 169, 3) (gx_m 53 rfl))) (fun v100 => ?_)
                                        refine gx_istore (pc := 982) (i := 6) (lv' := [(6, gx_i v100), (5, gx_i v98), (0, gx_x x0), (1, gx_r 2 (some [1])), (2, gx_r 17 (some [2])), (3, gx_r 103 (some [3])), (4, gx_i s1)]) (by decide) rfl (htL_law_5 (982, .istore 6, 2) (gx_m 54 rfl)) ?_
                                        refine gx_aload_n (pc := 984) (n := 2) (i := 2) rfl 4 rfl (htL_law_5 (984, .aload_n 2, 1) (gx_m 55 rfl)) ?_
                                        refine gx_Jci (pc := 985) (gx_hst (as := []) (b := gx_r 17 (some [2]))) (gx_runV (as := []) (ci := 16) (ct_X16_thrown Y [2]) (by decide) (Or.inl rfl) rfl rfl rfl rfl q2042 q2043 q2044 q117 q2045 rfl dd_X16_thrown (by decide) (by decide) (Nat.le_of_ble_eq_true rfl) (htL_law_5 (985, .invokevirtual 111, 3) (gx_m 56 rfl))) (fun v101 => ?_)
                                        refine gx_iload (pc := 988) (i := 5) 1 rfl (htL_law_5 (988, .iload 5, 2) (gx_m 57 rfl)) ?_
                                        refine gx_icmp_eq (pc := 990) (tgt := 995) (by decide) (htL_law_5 (990, .if_icmp .eq 5, 3) (gx_m 58 rfl)) (fun c51 => ?_) (fun c51 => ?_)
                                        · refine gx_iload (pc := 995) (i := 5) 1 rfl (htL_law_5 (995, .iload 5, 2) (gx_m 61 rfl)) ?_
                                          refine gx_if_ne (pc := 997) (y := 0) (tgt := 1012) (by decide) (htL_law_5 (997, .ifCond .ne 15, 3) (gx_m 62 rfl)) (fun c52 => ?_) (fun c52 => ?_)
                                          · refine gx_aload_n (pc := 1000) (n := 3) (i := 3) rfl 5 rfl (htL_law_5 (1000, .aload_n 3, 1) (gx_m 63 rfl)) ?_
                                            refine gx_iconst (pc := 1001) (v := 0) (by decide) (htL_law_5 (1001, .iconst 0, 1) (gx_m 64 rfl)) ?_
                                            refine gx_Jla (pc := 1002) (htL_law_5 (1002, .laload, 1) (gx_m 65 rfl)) (fun v102 => ?_)
                                            refine gx_iload (pc := 1003) (i := 6) 0 rfl (htL_law_5 (1003, .iload 6, 2) (gx_m 66 rfl)) ?_
                                            refine gx_i2l (pc := 1005) (htL_law_5 (1005, .i2l, 1) (gx_m 67 rfl)) ?_
                                            refine gx_lcmp (pc := 1006) (htL_law_5 (1006, .lcmp, 1) (gx_m 68 rfl)) ?_
                                            refine gx_if_eq (pc := 1007) (y := 0) (tgt := 1012) (by decide) (htL_law_5 (1007, .ifCond .eq 5, 3) (gx_m 69 rfl)) (fun c53 => ?_) (fun c53 => ?_)
                                            · refine gx_goto (pc := 1012) (tgt := 1728) (by decide) (htL_law_5 (1012, .goto 716, 3) (gx_m 72 rfl)) ?_
                                              refine gx_iinc (pc := 1728) (i := 4) (j := 6) (v := (s1 + 6)) (lv' := [(4, gx_i (s1 + 6)), (6, gx_i v100), (5, gx_i v98), (0, gx_x x0), (1, gx_r 2 (some [1])), (2, gx_r 17 (some [2])), (3, gx_r 103 (some [3]))]) rfl (gx_iv (by decide)) (by decide) rfl (htL_law_10 (1728, .iinc 4 6, 3) (gx_m 62 rfl)) ?_
                                              refine gx_goto (pc := 1731) (tgt := 23) (by decide) (htL_law_10 (1731, .goto (-1708), 3) (gx_m 63 rfl)) ?_
                                              refine gx_Jw (lv := [(0, gx_x x0), (1, gx_r 2 (some [1])), (2, gx_r 17 (some [2])), (3, gx_r 103 (some [3])), (4, gx_i (s1 + 6))]) [3, 4, 5, 6, 0] rfl ?_
                                              exact ha1 ((s1 + 6) : Int32)
                                            · refine gx_iconst (pc := 1010) (v := 0) (by decide) (htL_law_5 (1010, .iconst 0, 1) (gx_m 70 rfl)) ?_
                                              refine gx_Jret ((hb1 _).trans (he1 _)) ?_
                                              exact gx_Jzret (pc := 1011) rfl gx_b0 (fun _ => gx_b0) (fun _ _ => rfl) (htL_law_5 (1011, .ireturn, 1) (gx_m 71 rfl))
                                          · refine gx_goto (pc := 1012) (tgt := 1728) (by decide) (htL_law_5 (1012, .goto 716, 3) (gx_m 72 rfl)) ?_
                                            refine gx_iinc (pc := 1728) (i := 4) (j := 6) (v := (s1 + 6)) (lv' := [(4, gx_i (s1 + 6)), (6, gx_i v100), (5, gx_i v98), (0, gx_x x0), (1, gx_r 2 (some [1])), (2, gx_r 17 (some [2])), (3, gx_r 103 (some [3]))]) rfl (gx_iv (by decide)) (by decide) rfl (htL_law_10 (1728, .iinc 4 6, 3) (gx_m 62 rfl)) ?_
                                            refine gx_goto (pc := 1731) (tgt := 23) (by decide) (htL_law_10 (1731, .goto (-1708), 3) (gx_m 63 rfl)) ?_
                                            refine gx_Jw (lv := [(0, gx_x x0), (1, gx_r 2 (some [1])), (2, gx_r 17 (some [2])), (3, gx_r 103 (some [3])), (4, gx_i (s1 + 6))]) [3, 4, 5, 6, 0] rfl ?_
                                            exact ha1 ((s1 + 6) : Int32)
                                        · refine gx_iconst (pc := 993) (v := 0) (by decide) (htL_law_5 (993, .iconst 0, 1) (gx_m 59 rfl)) ?_
                                          refine gx_Jret ((hb1 _).trans (he1 _)) ?_
                                          exact gx_Jzret (pc := 994) rfl gx_b0 (fun _ => gx_b0) (fun _ _ => rfl) (htL_law_5 (994, .ireturn, 1) (gx_m 60 rfl))
                                      · refine gx_Jite (fun c54 => ?_) (fun c54 => ?_)
                                        · refine gx_Jtab (pc := 40) (tgt := 1015) (htL_law_0 (40, .tableswitch 1688 0 26 #[124, 160, 264, 320, 380, 428, 464, 540, 596, 607, 643, 679, 735, 783, 819, 883, 919, 975, 1031, 1111, 1191, 1295, 1399, 1447, 1527, 1595, 1663], 124) (gx_m 24 rfl)) (by decide) (gx_tD c54 (by decide)) (gx_tI c54 (by decide)) ?_
                                          refine gx_aload_n (pc := 1015) (n := 1) (i := 1) rfl 1 rfl (htL_law_5 (1015, .aload_n 1, 1) (gx_m 73 rfl)) ?_
                                          refine gx_aload_nx (pc := 1016) (n := 0) (i := 0) rfl 0 rfl (htL_law_5 (1016, .aload_n 0, 1) (gx_m 74 rfl)) ?_
                                          refine gx_iload (pc := 1017) (i := 4) 4 rfl (htL_law_5 (1017, .iload 4, 2) (gx_m 75 rfl)) ?_
                                          refine gx_iconst (pc := 1019) (v := 1) (by decide) (htL_law_5 (1019, .iconst 1, 1) (gx_m 76 rfl)) ?_
                                          refine gx_iadd (pc := 1020) (htL_law_5 (1020, .iadd, 1) (gx_m 77 rfl)) ?_
                                          refine gx_Jsc (pc := 1021) hsc (htL_law_5 (1021, .iaload, 1) (gx_m 78 rfl)) (fun v103 => ?_)
                                          refine gx_aload_n (pc := 1022) (n := 3) (i := 3) rfl 3 rfl (htL_law_5 (1022, .aload_n 3, 1) (gx_m 79 rfl)) ?_
                                          refine gx_Jci (pc := 1023) (gx_hstS (as := [gx_r 2 (some [1]), gx_i v103, gx_r 103 (some [3])])) (gx_runSW (as := [gx_r 2 (some [1]), gx_i v103, gx_r 103 (some [3])]) (ct_X0_read Y hT [1] v103 [3]) rfl rfl rfl q1479 q1480 q100 q1481 rfl dd_X0_read (by decide) (by decide) (Nat.le_of_ble_eq_true rfl) (htL_law_5 (1023, .invokestatic 170, 3) (gx_m 80 rfl))) (fun v104 => ?_)
                                          refine gx_istore (pc := 1026) (i := 5) (lv' := [(5, gx_i v104), (0, gx_x x0), (1, gx_r 2 (some [1])), (2, gx_r 17 (some [2])), (3, gx_r 103 (some [3])), (4, gx_i s1)]) (by decide) rfl (htL_law_5 (1026, .istore 5, 2) (gx_m 81 rfl)) ?_
                                          refine gx_aload_n (pc := 1028) (n := 2) (i := 2) rfl 3 rfl (htL_law_5 (1028, .aload_n 2, 1) (gx_m 82 rfl)) ?_
                                          refine gx_aload_nx (pc := 1029) (n := 0) (i := 0) rfl 1 rfl (htL_law_5 (1029, .aload_n 0, 1) (gx_m 83 rfl)) ?_
                                          refine gx_iload (pc := 1030) (i := 4) 5 rfl (htL_law_5 (1030, .iload 4, 2) (gx_m 84 rfl)) ?_
                                          refine gx_iconst (pc := 1032) (v := 1) (by decide) (htL_law_5 (1032, .iconst 1, 1) (gx_m 85 rfl)) ?_
                                          refine gx_iadd (pc := 1033) (htL_law_5 (1033, .iadd, 1) (gx_m 86 rfl)) ?_
                                          refine gx_Jsc (pc := 1034) hsc (htL_law_5 (1034, .iaload, 1) (gx_m 87 rfl)) (fun v105 => ?_)
                                          refine gx_Jci (pc := 1035) (gx_hst (as := [gx_i v105]) (b := gx_r 17 (some [2]))) (gx_runV (as := [gx_i v105]) (ci := 16) (ct_X16_read Y [2] v105) (by decide) (Or.inl rfl) rfl rfl rfl rfl q2327 q2328 q2329 q117 q2330 rfl dd_X16_read (by decide) (by decide) (Nat.le_of_ble_eq_true rfl) (htL_law_5 (1035, .invokevirtual 172, 3) (gx_m 88 rfl))) (fun v106 => ?_)
                                          refine gx_istore (pc := 1038) (i := 6) (lv' := [(6, gx_i v106), (5, gx_i v104), (0, gx_x x0), (1, gx_r 2 (some [1])), (2, gx_r 17 (some [2])), (3, gx_r 103 (some [3])), (4, gx_i s1)]) (by decide) rfl (htL_law_5 (1038, .istore 6, 2) (gx_m 89 rfl)) ?_
                                          refine gx_aload_n (pc := 1040) (n := 2) (i := 2) rfl 4 rfl (htL_law_5 (1040, .aload_n 2, 1) (gx_m 90 rfl)) ?_
                                          refine gx_Jci (pc := 1041) (gx_hst (as := []) (b := gx_r 17 (some [2]))) (gx_runV (as := []) (ci := 16) (ct_X16_thrown Y [2]) (by decide) (Or.inl rfl) rfl rfl rfl rfl q2042 q2043 q2044 q117 q2045 rfl dd_X16_thrown (by decide) (by decide) (Nat.le_of_ble_eq_true rfl) (htL_law_5 (1041, .invokevirtual 111, 3) (gx_m 91 rfl))) (fun v107 => ?_)
                                          refine gx_iload (pc := 1044) (i := 5) 1 rfl (htL_law_5 (1044, .iload 5, 2) (gx_m 92 rfl)) ?_
                                          refine gx_icmp_eq (pc := 1046) (tgt := 1051) (by decide) (htL_law_5 (1046, .if_icmp .eq 5, 3) (gx_m 93 rfl)) (fun c55 => ?_) (fun c55 => ?_)
                                          · refine gx_iload (pc := 1051) (i := 5) 1 rfl (htL_law_5 (1051, .iload 5, 2) (gx_m 96 rfl)) ?_
                                            refine gx_if_ne (pc := 1053) (y := 0) (tgt := 1068) (by decide) (htL_law_5 (1053, .ifCond .ne 15, 3) (gx_m 97 rfl)) (fun c56 => ?_) (fun c56 => ?_)
                                            · refine gx_aload_n (pc := 1056) (n := 3) (i := 3) rfl 5 rfl (htL_law_5 (1056, .aload_n 3, 1) (gx_m 98 rfl)) ?_
                                              refine gx_iconst (pc := 1057) (v := 0) (by decide) (htL_law_5 (1057, .iconst 0, 1) (gx_m 99 rfl)) ?_
                                              refine gx_Jla (pc := 1058) (htL_law_6 (1058, .laload, 1) (gx_m 0 rfl)) (fun v108 => ?_)
                                              refine gx_iload (pc := 1059) (i := 6) 0 rfl (htL_law_6 (1059, .iload 6, 2) (gx_m 1 rfl)) ?_
                                              refine gx_i2l (pc := 1061) (htL_law_6 (1061, .i2l, 1) (gx_m 2 rfl)) ?_
                                              refine gx_lcmp (pc := 1062) (htL_law_6 (1062, .lcmp, 1) (gx_m 3 rfl)) ?_
                                              refine gx_if_eq (pc := 1063) (y := 0) (tgt := 1068) (by decide) (htL_law_6 (1063, .ifCond .eq 5, 3) (gx_m 4 rfl)) (fun c57 => ?_) (fun c57 => ?_)
                                              · refine gx_goto (pc := 1068) (tgt := 1728) (by decide) (htL_law_6 (1068, .goto 660, 3) (gx_m 7 rfl)) ?_
                                                refine gx_iinc (pc := 1728) (i := 4) (j := 6) (v := (s1 + 6)) (lv' := [(4, gx_i (s1 + 6)), (6, gx_i v106), (5, gx_i v104), (0, gx_x x0), (1, gx_r 2 (some [1])), (2, gx_r 17 (some [2])), (3, gx_r 103 (some [3]))]) rfl (gx_iv (by decide)) (by decide) rfl (htL_law_10 (1728, .iinc 4 6, 3) (gx_m 62 rfl)) ?_
                                                refine gx_goto (pc := 1731) (tgt := 23) (by decide) (htL_law_10 (1731, .goto (-1708), 3) (gx_m 63 rfl)) ?_
                                                refine gx_Jw (lv := [(0, gx_x x0), (1, gx_r 2 (some [1])), (2, gx_r 17 (some [2])), (3, gx_r 103 (some [3])), (4, gx_i (s1 + 6))]) [3, 4, 5, 6, 0] rfl ?_
                                                exact ha1 ((s1 + 6) : Int32)
                                              · refine gx_iconst (pc := 1066) (v := 0) (by decide) (htL_law_6 (1066, .iconst 0, 1) (gx_m 5 rfl)) ?_
                                                refine gx_Jret ((hb1 _).trans (he1 _)) ?_
                                                exact gx_Jzret (pc := 1067) rfl gx_b0 (fun _ => gx_b0) (fun _ _ => rfl) (htL_law_6 (1067, .ireturn, 1) (gx_m 6 rfl))
                                            · refine gx_goto (pc := 1068) (tgt := 1728) (by decide) (htL_law_6 (1068, .goto 660, 3) (gx_m 7 rfl)) ?_
                                              refine gx_iinc (pc := 1728) (i := 4) (j := 6) (v := (s1 + 6)) (lv' := [(4, gx_i (s1 + 6)), (6, gx_i v106), (5, gx_i v104), (0, gx_x x0), (1, gx_r 2 (some [1])), (2, gx_r 17 (some [2])), (3, gx_r 103 (some [3]))]) rfl (gx_iv (by decide)) (by decide) rfl (htL_law_10 (1728, .iinc 4 6, 3) (gx_m 62 rfl)) ?_
                                              refine gx_goto (pc := 1731) (tgt := 23) (by decide) (htL_law_10 (1731, .goto (-1708), 3) (gx_m 63 rfl)) ?_
                                              refine gx_Jw (lv := [(0, gx_x x0), (1, gx_r 2 (some [1])), (2, gx_r 17 (some [2])), (3, gx_r 103 (some [3])), (4, gx_i (s1 + 6))]) [3, 4, 5, 6, 0] rfl ?_
                                              exact ha1 ((s1 + 6) : Int32)
                                          · refine gx_iconst (pc := 1049) (v := 0) (by decide) (htL_law_5 (1049, .iconst 0, 1) (gx_m 94 rfl)) ?_
                                            refine gx_Jret ((hb1 _).trans (he1 _)) ?_
                                            exact gx_Jzret (pc := 1050) rfl gx_b0 (fun _ => gx_b0) (fun _ _ => rfl) (htL_law_5 (1050, .ireturn, 1) (gx_m 95 rfl))
                                        · refine gx_Jite (fun c58 => ?_) (fun c58 => ?_)
                                          · refine gx_Jtab (pc := 40) (tgt := 1071) (htL_law_0 (40, .tableswitch 1688 0 26 #[124, 160, 264, 320, 380, 428, 464, 540, 596, 607, 643, 679, 735, 783, 819, 883, 919, 975, 1031, 1111, 1191, 1295, 1399, 1447, 1527, 1595, 1663], 124) (gx_m 24 rfl)) (by decide) (gx_tD c58 (by decide)) (gx_tI c58 (by decide)) ?_
                                            refine gx_aload_n (pc := 1071) (n := 1) (i := 1) rfl 1 rfl (htL_law_6 (1071, .aload_n 1, 1) (gx_m 8 rfl)) ?_
                                            refine gx_aload_nx (pc := 1072) (n := 0) (i := 0) rfl 0 rfl (htL_law_6 (1072, .aload_n 0, 1) (gx_m 9 rfl)) ?_
                                            refine gx_iload (pc := 1073) (i := 4) 4 rfl (htL_law_6 (1073, .iload 4, 2) (gx_m 10 rfl)) ?_
                                            refine gx_iconst (pc := 1075) (v := 1) (by decide) (htL_law_6 (1075, .iconst 1, 1) (gx_m 11 rfl)) ?_
                                            refine gx_iadd (pc := 1076) (htL_law_6 (1076, .iadd, 1) (gx_m 12 rfl)) ?_
                                            refine gx_Jsc (pc := 1077) hsc (htL_law_6 (1077, .iaload, 1) (gx_m 13 rfl)) (fun v109 => ?_)
                                            refine gx_aload_nx (pc := 1078) (n := 0) (i := 0) rfl 0 rfl (htL_law_6 (1078, .aload_n 0, 1) (gx_m 14 rfl)) ?_
                                            refine gx_iload (pc := 1079) (i := 4) 4 rfl (htL_law_6 (1079, .iload 4, 2) (gx_m 15 rfl)) ?_
                                            refine gx_iconst (pc := 1081) (v := 2) (by decide) (htL_law_6 (1081, .iconst 2, 1) (gx_m 16 rfl)) ?_
                                            refine gx_iadd (pc := 1082) (htL_law_6 (1082, .iadd, 1) (gx_m 17 rfl)) ?_
                                            refine gx_Jsc (pc := 1083) hsc (htL_law_6 (1083, .iaload, 1) (gx_m 18 rfl)) (fun v110 => ?_)
                                            refine gx_aload_nx (pc := 1084) (n := 0) (i := 0) rfl 0 rfl (htL_law_6 (1084, .aload_n 0, 1) (gx_m 19 rfl)) ?_
                                            refine gx_iload (pc := 1085) (i := 4) 4 rfl (htL_law_6 (1085, .iload 4, 2) (gx_m 20 rfl)) ?_
                                            refine gx_iconst (pc := 1087) (v := 3) (by decide) (htL_law_6 (1087, .iconst 3, 1) (gx_m 21 rfl)) ?_
                                            refine gx_iadd (pc := 1088) (htL_law_6 (1088, .iadd, 1) (gx_m 22 rfl)) ?_
                                            refine gx_Jsc (pc := 1089) hsc (htL_law_6 (1089, .iaload, 1) (gx_m 23 rfl)) (fun v111 => ?_)
                                            refine gx_aload_n (pc := 1090) (n := 3) (i := 3) rfl 3 rfl (htL_law_6 (1090, .aload_n 3, 1) (gx_m 24 rfl)) ?_
                                            refine gx_Jci (pc := 1091) (gx_hstS (as := [gx_r 2 (some [1]), gx_i v109, gx_i v110, gx_i v111, gx_r 103 (some [3])])) (gx_runSW (as := [gx_r 2 (some [1]), gx_i v109, gx_i v110, gx_i v111, gx_r 103 (some [3])]) (ct_X0_answer Y hT [1] v109 v110 v111 [3]) rfl rfl rfl q1527 q1528 q100 q1529 rfl dd_X0_answer (by decide) (by decide) (Nat.le_of_ble_eq_true rfl) (htL_law_6 (1091, .invokestatic 173, 3) (gx_m 25 rfl))) (fun v112 => ?_)
                                            refine gx_istore (pc := 1094) (i := 5) (lv' := [(5, gx_i v112), (0, gx_x x0), (1, gx_r 2 (some [1])), (2, gx_r 17 (some [2])), (3, gx_r 103 (some [3])), (4, gx_i s1)]) (by decide) rfl (htL_law_6 (1094, .istore 5, 2) (gx_m 26 rfl)) ?_
                                            refine gx_aload_n (pc := 1096) (n := 2) (i := 2) rfl 3 rfl (htL_law_6 (1096, .aload_n 2, 1) (gx_m 27 rfl)) ?_
                                            refine gx_aload_nx (pc := 1097) (n := 0) (i := 0) rfl 1 rfl (htL_law_6 (1097, .aload_n 0, 1) (gx_m 28 rfl)) ?_
                                            refine gx_iload (pc := 1098) (i := 4) 5 rfl (htL_law_6 (1098, .iload 4, 2) (gx_m 29 rfl)) ?_
                                            refine gx_iconst (pc := 1100) (v := 1) (by decide) (htL_law_6 (1100, .iconst 1, 1) (gx_m 30 rfl)) ?_
                                            refine gx_iadd (pc := 1101) (htL_law_6 (1101, .iadd, 1) (gx_m 31 rfl)) ?_
                                            refine gx_Jsc (pc := 1102) hsc (htL_law_6 (1102, .iaload, 1) (gx_m 32 rfl)) (fun v113 => ?_)
                                            refine gx_aload_nx (pc := 1103) (n := 0) (i := 0) rfl 1 rfl (htL_law_6 (1103, .aload_n 0, 1) (gx_m 33 rfl)) ?_
                                            refine gx_iload (pc := 1104) (i := 4) 5 rfl (htL_law_6 (1104, .iload 4, 2) (gx_m 34 rfl)) ?_
                                            refine gx_iconst (pc := 1106) (v := 2) (by decide) (htL_law_6 (1106, .iconst 2, 1) (gx_m 35 rfl)) ?_
                                            refine gx_iadd (pc := 1107) (htL_law_6 (1107, .iadd, 1) (gx_m 36 rfl)) ?_
                                            refine gx_Jsc (pc := 1108) hsc (htL_law_6 (1108, .iaload, 1) (gx_m 37 rfl)) (fun v114 => ?_)
                                            refine gx_aload_nx (pc := 1109) (n := 0) (i := 0) rfl 1 rfl (htL_law_6 (1109, .aload_n 0, 1) (gx_m 38 rfl)) ?_
                                            refine gx_iload (pc := 1110) (i := 4) 5 rfl (htL_law_6 (1110, .iload 4, 2) (gx_m 39 rfl)) ?_
                                            refine gx_iconst (pc := 1112) (v := 3) (by decide) (htL_law_6 (1112, .iconst 3, 1) (gx_m 40 rfl)) ?_
                                            refine gx_iadd (pc := 1113) (htL_law_6 (1113, .iadd, 1) (gx_m 41 rfl)) ?_
                                            refine gx_Jsc (pc := 1114) hsc (htL_law_6 (1114, .iaload, 1) (gx_m 42 rfl)) (fun v115 => ?_)
                                            refine gx_Jci (pc := 1115) (gx_hst (as := [gx_i v113, gx_i v114, gx_i v115]) (b := gx_r 17 (some [2]))) (gx_runV (as := [gx_i v113, gx_i v114, gx_i v115]) (ci := 16) (ct_X16_answer Y [2] v113 v114 v115) (by decide) (Or.inl rfl) rfl rfl rfl rfl q2335 q2336 q2337 q117 q2338 rfl dd_X16_answer (by decide) (by decide) (Nat.le_of_ble_eq_true rfl) (htL_law_6 (1115, .invokevirtual 176, 3) (gx_m 43 rfl))) (fun v116 => ?_)
                                            refine gx_istore (pc := 1118) (i := 6) (lv' := [(6, gx_i v116), (5, gx_i v112), (0, gx_x x0), (1, gx_r 2 (some [1])), (2, gx_r 17 (some [2])), (3, gx_r 103 (some [3])), (4, gx_i s1)]) (by decide) rfl (htL_law_6 (1118, .istore 6, 2) (gx_m 44 rfl)) ?_
                                            refine gx_aload_n (pc := 1120) (n := 2) (i := 2) rfl 4 rfl (htL_law_6 (1120, .aload_n 2, 1) (gx_m 45 rfl)) ?_
                                            refine gx_Jci (pc := 1121) (gx_hst (as := []) (b := gx_r 17 (some [2]))) (gx_runV (as := []) (ci := 16) (ct_X16_thrown Y [2]) (by decide) (Or.inl rfl) rfl rfl rfl rfl q2042 q2043 q2044 q117 q2045 rfl dd_X16_thrown (by decide) (by decide) (Nat.le_of_ble_eq_true rfl) (htL_law_6 (1121, .invokevirtual 111, 3) (gx_m 46 rfl))) (fun v117 => ?_)
                                            refine gx_iload (pc := 1124) (i := 5) 1 rfl (htL_law_6 (1124, .iload 5, 2) (gx_m 47 rfl)) ?_
                                            refine gx_icmp_eq (pc := 1126) (tgt := 1131) (by decide) (htL_law_6 (1126, .if_icmp .eq 5, 3) (gx_m 48 rfl)) (fun c59 => ?_) (fun c59 => ?_)
                                            · refine gx_iload (pc := 1131) (i := 5) 1 rfl (htL_law_6 (1131, .iload 5, 2) (gx_m 51 rfl)) ?_
                                              refine gx_if_ne (pc := 1133) (y := 0) (tgt := 1148) (by decide) (htL_law_6 (1133, .ifCond .ne 15, 3) (gx_m 52 rfl)) (fun c60 => ?_) (fun c60 => ?_)
                                              · refine gx_aload_n (pc := 1136) (n := 3) (i := 3) rfl 5 rfl (htL_law_6 (1136, .aload_n 3, 1) (gx_m 53 rfl)) ?_
                                                refine gx_iconst (pc := 1137) (v := 0) (by decide) (htL_law_6 (1137, .iconst 0, 1) (gx_m 54 rfl)) ?_
                                                refine gx_Jla (pc := 1138) (htL_law_6 (1138, .laload, 1) (gx_m 55 rfl)) (fun v118 => ?_)
                                                refine gx_iload (pc := 1139) (i := 6) 0 rfl (htL_law_6 (1139, .iload 6, 2) (gx_m 56 rfl)) ?_
                                                refine gx_i2l (pc := 1141) (htL_law_6 (1141, .i2l, 1) (gx_m 57 rfl)) ?_
                                                refine gx_lcmp (pc := 1142) (htL_law_6 (1142, .lcmp, 1) (gx_m 58 rfl)) ?_
                                                refine gx_if_eq (pc := 1143) (y := 0) (tgt := 1148) (by decide) (htL_law_6 (1143, .ifCond .eq 5, 3) (gx_m 59 rfl)) (fun c61 => ?_) (fun c61 => ?_)
                                                · refine gx_goto (pc := 1148) (tgt := 1728) (by decide) (htL_law_6 (1148, .goto 580, 3) (gx_m 62 rfl)) ?_
                                                  refine gx_iinc (pc := 1728) (i := 4) (j := 6) (v := (s1 + 6)) (lv' := [(4, gx_i (s1 + 6)), (6, gx_i v116), (5, gx_i v112), (0, gx_x x0), (1, gx_r 2 (some [1])), (2, gx_r 17 (some [2])), (3, gx_r 103 (some [3]))]) rfl (gx_iv (by decide)) (by decide) rfl (htL_law_10 (1728, .iinc 4 6, 3) (gx_m 62 rfl)) ?_
                                                  refine gx_goto (pc := 1731) (tgt := 23) (by decide) (htL_law_10 (1731, .goto (-1708), 3) (gx_m 63 rfl)) ?_
                                                  refine gx_Jw (lv := [(0, gx_x x0), (1, gx_r 2 (some [1])), (2, gx_r 17 (some [2])), (3, gx_r 103 (some [3])), (4, gx_i (s1 + 6))]) [3, 4, 5, 6, 0] rfl ?_
                                                  exact ha1 ((s1 + 6) : Int32)
                                                · refine gx_iconst (pc := 1146) (v := 0) (by decide) (htL_law_6 (1146, .iconst 0, 1) (gx_m 60 rfl)) ?_
                                                  refine gx_Jret ((hb1 _).trans (he1 _)) ?_
                                                  exact gx_Jzret (pc := 1147) rfl gx_b0 (fun _ => gx_b0) (fun _ _ => rfl) (htL_law_6 (1147, .ireturn, 1) (gx_m 61 rfl))
                                              · refine gx_goto (pc := 1148) (tgt := 1728) (by decide) (htL_law_6 (1148, .goto 580, 3) (gx_m 62 rfl)) ?_
                                                refine gx_iinc (pc := 1728) (i := 4) (j := 6) (v := (s1 + 6)) (lv' := [(4, gx_i (s1 + 6)), (6, gx_i v116), (5, gx_i v112), (0, gx_x x0), (1, gx_r 2 (some [1])), (2, gx_r 17 (some [2])), (3, gx_r 103 (some [3]))]) rfl (gx_iv (by decide)) (by decide) rfl (htL_law_10 (1728, .iinc 4 6, 3) (gx_m 62 rfl)) ?_
                                                refine gx_goto (pc := 1731) (tgt := 23) (by decide) (htL_law_10 (1731, .goto (-1708), 3) (gx_m 63 rfl)) ?_
                                                refine gx_Jw (lv := [(0, gx_x x0), (1, gx_r 2 (some [1])), (2, gx_r 17 (some [2])), (3, gx_r 103 (some [3])), (4, gx_i (s1 + 6))]) [3, 4, 5, 6, 0] rfl ?_
                                                exact ha1 ((s1 + 6) : Int32)
                                            · refine gx_iconst (pc := 1129) (v := 0) (by decide) (htL_law_6 (1129, .iconst 0, 1) (gx_m 49 rfl)) ?_
                                              refine gx_Jret ((hb1 _).trans (he1 _)) ?_
                                              exact gx_Jzret (pc := 1130) rfl gx_b0 (fun _ => gx_b0) (fun _ _ => rfl) (htL_law_6 (1130, .ireturn, 1) (gx_m 50 rfl))
                                          · refine gx_Jite (fun c62 => ?_) (fun c62 => ?_)
                                            · refine gx_Jtab (pc := 40) (tgt := 1151) (htL_law_0 (40, .tableswitch 1688 0 26 #[124, 160, 264, 320, 380, 428, 464, 540, 596, 607, 643, 679, 735, 783, 819, 883, 919, 975, 1031, 1111, 1191, 1295, 1399, 1447, 1527, 1595, 1663], 124) (gx_m 24 rfl)) (by decide) (gx_tD c62 (by decide)) (gx_tI c62 (by decide)) ?_
                                              refine gx_aload_n (pc := 1151) (n := 1) (i := 1) rfl 1 rfl (htL_law_6 (1151, .aload_n 1, 1) (gx_m 63 rfl)) ?_
                                              refine gx_aload_nx (pc := 1152) (n := 0) (i := 0) rfl 0 rfl (htL_law_6 (1152, .aload_n 0, 1) (gx_m 64 rfl)) ?_
                                              refine gx_iload (pc := 1153) (i := 4) 4 rfl (htL_law_6 (1153, .iload 4, 2) (gx_m 65 rfl)) ?_
                                              refine gx_iconst (pc := 1155) (v := 1) (by decide) (htL_law_6 (1155, .iconst 1, 1) (gx_m 66 rfl)) ?_
                                              refine gx_iadd (pc := 1156) (htL_law_6 (1156, .iadd, 1) (gx_m 67 rfl)) ?_
                                              refine gx_Jsc (pc := 1157) hsc (htL_law_6 (1157, .iaload, 1) (gx_m 68 rfl)) (fun v119 => ?_)
                                              refine gx_aload_nx (pc := 1158) (n := 0) (i := 0) rfl 0 rfl (htL_law_6 (1158, .aload_n 0, 1) (gx_m 69 rfl)) ?_
                                              refine gx_iload (pc := 1159) (i := 4) 4 rfl (htL_law_6 (1159, .iload 4, 2) (gx_m 70 rfl)) ?_
                                              refine gx_iconst (pc := 1161) (v := 2) (by decide) (htL_law_6 (1161, .iconst 2, 1) (gx_m 71 rfl)) ?_
                                              refine gx_iadd (pc := 1162) (htL_law_6 (1162, .iadd, 1) (gx_m 72 rfl)) ?_
                                              refine gx_Jsc (pc := 1163) hsc (htL_law_6 (1163, .iaload, 1) (gx_m 73 rfl)) (fun v120 => ?_)
                                              refine gx_aload_nx (pc := 1164) (n := 0) (i := 0) rfl 0 rfl (htL_law_6 (1164, .aload_n 0, 1) (gx_m 74 rfl)) ?_
                                              refine gx_iload (pc := 1165) (i := 4) 4 rfl (htL_law_6 (1165, .iload 4, 2) (gx_m 75 rfl)) ?_
                                              refine gx_iconst (pc := 1167) (v := 3) (by decide) (htL_law_6 (1167, .iconst 3, 1) (gx_m 76 rfl)) ?_
                                              refine gx_iadd (pc := 1168) (htL_law_6 (1168, .iadd, 1) (gx_m 77 rfl)) ?_
                                              refine gx_Jsc (pc := 1169) hsc (htL_law_6 (1169, .iaload, 1) (gx_m 78 rfl)) (fun v121 => ?_)
                                              refine gx_aload_n (pc := 1170) (n := 3) (i := 3) rfl 3 rfl (htL_law_6 (1170, .aload_n 3, 1) (gx_m 79 rfl)) ?_
                                              refine gx_Jci (pc := 1171) (gx_hstS (as := [gx_r 2 (some [1]), gx_i v119, gx_i v120, gx_i v121, gx_r 103 (some [3])])) (gx_runSW (as := [gx_r 2 (some [1]), gx_i v119, gx_i v120, gx_i v121, gx_r 103 (some [3])]) (ct_X0_pair Y hT [1] v119 v120 v121 [3]) rfl rfl rfl q1542 q1543 q100 q1544 rfl dd_X0_pair (by decide) (by decide) (Nat.le_of_ble_eq_true rfl) (htL_law_6 (1171, .invokestatic 177, 3) (gx_m 80 rfl))) (fun v122 => ?_)
                                              refine gx_istore (pc := 1174) (i := 5) (lv' := [(5, gx_i v122), (0, gx_x x0), (1, gx_r 2 (some [1])), (2, gx_r 17 (some [2])), (3, gx_r 103 (some [3])), (4, gx_i s1)]) (by decide) rfl (htL_law_6 (1174, .istore 5, 2) (gx_m 81 rfl)) ?_
                                              refine gx_aload_n (pc := 1176) (n := 2) (i := 2) rfl 3 rfl (htL_law_6 (1176, .aload_n 2, 1) (gx_m 82 rfl)) ?_
                                              refine gx_aload_nx (pc := 1177) (n := 0) (i := 0) rfl 1 rfl (htL_law_6 (1177, .aload_n 0, 1) (gx_m 83 rfl)) ?_
                                              refine gx_iload (pc := 1178) (i := 4) 5 rfl (htL_law_6 (1178, .iload 4, 2) (gx_m 84 rfl)) ?_
                                              refine gx_iconst (pc := 1180) (v := 1) (by decide) (htL_law_6 (1180, .iconst 1, 1) (gx_m 85 rfl)) ?_
                                              refine gx_iadd (pc := 1181) (htL_law_6 (1181, .iadd, 1) (gx_m 86 rfl)) ?_
                                              refine gx_Jsc (pc := 1182) hsc (htL_law_6 (1182, .iaload, 1) (gx_m 87 rfl)) (fun v123 => ?_)
                                              refine gx_aload_nx (pc := 1183) (n := 0) (i := 0) rfl 1 rfl (htL_law_6 (1183, .aload_n 0, 1) (gx_m 88 rfl)) ?_
                                              refine gx_iload (pc := 1184) (i := 4) 5 rfl (htL_law_6 (1184, .iload 4, 2) (gx_m 89 rfl)) ?_
                                              refine gx_iconst (pc := 1186) (v := 2) (by decide) (htL_law_6 (1186, .iconst 2, 1) (gx_m 90 rfl)) ?_
                                              refine gx_iadd (pc := 1187) (htL_law_6 (1187, .iadd, 1) (gx_m 91 rfl)) ?_
                                              refine gx_Jsc (pc := 1188) hsc (htL_law_6 (1188, .iaload, 1) (gx_m 92 rfl)) (fun v124 => ?_)
                                              refine gx_aload_nx (pc := 1189) (n := 0) (i := 0) rfl 1 rfl (htL_law_6 (1189, .aload_n 0, 1) (gx_m 93 rfl)) ?_
                                              refine gx_iload (pc := 1190) (i := 4) 5 rfl (htL_law_6 (1190, .iload 4, 2) (gx_m 94 rfl)) ?_
                                              refine gx_iconst (pc := 1192) (v := 3) (by decide) (htL_law_6 (1192, .iconst 3, 1) (gx_m 95 rfl)) ?_
                                              refine gx_iadd (pc := 1193) (htL_law_6 (1193, .iadd, 1) (gx_m 96 rfl)) ?_
                                              refine gx_Jsc (pc := 1194) hsc (htL_law_6 (1194, .iaload, 1) (gx_m 97 rfl)) (fun v125 => ?_)
                                              refine gx_Jci (pc := 1195) (gx_hst (as := [gx_i v123, gx_i v124, gx_i v125]) (b := gx_r 17 (some [2]))) (gx_runV (as := [gx_i v123, gx_i v124, gx_i v125]) (ci := 16) (ct_X16_pair Y [2] v123 v124 v125) (by decide) (Or.inl rfl) rfl rfl rfl rfl q2339 q2340 q2341 q117 q2342 rfl dd_X16_pair (by decide) (by decide) (Nat.le_of_ble_eq_true rfl) (htL_law_6 (1195, .invokevirtual 179, 3) (gx_m 98 rfl))) (fun v126 => ?_)
                                              refine gx_istore (pc := 1198) (i := 6) (lv' := [(6, gx_i v126), (5, gx_i v122), (0, gx_x x0), (1, gx_r 2 (some [1])), (2, gx_r 17 (some [2])), (3, gx_r 103 (some [3])), (4, gx_i s1)]) (by decide) rfl (htL_law_6 (1198, .istore 6, 2) (gx_m 99 rfl)) ?_
                                              refine gx_aload_n (pc := 1200) (n := 2) (i := 2) rfl 4 rfl (htL_law_7 (1200, .aload_n 2, 1) (gx_m 0 rfl)) ?_
                                              refine gx_Jci (pc := 1201) (gx_hst (as := []) (b := gx_r 17 (some [2]))) (gx_runV (as := []) (ci := 16) (ct_X16_thrown Y [2]) (by decide) (Or.inl rfl) rfl rfl rfl rfl q2042 q2043 q2044 q117 q2045 rfl dd_X16_thrown (by decide) (by decide) (Nat.le_of_ble_eq_true rfl) (htL_law_7 (1201, .invokevirtual 111, 3) (gx_m 1 rfl))) (fun v127 => ?_)
                                              refine gx_iload (pc := 1204) (i := 5) 1 rfl (htL_law_7 (1204, .iload 5, 2) (gx_m 2 rfl)) ?_
                                              refine gx_icmp_eq (pc := 1206) (tgt := 1211) (by decide) (htL_law_7 (1206, .if_icmp .eq 5, 3) (gx_m 3 rfl)) (fun c63 => ?_) (fun c63 => ?_)
                                              · refine gx_iload (pc := 1211) (i := 5) 1 rfl (htL_law_7 (1211, .iload 5, 2) (gx_m 6 rfl)) ?_
                                                refine gx_if_ne (pc := 1213) (y := 0) (tgt := 1228) (by decide) (htL_law_7 (1213, .ifCond .ne 15, 3) (gx_m 7 rfl)) (fun c64 => ?_) (fun c64 => ?_)
                                                · refine gx_aload_n (pc := 1216) (n := 3) (i := 3) rfl 5 rfl (htL_law_7 (1216, .aload_n 3, 1) (gx_m 8 rfl)) ?_
                                                  refine gx_iconst (pc := 1217) (v := 0) (by decide) (htL_law_7 (1217, .iconst 0, 1) (gx_m 9 rfl)) ?_
                                                  refine gx_Jla (pc := 1218) (htL_law_7 (1218, .laload, 1) (gx_m 10 rfl)) (fun v128 => ?_)
                                                  refine gx_iload (pc := 1219) (i := 6) 0 rfl (htL_law_7 (1219, .iload 6, 2) (gx_m 11 rfl)) ?_
                                                  refine gx_i2l (pc := 1221) (htL_law_7 (1221, .i2l, 1) (gx_m 12 rfl)) ?_
                                                  refine gx_lcmp (pc := 1222) (htL_law_7 (1222, .lcmp, 1) (gx_m 13 rfl)) ?_
                                                  refine gx_if_eq (pc := 1223) (y := 0) (tgt := 1228) (by decide) (htL_law_7 (1223, .ifCond .eq 5, 3) (gx_m 14 rfl)) (fun c65 => ?_) (fun c65 => ?_)
                                                  · refine gx_goto (pc := 1228) (tgt := 1728) (by decide) (htL_law_7 (1228, .goto 500, 3) (gx_m 17 rfl)) ?_
                                                    refine gx_iinc (pc := 1728) (i := 4) (j := 6) (v := (s1 + 6)) (lv' := [(4, gx_i (s1 + 6)), (6, gx_i v126), (5, gx_i v122), (0, gx_x x0), (1, gx_r 2 (some [1])), (2, gx_r 17 (some [2])), (3, gx_r 103 (some [3]))]) rfl (gx_iv (by decide)) (by decide) rfl (htL_law_10 (1728, .iinc 4 6, 3) (gx_m 62 rfl)) ?_
                                                    refine gx_goto (pc := 1731) (tgt := 23) (by decide) (htL_law_10 (1731, .goto (-1708), 3) (gx_m 63 rfl)) ?_
                                                    refine gx_Jw (lv := [(0, gx_x x0), (1, gx_r 2 (some [1])), (2, gx_r 17 (some [2])), (3, gx_r 103 (some [3])), (4, gx_i (s1 + 6))]) [3, 4, 5, 6, 0] rfl ?_
                                                    exact ha1 ((s1 + 6) : Int32)
                                                  · refine gx_iconst (pc := 1226) (v := 0) (by decide) (htL_law_7 (1226, .iconst 0, 1) (gx_m 15 rfl)) ?_
                                                    refine gx_Jret ((hb1 _).trans (he1 _)) ?_
                                                    exact gx_Jzret (pc := 1227) rfl gx_b0 (fun _ => gx_b0) (fun _ _ => rfl) (htL_law_7 (1227, .ireturn, 1) (gx_m 16 rfl))
                                                · refine gx_goto (pc := 1228) (tgt := 1728) (by decide) (htL_law_7 (1228, .goto 500, 3) (gx_m 17 rfl)) ?_
                                                  refine gx_iinc (pc := 1728) (i := 4) (j := 6) (v := (s1 + 6)) (lv' := [(4, gx_i (s1 + 6)), (6, gx_i v126), (5, gx_i v122), (0, gx_x x0), (1, gx_r 2 (some [1])), (2, gx_r 17 (some [2])), (3, gx_r 103 (some [3]))]) rfl (gx_iv (by decide)) (by decide) rfl (htL_law_10 (1728, .iinc 4 6, 3) (gx_m 62 rfl)) ?_
                                                  refine gx_goto (pc := 1731) (tgt := 23) (by decide) (htL_law_10 (1731, .goto (-1708), 3) (gx_m 63 rfl)) ?_
                                                  refine gx_Jw (lv := [(0, gx_x x0), (1, gx_r 2 (some [1])), (2, gx_r 17 (some [2])), (3, gx_r 103 (some [3])), (4, gx_i (s1 + 6))]) [3, 4, 5, 6, 0] rfl ?_
                                                  exact ha1 ((s1 + 6) : Int32)
                                              · refine gx_iconst (pc := 1209) (v := 0) (by decide) (htL_law_7 (1209, .iconst 0, 1) (gx_m 4 rfl)) ?_
                                                refine gx_Jret ((hb1 _).trans (he1 _)) ?_
                                                exact gx_Jzret (pc := 1210) rfl gx_b0 (fun _ => gx_b0) (fun _ _ => rfl) (htL_law_7 (1210, .ireturn, 1) (gx_m 5 rfl))
                                            · refine gx_Jite (fun c66 => ?_) (fun c66 => ?_)
                                              · refine gx_Jtab (pc := 40) (tgt := 1231) (htL_law_0 (40, .tableswitch 1688 0 26 #[124, 160, 264, 320, 380, 428, 464, 540, 596, 607, 643, 679, 735, 783, 819, 883, 919, 975, 1031, 1111, 1191, 1295, 1399, 1447, 1527, 1595, 1663], 124) (gx_m 24 rfl)) (by decide) (gx_tD c66 (by decide)) (gx_tI c66 (by decide)) ?_
                                                refine gx_aload_n (pc := 1231) (n := 1) (i := 1) rfl 1 rfl (htL_law_7 (1231, .aload_n 1, 1) (gx_m 18 rfl)) ?_
                                                refine gx_aload_nx (pc := 1232) (n := 0) (i := 0) rfl 0 rfl (htL_law_7 (1232, .aload_n 0, 1) (gx_m 19 rfl)) ?_
                                                refine gx_iload (pc := 1233) (i := 4) 4 rfl (htL_law_7 (1233, .iload 4, 2) (gx_m 20 rfl)) ?_
                                                refine gx_iconst (pc := 1235) (v := 1) (by decide) (htL_law_7 (1235, .iconst 1, 1) (gx_m 21 rfl)) ?_
                                                refine gx_iadd (pc := 1236) (htL_law_7 (1236, .iadd, 1) (gx_m 22 rfl)) ?_
                                                refine gx_Jsc (pc := 1237) hsc (htL_law_7 (1237, .iaload, 1) (gx_m 23 rfl)) (fun v129 => ?_)
                                                refine gx_aload_nx (pc := 1238) (n := 0) (i := 0) rfl 0 rfl (htL_law_7 (1238, .aload_n 0, 1) (gx_m 24 rfl)) ?_
                                                refine gx_iload (pc := 1239) (i := 4) 4 rfl (htL_law_7 (1239, .iload 4, 2) (gx_m 25 rfl)) ?_
                                                refine gx_iconst (pc := 1241) (v := 2) (by decide) (htL_law_7 (1241, .iconst 2, 1) (gx_m 26 rfl)) ?_
                                                refine gx_iadd (pc := 1242) (htL_law_7 (1242, .iadd, 1) (gx_m 27 rfl)) ?_
                                                refine gx_Jsc (pc := 1243) hsc (htL_law_7 (1243, .iaload, 1) (gx_m 28 rfl)) (fun v130 => ?_)
                                                refine gx_aload_nx (pc := 1244) (n := 0) (i := 0) rfl 0 rfl (htL_law_7 (1244, .aload_n 0, 1) (gx_m 29 rfl)) ?_
                                                refine gx_iload (pc := 1245) (i := 4) 4 rfl (htL_law_7 (1245, .iload 4, 2) (gx_m 30 rfl)) ?_
                                                refine gx_iconst (pc := 1247) (v := 3) (by decide) (htL_law_7 (1247, .iconst 3, 1) (gx_m 31 rfl)) ?_
                                                refine gx_iadd (pc := 1248) (htL_law_7 (1248, .iadd, 1) (gx_m 32 rfl)) ?_
                                                refine gx_Jsc (pc := 1249) hsc (htL_law_7 (1249, .iaload, 1) (gx_m 33 rfl)) (fun v131 => ?_)
                                                refine gx_aload_nx (pc := 1250) (n := 0) (i := 0) rfl 0 rfl (htL_law_7 (1250, .aload_n 0, 1) (gx_m 34 rfl)) ?_
                                                refine gx_iload (pc := 1251) (i := 4) 4 rfl (htL_law_7 (1251, .iload 4, 2) (gx_m 35 rfl)) ?_
                                                refine gx_iconst (pc := 1253) (v := 4) (by decide) (htL_law_7 (1253, .iconst 4, 1) (gx_m 36 rfl)) ?_
                                                refine gx_iadd (pc := 1254) (htL_law_7 (1254, .iadd, 1) (gx_m 37 rfl)) ?_
                                                refine gx_Jsc (pc := 1255) hsc (htL_law_7 (1255, .iaload, 1) (gx_m 38 rfl)) (fun v132 => ?_)
                                                refine gx_aload_nx (pc := 1256) (n := 0) (i := 0) rfl 0 rfl (htL_law_7 (1256, .aload_n 0, 1) (gx_m 39 rfl)) ?_
                                                refine gx_iload (pc := 1257) (i := 4) 4 rfl (htL_law_7 (1257, .iload 4, 2) (gx_m 40 rfl)) ?_
                                                refine gx_iconst (pc := 1259) (v := 5) (by decide) (htL_law_7 (1259, .iconst 5, 1) (gx_m 41 rfl)) ?_
                                                refine gx_iadd (pc := 1260) (htL_law_7 (1260, .iadd, 1) (gx_m 42 rfl)) ?_
                                                refine gx_Jsc (pc := 1261) hsc (htL_law_7 (1261, .iaload, 1) (gx_m 43 rfl)) (fun v133 => ?_)
                                                refine gx_aload_n (pc := 1262) (n := 3) (i := 3) rfl 3 rfl (htL_law_7 (1262, .aload_n 3, 1) (gx_m 44 rfl)) ?_
                                                refine gx_Jci (pc := 1263) (gx_hstS (as := [gx_r 2 (some [1]), gx_i v129, gx_i v130, gx_i v131, gx_i v132, gx_i v133, gx_r 103 (some [3])])) (gx_runSW (as := [gx_r 2 (some [1]), gx_i v129, gx_i v130, gx_i v131, gx_i v132, gx_i v133, gx_r 103 (some [3])]) (ct_X0_range Y hT [1] v129 v130 v131 v132 v133 [3]) rfl rfl rfl q1563 q1564 q100 q1565 rfl dd_X0_range (by decide) (by decide) (Nat.le_of_ble_eq_true rfl) (htL_law_7 (1263, .invokestatic 180, 3) (gx_m 45 rfl))) (fun v134 => ?_)
                                                refine gx_istore (pc := 1266) (i := 5) (lv' := [(5, gx_i v134), (0, gx_x x0), (1, gx_r 2 (some [1])), (2, gx_r 17 (some [2])), (3, gx_r 103 (some [3])), (4, gx_i s1)]) (by decide) rfl (htL_law_7 (1266, .istore 5, 2) (gx_m 46 rfl)) ?_
                                                refine gx_aload_n (pc := 1268) (n := 2) (i := 2) rfl 3 rfl (htL_law_7 (1268, .aload_n 2, 1) (gx_m 47 rfl)) ?_
                                                refine gx_aload_nx (pc := 1269) (n := 0) (i := 0) rfl 1 rfl (htL_law_7 (1269, .aload_n 0, 1) (gx_m 48 rfl)) ?_
                                                refine gx_iload (pc := 1270) (i := 4) 5 rfl (htL_law_7 (1270, .iload 4, 2) (gx_m 49 rfl)) ?_
                                                refine gx_iconst (pc := 1272) (v := 1) (by decide) (htL_law_7 (1272, .iconst 1, 1) (gx_m 50 rfl)) ?_
                                                refine gx_iadd (pc := 1273) (htL_law_7 (1273, .iadd, 1) (gx_m 51 rfl)) ?_
                                                refine gx_Jsc (pc := 1274) hsc (htL_law_7 (1274, .iaload, 1) (gx_m 52 rfl)) (fun v135 => ?_)
                                                refine gx_aload_nx (pc := 1275) (n := 0) (i := 0) rfl 1 rfl (htL_law_7 (1275, .aload_n 0, 1) (gx_m 53 rfl)) ?_
                                                refine gx_iload (pc := 1276) (i := 4) 5 rfl (htL_law_7 (1276, .iload 4, 2) (gx_m 54 rfl)) ?_
                                                refine gx_iconst (pc := 1278) (v := 2) (by decide) (htL_law_7 (1278, .iconst 2, 1) (gx_m 55 rfl)) ?_
                                                refine gx_iadd (pc := 1279) (htL_law_7 (1279, .iadd, 1) (gx_m 56 rfl)) ?_
                                                refine gx_Jsc (pc := 1280) hsc (htL_law_7 (1280, .iaload, 1) (gx_m 57 rfl)) (fun v136 => ?_)
                                                refine gx_aload_nx (pc := 1281) (n := 0) (i := 0) rfl 1 rfl (htL_law_7 (1281, .aload_n 0, 1) (gx_m 58 rfl)) ?_
                                                refine gx_iload (pc := 1282) (i := 4) 5 rfl (htL_law_7 (1282, .iload 4, 2) (gx_m 59 rfl)) ?_
                                                refine gx_iconst (pc := 1284) (v := 3) (by decide) (htL_law_7 (1284, .iconst 3, 1) (gx_m 60 rfl)) ?_
                                                refine gx_iadd (pc := 1285) (htL_law_7 (1285, .iadd, 1) (gx_m 61 rfl)) ?_
                                                refine gx_Jsc (pc := 1286) hsc (htL_law_7 (1286, .iaload, 1) (gx_m 62 rfl)) (fun v137 => ?_)
                                                refine gx_aload_nx (pc := 1287) (n := 0) (i := 0) rfl 1 rfl (htL_law_7 (1287, .aload_n 0, 1) (gx_m 63 rfl)) ?_
                                                refine gx_iload (pc := 1288) (i := 4) 5 rfl (htL_law_7 (1288, .iload 4, 2) (gx_m 64 rfl)) ?_
                                                refine gx_iconst (pc := 1290) (v := 4) (by decide) (htL_law_7 (1290, .iconst 4, 1) (gx_m 65 rfl)) ?_
                                                refine gx_iadd (pc := 1291) (htL_law_7 (1291, .iadd, 1) (gx_m 66 rfl)) ?_
                                                refine gx_Jsc (pc := 1292) hsc (htL_law_7 (1292, .iaload, 1) (gx_m 67 rfl)) (fun v138 => ?_)
                                                refine gx_aload_nx (pc := 1293) (n := 0) (i := 0) rfl 1 rfl (htL_law_7 (1293, .aload_n 0, 1) (gx_m 68 rfl)) ?_
                                                refine gx_iload (pc := 1294) (i := 4) 5 rfl (htL_law_7 (1294, .iload 4, 2) (gx_m 69 rfl)) ?_
                                                refine gx_iconst (pc := 1296) (v := 5) (by decide) (htL_law_7 (1296, .iconst 5, 1) (gx_m 70 rfl)) ?_
                                                refine gx_iadd (pc := 1297) (htL_law_7 (1297, .iadd, 1) (gx_m 71 rfl)) ?_
                                                refine gx_Jsc (pc := 1298) hsc (htL_law_7 (1298, .iaload, 1) (gx_m 72 rfl)) (fun v139 => ?_)
                                                refine gx_Jci (pc := 1299) (gx_hst (as := [gx_i v135, gx_i v136, gx_i v137, gx_i v138, gx_i v139]) (b := gx_r 17 (some [2]))) (gx_runV (as := [gx_i v135, gx_i v136, gx_i v137, gx_i v138, gx_i v139]) (ci := 16) (ct_X16_range Y [2] v135 v136 v137 v138 v139) (by decide) (Or.inl rfl) rfl rfl rfl rfl q2347 q2348 q2349 q117 q2350 rfl dd_X16_range (by decide) (by decide) (Nat.le_of_ble_eq_true rfl) (htL_law_7 (1299, .invokevirtual 182, 3) (gx_m 73 rfl))) (fun v140 => ?_)
                                                refine gx_istore (pc := 1302) (i := 6) (lv' := [(6, gx_i v140), (5, gx_i v134), (0, gx_x x0), (1, gx_r 2 (some [1])), (2, gx_r 17 (some [2])), (3, gx_r 103 (some [3])), (4, gx_i s1)]) (by decide) rfl (htL_law_7 (1302, .istore 6, 2) (gx_m 74 rfl)) ?_
                                                refine gx_aload_n (pc := 1304) (n := 2) (i := 2) rfl 4 rfl (htL_law_7 (1304, .aload_n 2, 1) (gx_m 75 rfl)) ?_
                                                refine gx_Jci (pc := 1305) (gx_hst (as := []) (b := gx_r 17 (some [2]))) (gx_runV (as := []) (ci := 16) (ct_X16_thrown Y [2]) (by decide) (Or.inl rfl) rfl rfl rfl rfl q2042 q2043 q2044 q117 q2045 rfl dd_X16_thrown (by decide) (by decide) (Nat.le_of_ble_eq_true rfl) (htL_law_7 (1305, .invokevirtual 111, 3) (gx_m 76 rfl))) (fun v141 => ?_)
                                                refine gx_iload (pc := 1308) (i := 5) 1 rfl (htL_law_7 (1308, .iload 5, 2) (gx_m 77 rfl)) ?_
                                                refine gx_icmp_eq (pc := 1310) (tgt := 1315) (by decide) (htL_law_7 (1310, .if_icmp .eq 5, 3) (gx_m 78 rfl)) (fun c67 => ?_) (fun c67 => ?_)
                                                · refine gx_iload (pc := 1315) (i := 5) 1 rfl (htL_law_7 (1315, .iload 5, 2) (gx_m 81 rfl)) ?_
                                                  refine gx_if_ne (pc := 1317) (y := 0) (tgt := 1332) (by decide) (htL_law_7 (1317, .ifCond .ne 15, 3) (gx_m 82 rfl)) (fun c68 => ?_) (fun c68 => ?_)
                                                  · refine gx_aload_n (pc := 1320) (n := 3) (i := 3) rfl 5 rfl (htL_law_7 (1320, .aload_n 3, 1) (gx_m 83 rfl)) ?_
                                                    refine gx_iconst (pc := 1321) (v := 0) (by decide) (htL_law_7 (1321, .iconst 0, 1) (gx_m 84 rfl)) ?_
                                                    refine gx_Jla (pc := 1322) (htL_law_7 (1322, .laload, 1) (gx_m 85 rfl)) (fun v142 => ?_)
                                                    refine gx_iload (pc := 1323) (i := 6) 0 rfl (htL_law_7 (1323, .iload 6, 2) (gx_m 86 rfl)) ?_
                                                    refine gx_i2l (pc := 1325) (htL_law_7 (1325, .i2l, 1) (gx_m 87 rfl)) ?_
                                                    refine gx_lcmp (pc := 1326) (htL_law_7 (1326, .lcmp, 1) (gx_m 88 rfl)) ?_
                                                    refine gx_if_eq (pc := 1327) (y := 0) (tgt := 1332) (by decide) (htL_law_7 (1327, .ifCond .eq 5, 3) (gx_m 89 rfl)) (fun c69 => ?_) (fun c69 => ?_)
                                                    · refine gx_goto (pc := 1332) (tgt := 1728) (by decide) (htL_law_7 (1332, .goto 396, 3) (gx_m 92 rfl)) ?_
                                                      refine gx_iinc (pc := 1728) (i := 4) (j := 6) (v := (s1 + 6)) (lv' := [(4, gx_i (s1 + 6)), (6, gx_i v140), (5, gx_i v134), (0, gx_x x0), (1, gx_r 2 (some [1])), (2, gx_r 17 (some [2])), (3, gx_r 103 (some [3]))]) rfl (gx_iv (by decide)) (by decide) rfl (htL_law_10 (1728, .iinc 4 6, 3) (gx_m 62 rfl)) ?_
                                                      refine gx_goto (pc := 1731) (tgt := 23) (by decide) (htL_law_10 (1731, .goto (-1708), 3) (gx_m 63 rfl)) ?_
                                                      refine gx_Jw (lv := [(0, gx_x x0), (1, gx_r 2 (some [1])), (2, gx_r 17 (some [2])), (3, gx_r 103 (some [3])), (4, gx_i (s1 + 6))]) [3, 4, 5, 6, 0] rfl ?_
                                                      exact ha1 ((s1 + 6) : Int32)
                                                    · refine gx_iconst (pc := 1330) (v := 0) (by decide) (htL_law_7 (1330, .iconst 0, 1) (gx_m 90 rfl)) ?_
                                                      refine gx_Jret ((hb1 _).trans (he1 _)) ?_
                                                      exact gx_Jzret (pc := 1331) rfl gx_b0 (fun _ => gx_b0) (fun _ _ => rfl) (htL_law_7 (1331, .ireturn, 1) (gx_m 91 rfl))
                                                  · refine gx_goto (pc := 1332) (tgt := 1728) (by decide) (htL_law_7 (1332, .goto 396, 3) (gx_m 92 rfl)) ?_
                                                    refine gx_iinc (pc := 1728) (i := 4) (j := 6) (v := (s1 + 6)) (lv' := [(4, gx_i (s1 + 6)), (6, gx_i v140), (5, gx_i v134), (0, gx_x x0), (1, gx_r 2 (some [1])), (2, gx_r 17 (some [2])), (3, gx_r 103 (some [3]))]) rfl (gx_iv (by decide)) (by decide) rfl (htL_law_10 (1728, .iinc 4 6, 3) (gx_m 62 rfl)) ?_
                                                    refine gx_goto (pc := 1731) (tgt := 23) (by decide) (htL_law_10 (1731, .goto (-1708), 3) (gx_m 63 rfl)) ?_
                                                    refine gx_Jw (lv := [(0, gx_x x0), (1, gx_r 2 (some [1])), (2, gx_r 17 (some [2])), (3, gx_r 103 (some [3])), (4, gx_i (s1 + 6))]) [3, 4, 5, 6, 0] rfl ?_
                                                    exact ha1 ((s1 + 6) : Int32)
                                                · refine gx_iconst (pc := 1313) (v := 0) (by decide) (htL_law_7 (1313, .iconst 0, 1) (gx_m 79 rfl)) ?_
                                                  refine gx_Jret ((hb1 _).trans (he1 _)) ?_
                                                  exact gx_Jzret (pc := 1314) rfl gx_b0 (fun _ => gx_b0) (fun _ _ => rfl) (htL_law_7 (1314, .ireturn, 1) (gx_m 80 rfl))
                                              · refine gx_Jite (fun c70 => ?_) (fun c70 => ?_)
                                                · refine gx_Jtab (pc := 40) (tgt := 1335) (htL_law_0 (40, .tableswitch 1688 0 26 #[124, 160, 264, 320, 380, 428, 464, 540, 596, 607, 643, 679, 735, 783, 819, 883, 919, 975, 1031, 1111, 1191, 1295, 1399, 1447, 1527, 1595, 1663], 124) (gx_m 24 rfl)) (by decide) (gx_tD c70 (by decide)) (gx_tI c70 (by decide)) ?_
                                                  refine gx_aload_n (pc := 1335) (n := 1) (i := 1) rfl 1 rfl (htL_law_7 (1335, .aload_n 1, 1) (gx_m 93 rfl)) ?_
                                                  refine gx_aload_nx (pc := 1336) (n := 0) (i := 0) rfl 0 rfl (htL_law_7 (1336, .aload_n 0, 1) (gx_m 94 rfl)) ?_
                                                  refine gx_iload (pc := 1337) (i := 4) 4 rfl (htL_law_7 (1337, .iload 4, 2) (gx_m 95 rfl)) ?_
                                                  refine gx_iconst (pc := 1339) (v := 1) (by decide) (htL_law_7 (1339, .iconst 1, 1) (gx_m 96 rfl)) ?_
                                                  refine gx_iadd (pc := 1340) (htL_law_7 (1340, .iadd, 1) (gx_m 97 rfl)) ?_
                                                  refine gx_Jsc (pc := 1341) hsc (htL_law_7 (1341, .iaload, 1) (gx_m 98 rfl)) (fun v143 => ?_)
                                                  refine gx_aload_nx (pc := 1342) (n := 0) (i := 0) rfl 0 rfl (htL_law_7 (1342, .aload_n 0, 1) (gx_m 99 rfl)) ?_
                                                  refine gx_iload (pc := 1343) (i := 4) 4 rfl (htL_law_8 (1343, .iload 4, 2) (gx_m 0 rfl)) ?_
                                                  refine gx_iconst (pc := 1345) (v := 2) (by decide) (htL_law_8 (1345, .iconst 2, 1) (gx_m 1 rfl)) ?_
                                                  refine gx_iadd (pc := 1346) (htL_law_8 (1346, .iadd, 1) (gx_m 2 rfl)) ?_
                                                  refine gx_Jsc (pc := 1347) hsc (htL_law_8 (1347, .iaload, 1) (gx_m 3 rfl)) (fun v144 => ?_)
                                                  refine gx_aload_nx (pc := 1348) (n := 0) (i := 0) rfl 0 rfl (htL_law_8 (1348, .aload_n 0, 1) (gx_m 4 rfl)) ?_
                                                  refine gx_iload (pc := 1349) (i := 4) 4 rfl (htL_law_8 (1349, .iload 4, 2) (gx_m 5 rfl)) ?_
                                                  refine gx_iconst (pc := 1351) (v := 3) (by decide) (htL_law_8 (1351, .iconst 3, 1) (gx_m 6 rfl)) ?_
                                                  refine gx_iadd (pc := 1352) (htL_law_8 (1352, .iadd, 1) (gx_m 7 rfl)) ?_
                                                  refine gx_Jsc (pc := 1353) hsc (htL_law_8 (1353, .iaload, 1) (gx_m 8 rfl)) (fun v145 => ?_)
                                                  refine gx_aload_nx (pc := 1354) (n := 0) (i := 0) rfl 0 rfl (htL_law_8 (1354, .aload_n 0, 1) (gx_m 9 rfl)) ?_
                                                  refine gx_iload (pc := 1355) (i := 4) 4 rfl (htL_law_8 (1355, .iload 4, 2) (gx_m 10 rfl)) ?_
                                                  refine gx_iconst (pc := 1357) (v := 4) (by decide) (htL_law_8 (1357, .iconst 4, 1) (gx_m 11 rfl)) ?_
                                                  refine gx_iadd (pc := 1358) (htL_law_8 (1358, .iadd, 1) (gx_m 12 rfl)) ?_
                                                  refine gx_Jsc (pc := 1359) hsc (htL_law_8 (1359, .iaload, 1) (gx_m 13 rfl)) (fun v146 => ?_)
                                                  refine gx_aload_nx (pc := 1360) (n := 0) (i := 0) rfl 0 rfl (htL_law_8 (1360, .aload_n 0, 1) (gx_m 14 rfl)) ?_
                                                  refine gx_iload (pc := 1361) (i := 4) 4 rfl (htL_law_8 (1361, .iload 4, 2) (gx_m 15 rfl)) ?_
                                                  refine gx_iconst (pc := 1363) (v := 5) (by decide) (htL_law_8 (1363, .iconst 5, 1) (gx_m 16 rfl)) ?_
                                                  refine gx_iadd (pc := 1364) (htL_law_8 (1364, .iadd, 1) (gx_m 17 rfl)) ?_
                                                  refine gx_Jsc (pc := 1365) hsc (htL_law_8 (1365, .iaload, 1) (gx_m 18 rfl)) (fun v147 => ?_)
                                                  refine gx_aload_n (pc := 1366) (n := 3) (i := 3) rfl 3 rfl (htL_law_8 (1366, .aload_n 3, 1) (gx_m 19 rfl)) ?_
                                                  refine gx_Jci (pc := 1367) (gx_hstS (as := [gx_r 2 (some [1]), gx_i v143, gx_i v144, gx_i v145, gx_i v146, gx_i v147, gx_r 103 (some [3])])) (gx_runSW (as := [gx_r 2 (some [1]), gx_i v143, gx_i v144, gx_i v145, gx_i v146, gx_i v147, gx_r 103 (some [3])]) (ct_X0_event Y hT [1] v143 v144 v145 v146 v147 [3]) rfl rfl rfl q1577 q1578 q100 q1579 rfl dd_X0_event (by decide) (by decide) (Nat.le_of_ble_eq_true rfl) (htL_law_8 (1367, .invokestatic 183, 3) (gx_m 20 rfl))) (fun v148 => ?_)
                                                  refine gx_istore (pc := 1370) (i := 5) (lv' := [(5, gx_i v148), (0, gx_x x0), (1, gx_r 2 (some [1])), (2, gx_r 17 (some [2])), (3, gx_r 103 (some [3])), (4, gx_i s1)]) (by decide) rfl (htL_law_8 (1370, .istore 5, 2) (gx_m 21 rfl)) ?_
                                                  refine gx_aload_n (pc := 1372) (n := 2) (i := 2) rfl 3 rfl (htL_law_8 (1372, .aload_n 2, 1) (gx_m 22 rfl)) ?_
                                                  refine gx_aload_nx (pc := 1373) (n := 0) (i := 0) rfl 1 rfl (htL_law_8 (1373, .aload_n 0, 1) (gx_m 23 rfl)) ?_
                                                  refine gx_iload (pc := 1374) (i := 4) 5 rfl (htL_law_8 (1374, .iload 4, 2) (gx_m 24 rfl)) ?_
                                                  refine gx_iconst (pc := 1376) (v := 1) (by decide) (htL_law_8 (1376, .iconst 1, 1) (gx_m 25 rfl)) ?_
                                                  refine gx_iadd (pc := 1377) (htL_law_8 (1377, .iadd, 1) (gx_m 26 rfl)) ?_
                                                  refine gx_Jsc (pc := 1378) hsc (htL_law_8 (1378, .iaload, 1) (gx_m 27 rfl)) (fun v149 => ?_)
                                                  refine gx_aload_nx (pc := 1379) (n := 0) (i := 0) rfl 1 rfl (htL_law_8 (1379, .aload_n 0, 1) (gx_m 28 rfl)) ?_
                                                  refine gx_iload (pc := 1380) (i := 4) 5 rfl (htL_law_8 (1380, .iload 4, 2) (gx_m 29 rfl)) ?_
                                                  refine gx_iconst (pc := 1382) (v := 2) (by decide) (htL_law_8 (1382, .iconst 2, 1) (gx_m 30 rfl)) ?_
                                                  refine gx_iadd (pc := 1383) (htL_law_8 (1383, .iadd, 1) (gx_m 31 rfl)) ?_
                                                  refine gx_Jsc (pc := 1384) hsc (htL_law_8 (1384, .iaload, 1) (gx_m 32 rfl)) (fun v150 => ?_)
                                                  refine gx_aload_nx (pc := 1385) (n := 0) (i := 0) rfl 1 rfl (htL_law_8 (1385, .aload_n 0, 1) (gx_m 33 rfl)) ?_
                                                  refine gx_iload (pc := 1386) (i := 4) 5 rfl (htL_law_8 (1386, .iload 4, 2) (gx_m 34 rfl)) ?_
                                                  refine gx_iconst (pc := 1388) (v := 3) (by decide) (htL_law_8 (1388, .iconst 3, 1) (gx_m 35 rfl)) ?_
                                                  refine gx_iadd (pc := 1389) (htL_law_8 (1389, .iadd, 1) (gx_m 36 rfl)) ?_
                                                  refine gx_Jsc (pc := 1390) hsc (htL_law_8 (1390, .iaload, 1) (gx_m 37 rfl)) (fun v151 => ?_)
                                                  refine gx_aload_nx (pc := 1391) (n := 0) (i := 0) rfl 1 rfl (htL_law_8 (1391, .aload_n 0, 1) (gx_m 38 rfl)) ?_
                                                  refine gx_iload (pc := 1392) (i := 4) 5 rfl (htL_law_8 (1392, .iload 4, 2) (gx_m 39 rfl)) ?_
                                                  refine gx_iconst (pc := 1394) (v := 4) (by decide) (htL_law_8 (1394, .iconst 4, 1) (gx_m 40 rfl)) ?_
                                                  refine gx_iadd (pc := 1395) (htL_law_8 (1395, .iadd, 1) (gx_m 41 rfl)) ?_
                                                  refine gx_Jsc (pc := 1396) hsc (htL_law_8 (1396, .iaload, 1) (gx_m 42 rfl)) (fun v152 => ?_)
                                                  refine gx_aload_nx (pc := 1397) (n := 0) (i := 0) rfl 1 rfl (htL_law_8 (1397, .aload_n 0, 1) (gx_m 43 rfl)) ?_
                                                  refine gx_iload (pc := 1398) (i := 4) 5 rfl (htL_law_8 (1398, .iload 4, 2) (gx_m 44 rfl)) ?_
                                                  refine gx_iconst (pc := 1400) (v := 5) (by decide) (htL_law_8 (1400, .iconst 5, 1) (gx_m 45 rfl)) ?_
                                                  refine gx_iadd (pc := 1401) (htL_law_8 (1401, .iadd, 1) (gx_m 46 rfl)) ?_
                                                  refine gx_Jsc (pc := 1402) hsc (htL_law_8 (1402, .iaload, 1) (gx_m 47 rfl)) (fun v153 => ?_)
                                                  refine gx_Jci (pc := 1403) (gx_hst (as := [gx_i v149, gx_i v150, gx_i v151, gx_i v152, gx_i v153]) (b := gx_r 17 (some [2]))) (gx_runV (as := [gx_i v149, gx_i v150, gx_i v151, gx_i v152, gx_i v153]) (ci := 16) (ct_X16_event Y [2] v149 v150 v151 v152 v153) (by decide) (Or.inl rfl) rfl rfl rfl rfl q2351 q2352 q2353 q117 q2354 rfl dd_X16_event (by decide) (by decide) (Nat.le_of_ble_eq_true rfl) (htL_law_8 (1403, .invokevirtual 185, 3) (gx_m 48 rfl))) (fun v154 => ?_)
                                                  refine gx_istore (pc := 1406) (i := 6) (lv' := [(6, gx_i v154), (5, gx_i v148), (0, gx_x x0), (1, gx_r 2 (some [1])), (2, gx_r 17 (some [2])), (3, gx_r 103 (some [3])), (4, gx_i s1)]) (by decide) rfl (htL_law_8 (1406, .istore 6, 2) (gx_m 49 rfl)) ?_
                                                  refine gx_aload_n (pc := 1408) (n := 2) (i := 2) rfl 4 rfl (htL_law_8 (1408, .aload_n 2, 1) (gx_m 50 rfl)) ?_
                                                  refine gx_Jci (pc := 1409) (gx_hst (as := []) (b := gx_r 17 (some [2]))) (gx_runV (as := []) (ci := 16) (ct_X16_thrown Y [2]) (by decide) (Or.inl rfl) rfl rfl rfl rfl q2042 q2043 q2044 q117 q2045 rfl dd_X16_thrown (by decide) (by decide) (Nat.le_of_ble_eq_true rfl) (htL_law_8 (1409, .invokevirtual 111, 3) (gx_m 51 rfl))) (fun v155 => ?_)
                                                  refine gx_iload (pc := 1412) (i := 5) 1 rfl (htL_law_8 (1412, .iload 5, 2) (gx_m 52 rfl)) ?_
                                                  refine gx_icmp_eq (pc := 1414) (tgt := 1419) (by decide) (htL_law_8 (1414, .if_icmp .eq 5, 3) (gx_m 53 rfl)) (fun c71 => ?_) (fun c71 => ?_)
                                                  · refine gx_iload (pc := 1419) (i := 5) 1 rfl (htL_law_8 (1419, .iload 5, 2) (gx_m 56 rfl)) ?_
                                                    refine gx_if_ne (pc := 1421) (y := 0) (tgt := 1436) (by decide) (htL_law_8 (1421, .ifCond .ne 15, 3) (gx_m 57 rfl)) (fun c72 => ?_) (fun c72 => ?_)
                                                    · refine gx_aload_n (pc := 1424) (n := 3) (i := 3) rfl 5 rfl (htL_law_8 (1424, .aload_n 3, 1) (gx_m 58 rfl)) ?_
                                                      refine gx_iconst (pc := 1425) (v := 0) (by decide) (htL_law_8 (1425, .iconst 0, 1) (gx_m 59 rfl)) ?_
                                                      refine gx_Jla (pc := 1426) (htL_law_8 (1426, .laload, 1) (gx_m 60 rfl)) (fun v156 => ?_)
                                                      refine gx_iload (pc := 1427) (i := 6) 0 rfl (htL_law_8 (1427, .iload 6, 2) (gx_m 61 rfl)) ?_
                                                      refine gx_i2l (pc := 1429) (htL_law_8 (1429, .i2l, 1) (gx_m 62 rfl)) ?_
                                                      refine gx_lcmp (pc := 1430) (htL_law_8 (1430, .lcmp, 1) (gx_m 63 rfl)) ?_
                                                      refine gx_if_eq (pc := 1431) (y := 0) (tgt := 1436) (by decide) (htL_law_8 (1431, .ifCond .eq 5, 3) (gx_m 64 rfl)) (fun c73 => ?_) (fun c73 => ?_)
                                                      · refine gx_goto (pc := 1436) (tgt := 1728) (by decide) (htL_law_8 (1436, .goto 292, 3) (gx_m 67 rfl)) ?_
                                                        refine gx_iinc (pc := 1728) (i := 4) (j := 6) (v := (s1 + 6)) (lv' := [(4, gx_i (s1 + 6)), (6, gx_i v154), (5, gx_i v148), (0, gx_x x0), (1, gx_r 2 (some [1])), (2, gx_r 17 (some [2])), (3, gx_r 103 (some [3]))]) rfl (gx_iv (by decide)) (by decide) rfl (htL_law_10 (1728, .iinc 4 6, 3) (gx_m 62 rfl)) ?_
                                                        refine gx_goto (pc := 1731) (tgt := 23) (by decide) (htL_law_10 (1731, .goto (-1708), 3) (gx_m 63 rfl)) ?_
                                                        refine gx_Jw (lv := [(0, gx_x x0), (1, gx_r 2 (some [1])), (2, gx_r 17 (some [2])), (3, gx_r 103 (some [3])), (4, gx_i (s1 + 6))]) [3, 4, 5, 6, 0] rfl ?_
                                                        exact ha1 ((s1 + 6) : Int32)
                                                      · refine gx_iconst (pc := 1434) (v := 0) (by decide) (htL_law_8 (1434, .iconst 0, 1) (gx_m 65 rfl)) ?_
                                                        refine gx_Jret ((hb1 _).trans (he1 _)) ?_
                                                        exact gx_Jzret (pc := 1435) rfl gx_b0 (fun _ => gx_b0) (fun _ _ => rfl) (htL_law_8 (1435, .ireturn, 1) (gx_m 66 rfl))
                                                    · refine gx_goto (pc := 1436) (tgt := 1728) (by decide) (htL_law_8 (1436, .goto 292, 3) (gx_m 67 rfl)) ?_
                                                      refine gx_iinc (pc := 1728) (i := 4) (j := 6) (v := (s1 + 6)) (lv' := [(4, gx_i (s1 + 6)), (6, gx_i v154), (5, gx_i v148), (0, gx_x x0), (1, gx_r 2 (some [1])), (2, gx_r 17 (some [2])), (3, gx_r 103 (some [3]))]) rfl (gx_iv (by decide)) (by decide) rfl (htL_law_10 (1728, .iinc 4 6, 3) (gx_m 62 rfl)) ?_
                                                      refine gx_goto (pc := 1731) (tgt := 23) (by decide) (htL_law_10 (1731, .goto (-1708), 3) (gx_m 63 rfl)) ?_
                                                      refine gx_Jw (lv := [(0, gx_x x0), (1, gx_r 2 (some [1])), (2, gx_r 17 (some [2])), (3, gx_r 103 (some [3])), (4, gx_i (s1 + 6))]) [3, 4, 5, 6, 0] rfl ?_
                                                      exact ha1 ((s1 + 6) : Int32)
                                                  · refine gx_iconst (pc := 1417) (v := 0) (by decide) (htL_law_8 (1417, .iconst 0, 1) (gx_m 54 rfl)) ?_
                                                    refine gx_Jret ((hb1 _).trans (he1 _)) ?_
                                                    exact gx_Jzret (pc := 1418) rfl gx_b0 (fun _ => gx_b0) (fun _ _ => rfl) (htL_law_8 (1418, .ireturn, 1) (gx_m 55 rfl))
                                                · refine gx_Jite (fun c74 => ?_) (fun c74 => ?_)
                                                  · refine gx_Jtab (pc := 40) (tgt := 1439) (htL_law_0 (40, .tableswitch 1688 0 26 #[124, 160, 264, 320, 380, 428, 464, 540, 596, 607, 643, 679, 735, 783, 819, 883, 919, 975, 1031, 1111, 1191, 1295, 1399, 1447, 1527, 1595, 1663], 124) (gx_m 24 rfl)) (by decide) (gx_tD c74 (by decide)) (gx_tI c74 (by decide)) ?_
                                                    refine gx_aload_n (pc := 1439) (n := 1) (i := 1) rfl 1 rfl (htL_law_8 (1439, .aload_n 1, 1) (gx_m 68 rfl)) ?_
                                                    refine gx_aload_nx (pc := 1440) (n := 0) (i := 0) rfl 0 rfl (htL_law_8 (1440, .aload_n 0, 1) (gx_m 69 rfl)) ?_
                                                    refine gx_iload (pc := 1441) (i := 4) 4 rfl (htL_law_8 (1441, .iload 4, 2) (gx_m 70 rfl)) ?_
                                                    refine gx_iconst (pc := 1443) (v := 1) (by decide) (htL_law_8 (1443, .iconst 1, 1) (gx_m 71 rfl)) ?_
                                                    refine gx_iadd (pc := 1444) (htL_law_8 (1444, .iadd, 1) (gx_m 72 rfl)) ?_
                                                    refine gx_Jsc (pc := 1445) hsc (htL_law_8 (1445, .iaload, 1) (gx_m 73 rfl)) (fun v157 => ?_)
                                                    refine gx_aload_nx (pc := 1446) (n := 0) (i := 0) rfl 0 rfl (htL_law_8 (1446, .aload_n 0, 1) (gx_m 74 rfl)) ?_
                                                    refine gx_iload (pc := 1447) (i := 4) 4 rfl (htL_law_8 (1447, .iload 4, 2) (gx_m 75 rfl)) ?_
                                                    refine gx_iconst (pc := 1449) (v := 2) (by decide) (htL_law_8 (1449, .iconst 2, 1) (gx_m 76 rfl)) ?_
                                                    refine gx_iadd (pc := 1450) (htL_law_8 (1450, .iadd, 1) (gx_m 77 rfl)) ?_
                                                    refine gx_Jsc (pc := 1451) hsc (htL_law_8 (1451, .iaload, 1) (gx_m 78 rfl)) (fun v158 => ?_)
                                                    refine gx_Jci (pc := 1452) (gx_hstS (as := [gx_r 2 (some [1]), gx_i v157, gx_i v158])) (gx_runSW (as := [gx_r 2 (some [1]), gx_i v157, gx_i v158]) (ct_X0_compact Y hT [1] v157 v158) rfl rfl rfl q1597 q1598 q100 q1599 rfl dd_X0_compact (by decide) (by decide) (Nat.le_of_ble_eq_true rfl) (htL_law_8 (1452, .invokestatic 186, 3) (gx_m 79 rfl))) (fun v159 => ?_)
                                                    refine gx_istore (pc := 1455) (i := 5) (lv' := [(5, gx_i v159), (0, gx_x x0), (1, gx_r 2 (some [1])), (2, gx_r 17 (some [2])), (3, gx_r 103 (some [3])), (4, gx_i s1)]) (by decide) rfl (htL_law_8 (1455, .istore 5, 2) (gx_m 80 rfl)) ?_
                                                    refine gx_aload_n (pc := 1457) (n := 2) (i := 2) rfl 3 rfl (htL_law_8 (1457, .aload_n 2, 1) (gx_m 81 rfl)) ?_
                                                    refine gx_aload_nx (pc := 1458) (n := 0) (i := 0) rfl 1 rfl (htL_law_8 (1458, .aload_n 0, 1) (gx_m 82 rfl)) ?_
                                                    refine gx_iload (pc := 1459) (i := 4) 5 rfl (htL_law_8 (1459, .iload 4, 2) (gx_m 83 rfl)) ?_
                                                    refine gx_iconst (pc := 1461) (v := 1) (by decide) (htL_law_8 (1461, .iconst 1, 1) (gx_m 84 rfl)) ?_
                                                    refine gx_iadd (pc := 1462) (htL_law_8 (1462, .iadd, 1) (gx_m 85 rfl)) ?_
                                                    refine gx_Jsc (pc := 1463) hsc (htL_law_8 (1463, .iaload, 1) (gx_m 86 rfl)) (fun v160 => ?_)
                                                    refine gx_aload_nx (pc := 1464) (n := 0) (i := 0) rfl 1 rfl (htL_law_8 (1464, .aload_n 0, 1) (gx_m 87 rfl)) ?_
                                                    refine gx_iload (pc := 1465) (i := 4) 5 rfl (htL_law_8 (1465, .iload 4, 2) (gx_m 88 rfl)) ?_
                                                    refine gx_iconst (pc := 1467) (v := 2) (by decide) (htL_law_8 (1467, .iconst 2, 1) (gx_m 89 rfl)) ?_
                                                    refine gx_iadd (pc := 1468) (htL_law_8 (1468, .iadd, 1) (gx_m 90 rfl)) ?_
                                                    refine gx_Jsc (pc := 1469) hsc (htL_law_8 (1469, .iaload, 1) (gx_m 91 rfl)) (fun v161 => ?_)
                                                    refine gx_Jcv (pc := 1470) (gx_hst (as := [gx_i v160, gx_i v161]) (b := gx_r 17 (some [2]))) (gx_runV (as := [gx_i v160, gx_i v161]) (ci := 16) (ct_X16_compact Y [2] v160 v161) (by decide) (Or.inl rfl) rfl rfl rfl rfl q2367 q2368 q2369 q117 q2370 rfl dd_X16_compact (by decide) (by decide) (Nat.le_of_ble_eq_true rfl) (htL_law_8 (1470, .invokevirtual 188, 3) (gx_m 92 rfl))) ?_
                                                    refine gx_aload_n (pc := 1473) (n := 2) (i := 2) rfl 3 rfl (htL_law_8 (1473, .aload_n 2, 1) (gx_m 93 rfl)) ?_
                                                    refine gx_Jci (pc := 1474) (gx_hst (as := []) (b := gx_r 17 (some [2]))) (gx_runV (as := []) (ci := 16) (ct_X16_thrown Y [2]) (by decide) (Or.inl rfl) rfl rfl rfl rfl q2042 q2043 q2044 q117 q2045 rfl dd_X16_thrown (by decide) (by decide) (Nat.le_of_ble_eq_true rfl) (htL_law_8 (1474, .invokevirtual 111, 3) (gx_m 94 rfl))) (fun v162 => ?_)
                                                    refine gx_iload (pc := 1477) (i := 5) 0 rfl (htL_law_8 (1477, .iload 5, 2) (gx_m 95 rfl)) ?_
                                                    refine gx_icmp_eq (pc := 1479) (tgt := 1484) (by decide) (htL_law_8 (1479, .if_icmp .eq 5, 3) (gx_m 96 rfl)) (fun c75 => ?_) (fun c75 => ?_)
                                                    · refine gx_goto (pc := 1484) (tgt := 1728) (by decide) (htL_law_8 (1484, .goto 244, 3) (gx_m 99 rfl)) ?_
                                                      refine gx_iinc (pc := 1728) (i := 4) (j := 5) (v := (s1 + 6)) (lv' := [(4, gx_i (s1 + 6)), (5, gx_i v159), (0, gx_x x0), (1, gx_r 2 (some [1])), (2, gx_r 17 (some [2])), (3, gx_r 103 (some [3]))]) rfl (gx_iv (by decide)) (by decide) rfl (htL_law_10 (1728, .iinc 4 6, 3) (gx_m 62 rfl)) ?_
                                                      refine gx_goto (pc := 1731) (tgt := 23) (by decide) (htL_law_10 (1731, .goto (-1708), 3) (gx_m 63 rfl)) ?_
                                                      refine gx_Jw (lv := [(0, gx_x x0), (1, gx_r 2 (some [1])), (2, gx_r 17 (some [2])), (3, gx_r 103 (some [3])), (4, gx_i (s1 + 6))]) [2, 3, 4, 5, 0] rfl ?_
                                                      exact ha1 ((s1 + 6) : Int32)
                                                    · refine gx_iconst (pc := 1482) (v := 0) (by decide) (htL_law_8 (1482, .iconst 0, 1) (gx_m 97 rfl)) ?_
                                                      refine gx_Jret ((hb1 _).trans (he1 _)) ?_
                                                      exact gx_Jzret (pc := 1483) rfl gx_b0 (fun _ => gx_b0) (fun _ _ => rfl) (htL_law_8 (1483, .ireturn, 1) (gx_m 98 rfl))
                                                  · refine gx_Jite (fun c76 => ?_) (fun c76 => ?_)
                                                    · refine gx_Jtab (pc := 40) (tgt := 1487) (htL_law_0 (40, .tableswitch 1688 0 26 #[124, 160, 264, 320, 380, 428, 464, 540, 596, 607, 643, 679, 735, 783, 819, 883, 919, 975, 1031, 1111, 1191, 1295, 1399, 1447, 1527, 1595, 1663], 124) (gx_m 24 rfl)) (by decide) (gx_tD c76 (by decide)) (gx_tI c76 (by decide)) ?_
                                                      refine gx_aload_n (pc := 1487) (n := 1) (i := 1) rfl 1 rfl (htL_law_9 (1487, .aload_n 1, 1) (gx_m 0 rfl)) ?_
                                                      refine gx_aload_nx (pc := 1488) (n := 0) (i := 0) rfl 0 rfl (htL_law_9 (1488, .aload_n 0, 1) (gx_m 1 rfl)) ?_
                                                      refine gx_iload (pc := 1489) (i := 4) 4 rfl (htL_law_9 (1489, .iload 4, 2) (gx_m 2 rfl)) ?_
                                                      refine gx_iconst (pc := 1491) (v := 1) (by decide) (htL_law_9 (1491, .iconst 1, 1) (gx_m 3 rfl)) ?_
                                                      refine gx_iadd (pc := 1492) (htL_law_9 (1492, .iadd, 1) (gx_m 4 rfl)) ?_
                                                      refine gx_Jsc (pc := 1493) hsc (htL_law_9 (1493, .iaload, 1) (gx_m 5 rfl)) (fun v163 => ?_)
                                                      refine gx_aload_nx (pc := 1494) (n := 0) (i := 0) rfl 0 rfl (htL_law_9 (1494, .aload_n 0, 1) (gx_m 6 rfl)) ?_
                                                      refine gx_iload (pc := 1495) (i := 4) 4 rfl (htL_law_9 (1495, .iload 4, 2) (gx_m 7 rfl)) ?_
                                                      refine gx_iconst (pc := 1497) (v := 2) (by decide) (htL_law_9 (1497, .iconst 2, 1) (gx_m 8 rfl)) ?_
                                                      refine gx_iadd (pc := 1498) (htL_law_9 (1498, .iadd, 1) (gx_m 9 rfl)) ?_
                                                      refine gx_Jsc (pc := 1499) hsc (htL_law_9 (1499, .iaload, 1) (gx_m 10 rfl)) (fun v164 => ?_)
                                                      refine gx_aload_nx (pc := 1500) (n := 0) (i := 0) rfl 0 rfl (htL_law_9 (1500, .aload_n 0, 1) (gx_m 11 rfl)) ?_
                                                      refine gx_iload (pc := 1501) (i := 4) 4 rfl (htL_law_9 (1501, .iload 4, 2) (gx_m 12 rfl)) ?_
                                                      refine gx_iconst (pc := 1503) (v := 3) (by decide) (htL_law_9 (1503, .iconst 3, 1) (gx_m 13 rfl)) ?_
                                                      refine gx_iadd (pc := 1504) (htL_law_9 (1504, .iadd, 1) (gx_m 14 rfl)) ?_
                                                      refine gx_Jsc (pc := 1505) hsc (htL_law_9 (1505, .iaload, 1) (gx_m 15 rfl)) (fun v165 => ?_)
                                                      refine gx_aload_n (pc := 1506) (n := 3) (i := 3) rfl 3 rfl (htL_law_9 (1506, .aload_n 3, 1) (gx_m 16 rfl)) ?_
                                                      refine gx_Jci (pc := 1507) (gx_hstS (as := [gx_r 2 (some [1]), gx_i v163, gx_i v164, gx_i v165, gx_r 103 (some [3])])) (gx_runSW (as := [gx_r 2 (some [1]), gx_i v163, gx_i v164, gx_i v165, gx_r 103 (some [3])]) (ct_X0_outcome Y hT [1] v163 v164 v165 [3]) rfl rfl rfl q1608 q1609 q100 q1610 rfl dd_X0_outcome (by decide) (by decide) (Nat.le_of_ble_eq_true rfl) (htL_law_9 (1507, .invokestatic 189, 3) (gx_m 17 rfl))) (fun v166 => ?_)
                                                      refine gx_istore (pc := 1510) (i := 5) (lv' := [(5, gx_i v166), (0, gx_x x0), (1, gx_r 2 (some [1])), (2, gx_r 17 (some [2])), (3, gx_r 103 (some [3])), (4, gx_i s1)]) (by decide) rfl (htL_law_9 (1510, .istore 5, 2) (gx_m 18 rfl)) ?_
                                                      refine gx_aload_n (pc := 1512) (n := 2) (i := 2) rfl 3 rfl (htL_law_9 (1512, .aload_n 2, 1) (gx_m 19 rfl)) ?_
                                                      refine gx_aload_nx (pc := 1513) (n := 0) (i := 0) rfl 1 rfl (htL_law_9 (1513, .aload_n 0, 1) (gx_m 20 rfl)) ?_
                                                      refine gx_iload (pc := 1514) (i := 4) 5 rfl (htL_law_9 (1514, .iload 4, 2) (gx_m 21 rfl)) ?_
                                                      refine gx_iconst (pc := 1516) (v := 1) (by decide) (htL_law_9 (1516, .iconst 1, 1) (gx_m 22 rfl)) ?_
                                                      refine gx_iadd (pc := 1517) (htL_law_9 (1517, .iadd, 1) (gx_m 23 rfl)) ?_
                                                      refine gx_Jsc (pc := 1518) hsc (htL_law_9 (1518, .iaload, 1) (gx_m 24 rfl)) (fun v167 => ?_)
                                                      refine gx_aload_nx (pc := 1519) (n := 0) (i := 0) rfl 1 rfl (htL_law_9 (1519, .aload_n 0, 1) (gx_m 25 rfl)) ?_
                                                      refine gx_iload (pc := 1520) (i := 4) 5 rfl (htL_law_9 (1520, .iload 4, 2) (gx_m 26 rfl)) ?_
                                                      refine gx_iconst (pc := 1522) (v := 2) (by decide) (htL_law_9 (1522, .iconst 2, 1) (gx_m 27 rfl)) ?_
                                                      refine gx_iadd (pc := 1523) (htL_law_9 (1523, .iadd, 1) (gx_m 28 rfl)) ?_
                                                      refine gx_Jsc (pc := 1524) hsc (htL_law_9 (1524, .iaload, 1) (gx_m 29 rfl)) (fun v168 => ?_)
                                                      refine gx_aload_nx (pc := 1525) (n := 0) (i := 0) rfl 1 rfl (htL_law_9 (1525, .aload_n 0, 1) (gx_m 30 rfl)) ?_
                                                      refine gx_iload (pc := 1526) (i := 4) 5 rfl (htL_law_9 (1526, .iload 4, 2) (gx_m 31 rfl)) ?_
                                                      refine gx_iconst (pc := 1528) (v := 3) (by decide) (htL_law_9 (1528, .iconst 3, 1) (gx_m 32 rfl)) ?_
                                                      refine gx_iadd (pc := 1529) (htL_law_9 (1529, .iadd, 1) (gx_m 33 rfl)) ?_
                                                      refine gx_Jsc (pc := 1530) hsc (htL_law_9 (1530, .iaload, 1) (gx_m 34 rfl)) (fun v169 => ?_)
                                                      refine gx_Jci (pc := 1531) (gx_hst (as := [gx_i v167, gx_i v168, gx_i v169]) (b := gx_r 17 (some [2]))) (gx_runV (as := [gx_i v167, gx_i v168, gx_i v169]) (ci := 16) (ct_X16_outcome Y [2] v167 v168 v169) (by decide) (Or.inl rfl) rfl rfl rfl rfl q2371 q2372 q2373 q117 q2374 rfl dd_X16_outcome (by decide) (by decide) (Nat.le_of_ble_eq_true rfl) (htL_law_9 (1531, .invokevirtual 191, 3) (gx_m 35 rfl))) (fun v170 => ?_)
                                                      refine gx_istore (pc := 1534) (i := 6) (lv' := [(6, gx_i v170), (5, gx_i v166), (0, gx_x x0), (1, gx_r 2 (some [1])), (2, gx_r 17 (some [2])), (3, gx_r 103 (some [3])), (4, gx_i s1)]) (by decide) rfl (htL_law_9 (1534, .istore 6, 2) (gx_m 36 rfl)) ?_
                                                      refine gx_aload_n (pc := 1536) (n := 2) (i := 2) rfl 4 rfl (htL_law_9 (1536, .aload_n 2, 1) (gx_m 37 rfl)) ?_
                                                      refine gx_Jci (pc := 1537) (gx_hst (as := []) (b := gx_r 17 (some [2]))) (gx_runV (as := []) (ci := 16) (ct_X16_thrown Y [2]) (by decide) (Or.inl rfl) rfl rfl rfl rfl q2042 q2043 q2044 q117 q2045 rfl dd_X16_thrown (by decide) (by decide) (Nat.le_of_ble_eq_true rfl) (htL_law_9 (1537, .invokevirtual 111, 3) (gx_m 38 rfl))) (fun v171 => ?_)
                                                      refine gx_iload (pc := 1540) (i := 5) 1 rfl (htL_law_9 (1540, .iload 5, 2) (gx_m 39 rfl)) ?_
                                                      refine gx_icmp_eq (pc := 1542) (tgt := 1547) (by decide) (htL_law_9 (1542, .if_icmp .eq 5, 3) (gx_m 40 rfl)) (fun c77 => ?_) (fun c77 => ?_)
                                                      · refine gx_iload (pc := 1547) (i := 5) 1 rfl (htL_law_9 (1547, .iload 5, 2) (gx_m 43 rfl)) ?_
                                                        refine gx_if_ne (pc := 1549) (y := 0) (tgt := 1564) (by decide) (htL_law_9 (1549, .ifCond .ne 15, 3) (gx_m 44 rfl)) (fun c78 => ?_) (fun c78 => ?_)
                                                        · refine gx_aload_n (pc := 1552) (n := 3) (i := 3) rfl 5 rfl (htL_law_9 (1552, .aload_n 3, 1) (gx_m 45 rfl)) ?_
                                                          refine gx_iconst (pc := 1553) (v := 0) (by decide) (htL_law_9 (1553, .iconst 0, 1) (gx_m 46 rfl)) ?_
                                                          refine gx_Jla (pc := 1554) (htL_law_9 (1554, .laload, 1) (gx_m 47 rfl)) (fun v172 => ?_)
                                                          refine gx_iload (pc := 1555) (i := 6) 0 rfl (htL_law_9 (1555, .iload 6, 2) (gx_m 48 rfl)) ?_
                                                          refine gx_i2l (pc := 1557) (htL_law_9 (1557, .i2l, 1) (gx_m 49 rfl)) ?_
                                                          refine gx_lcmp (pc := 1558) (htL_law_9 (1558, .lcmp, 1) (gx_m 50 rfl)) ?_
                                                          refine gx_if_eq (pc := 1559) (y := 0) (tgt := 1564) (by decide) (htL_law_9 (1559, .ifCond .eq 5, 3) (gx_m 51 rfl)) (fun c79 => ?_) (fun c79 => ?_)
                                                          · refine gx_goto (pc := 1564) (tgt := 1728) (by decide) (htL_law_9 (1564, .goto 164, 3) (gx_m 54 rfl)) ?_
                                                            refine gx_iinc (pc := 1728) (i := 4) (j := 6) (v := (s1 + 6)) (lv' := [(4, gx_i (s1 + 6)), (6, gx_i v170), (5, gx_i v166), (0, gx_x x0), (1, gx_r 2 (some [1])), (2, gx_r 17 (some [2])), (3, gx_r 103 (some [3]))]) rfl (gx_iv (by decide)) (by decide) rfl (htL_law_10 (1728, .iinc 4 6, 3) (gx_m 62 rfl)) ?_
                                                            refine gx_goto (pc := 1731) (tgt := 23) (by decide) (htL_law_10 (1731, .goto (-1708), 3) (gx_m 63 rfl)) ?_
                                                            refine gx_Jw (lv := [(0, gx_x x0), (1, gx_r 2 (some [1])), (2, gx_r 17 (some [2])), (3, gx_r 103 (some [3])), (4, gx_i (s1 + 6))]) [3, 4, 5, 6, 0] rfl ?_
                                                            exact ha1 ((s1 + 6) : Int32)
                                                          · refine gx_iconst (pc := 1562) (v := 0) (by decide) (htL_law_9 (1562, .iconst 0, 1) (gx_m 52 rfl)) ?_
                                                            refine gx_Jret ((hb1 _).trans (he1 _)) ?_
                                                            exact gx_Jzret (pc := 1563) rfl gx_b0 (fun _ => gx_b0) (fun _ _ => rfl) (htL_law_9 (1563, .ireturn, 1) (gx_m 53 rfl))
                                                        · refine gx_goto (pc := 1564) (tgt := 1728) (by decide) (htL_law_9 (1564, .goto 164, 3) (gx_m 54 rfl)) ?_
                                                          refine gx_iinc (pc := 1728) (i := 4) (j := 6) (v := (s1 + 6)) (lv' := [(4, gx_i (s1 + 6)), (6, gx_i v170), (5, gx_i v166), (0, gx_x x0), (1, gx_r 2 (some [1])), (2, gx_r 17 (some [2])), (3, gx_r 103 (some [3]))]) rfl (gx_iv (by decide)) (by decide) rfl (htL_law_10 (1728, .iinc 4 6, 3) (gx_m 62 rfl)) ?_
                                                          refine gx_goto (pc := 1731) (tgt := 23) (by decide) (htL_law_10 (1731, .goto (-1708), 3) (gx_m 63 rfl)) ?_
                                                          refine gx_Jw (lv := [(0, gx_x x0), (1, gx_r 2 (some [1])), (2, gx_r 17 (some [2])), (3, gx_r 103 (some [3])), (4, gx_i (s1 + 6))]) [3, 4, 5, 6, 0] rfl ?_
                                                          exact ha1 ((s1 + 6) : Int32)
                                                      · refine gx_iconst (pc := 1545) (v := 0) (by decide) (htL_law_9 (1545, .iconst 0, 1) (gx_m 41 rfl)) ?_
                                                        refine gx_Jret ((hb1 _).trans (he1 _)) ?_
                                                        exact gx_Jzret (pc := 1546) rfl gx_b0 (fun _ => gx_b0) (fun _ _ => rfl) (htL_law_9 (1546, .ireturn, 1) (gx_m 42 rfl))
                                                    · refine gx_Jite (fun c80 => ?_) (fun c80 => ?_)
                                                      · refine gx_Jtab (pc := 40) (tgt := 1567) (htL_law_0 (40, .tableswitch 1688 0 26 #[124, 160, 264, 320, 380, 428, 464, 540, 596, 607, 643, 679, 735, 783, 819, 883, 919, 975, 1031, 1111, 1191, 1295, 1399, 1447, 1527, 1595, 1663], 124) (gx_m 24 rfl)) (by decide) (gx_tD c80 (by decide)) (gx_tI c80 (by decide)) ?_
                                                        refine gx_aload_n (pc := 1567) (n := 1) (i := 1) rfl 1 rfl (htL_law_9 (1567, .aload_n 1, 1) (gx_m 55 rfl)) ?_
                                                        refine gx_aload_nx (pc := 1568) (n := 0) (i := 0) rfl 0 rfl (htL_law_9 (1568, .aload_n 0, 1) (gx_m 56 rfl)) ?_
                                                        refine gx_iload (pc := 1569) (i := 4) 4 rfl (htL_law_9 (1569, .iload 4, 2) (gx_m 57 rfl)) ?_
                                                        refine gx_iconst (pc := 1571) (v := 1) (by decide) (htL_law_9 (1571, .iconst 1, 1) (gx_m 58 rfl)) ?_
                                                        refine gx_iadd (pc := 1572) (htL_law_9 (1572, .iadd, 1) (gx_m 59 rfl)) ?_
                                                        refine gx_Jsc (pc := 1573) hsc (htL_law_9 (1573, .iaload, 1) (gx_m 60 rfl)) (fun v173 => ?_)
                                                        refine gx_aload_nx (pc := 1574) (n := 0) (i := 0) rfl 0 rfl (htL_law_9 (1574, .aload_n 0, 1) (gx_m 61 rfl)) ?_
                                                        refine gx_iload (pc := 1575) (i := 4) 4 rfl (htL_law_9 (1575, .iload 4, 2) (gx_m 62 rfl)) ?_
                                                        refine gx_iconst (pc := 1577) (v := 2) (by decide) (htL_law_9 (1577, .iconst 2, 1) (gx_m 63 rfl)) ?_
                                                        refine gx_iadd (pc := 1578) (htL_law_9 (1578, .iadd, 1) (gx_m 64 rfl)) ?_
                                                        refine gx_Jsc (pc := 1579) hsc (htL_law_9 (1579, .iaload, 1) (gx_m 65 rfl)) (fun v174 => ?_)
                                                        refine gx_aload_n (pc := 1580) (n := 3) (i := 3) rfl 3 rfl (htL_law_9 (1580, .aload_n 3, 1) (gx_m 66 rfl)) ?_
                                                        refine gx_Jci (pc := 1581) (gx_hstS (as := [gx_r 2 (some [1]), gx_i v173, gx_i v174, gx_r 103 (some [3])])) (gx_runSW (as := [gx_r 2 (some [1]), gx_i v173, gx_i v174, gx_r 103 (some [3])]) (ct_X0_message Y hT [1] v173 v174 [3]) rfl rfl rfl q1627 q1628 q100 q1629 rfl dd_X0_message (by decide) (by decide) (Nat.le_of_ble_eq_true rfl) (htL_law_9 (1581, .invokestatic 192, 3) (gx_m 67 rfl))) (fun v175 => ?_)
                                                        refine gx_istore (pc := 1584) (i := 5) (lv' := [(5, gx_i v175), (0, gx_x x0), (1, gx_r 2 (some [1])), (2, gx_r 17 (some [2])), (3, gx_r 103 (some [3])), (4, gx_i s1)]) (by decide) rfl (htL_law_9 (1584, .istore 5, 2) (gx_m 68 rfl)) ?_
                                                        refine gx_aload_n (pc := 1586) (n := 2) (i := 2) rfl 3 rfl (htL_law_9 (1586, .aload_n 2, 1) (gx_m 69 rfl)) ?_
                                                        refine gx_aload_nx (pc := 1587) (n := 0) (i := 0) rfl 1 rfl (htL_law_9 (1587, .aload_n 0, 1) (gx_m 70 rfl)) ?_
                                                        refine gx_iload (pc := 1588) (i := 4) 5 rfl (htL_law_9 (1588, .iload 4, 2) (gx_m 71 rfl)) ?_
                                                        refine gx_iconst (pc := 1590) (v := 1) (by decide) (htL_law_9 (1590, .iconst 1, 1) (gx_m 72 rfl)) ?_
                                                        refine gx_iadd (pc := 1591) (htL_law_9 (1591, .iadd, 1) (gx_m 73 rfl)) ?_
                                                        refine gx_Jsc (pc := 1592) hsc (htL_law_9 (1592, .iaload, 1) (gx_m 74 rfl)) (fun v176 => ?_)
                                                        refine gx_aload_nx (pc := 1593) (n := 0) (i := 0) rfl 1 rfl (htL_law_9 (1593, .aload_n 0, 1) (gx_m 75 rfl)) ?_
                                                        refine gx_iload (pc := 1594) (i := 4) 5 rfl (htL_law_9 (1594, .iload 4, 2) (gx_m 76 rfl)) ?_
                                                        refine gx_iconst (pc := 1596) (v := 2) (by decide) (htL_law_9 (1596, .iconst 2, 1) (gx_m 77 rfl)) ?_
                                                        refine gx_iadd (pc := 1597) (htL_law_9 (1597, .iadd, 1) (gx_m 78 rfl)) ?_
                                                        refine gx_Jsc (pc := 1598) hsc (htL_law_9 (1598, .iaload, 1) (gx_m 79 rfl)) (fun v177 => ?_)
                                                        refine gx_Jci (pc := 1599) (gx_hst (as := [gx_i v176, gx_i v177]) (b := gx_r 17 (some [2]))) (gx_runV (as := [gx_i v176, gx_i v177]) (ci := 16) (ct_X16_message_2 Y [2] v176 v177) (by decide) (Or.inl rfl) rfl rfl rfl rfl q2375 q2376 q2377 q117 q2378 rfl dd_X16_message_2 (by decide) (by decide) (Nat.le_of_ble_eq_true rfl) (htL_law_9 (1599, .invokevirtual 195, 3) (gx_m 80 rfl))) (fun v178 => ?_)
                                                        refine gx_istore (pc := 1602) (i := 6) (lv' := [(6, gx_i v178), (5, gx_i v175), (0, gx_x x0), (1, gx_r 2 (some [1])), (2, gx_r 17 (some [2])), (3, gx_r 103 (some [3])), (4, gx_i s1)]) (by decide) rfl (htL_law_9 (1602, .istore 6, 2) (gx_m 81 rfl)) ?_
                                                        refine gx_aload_n (pc := 1604) (n := 2) (i := 2) rfl 4 rfl (htL_law_9 (1604, .aload_n 2, 1) (gx_m 82 rfl)) ?_
                                                        refine gx_Jci (pc := 1605) (gx_hst (as := []) (b := gx_r 17 (some [2]))) (gx_runV (as := []) (ci := 16) (ct_X16_thrown Y [2]) (by decide) (Or.inl rfl) rfl rfl rfl rfl q2042 q2043 q2044 q117 q2045 rfl dd_X16_thrown (by decide) (by decide) (Nat.le_of_ble_eq_true rfl) (htL_law_9 (1605, .invokevirtual 111, 3) (gx_m 83 rfl))) (fun v179 => ?_)
                                                        refine gx_iload (pc := 1608) (i := 5) 1 rfl (htL_law_9 (1608, .iload 5, 2) (gx_m 84 rfl)) ?_
                                                        refine gx_icmp_eq (pc := 1610) (tgt := 1615) (by decide) (htL_law_9 (1610, .if_icmp .eq 5, 3) (gx_m 85 rfl)) (fun c81 => ?_) (fun c81 => ?_)
                                                        · refine gx_iload (pc := 1615) (i := 5) 1 rfl (htL_law_9 (1615, .iload 5, 2) (gx_m 88 rfl)) ?_
                                                          refine gx_if_ne (pc := 1617) (y := 0) (tgt := 1632) (by decide) (htL_law_9 (1617, .ifCond .ne 15, 3) (gx_m 89 rfl)) (fun c82 => ?_) (fun c82 => ?_)
                                                          · refine gx_aload_n (pc := 1620) (n := 3) (i := 3) rfl 5 rfl (htL_law_9 (1620, .aload_n 3, 1) (gx_m 90 rfl)) ?_
                                                            refine gx_iconst (pc := 1621) (v := 0) (by decide) (htL_law_9 (1621, .iconst 0, 1) (gx_m 91 rfl)) ?_
                                                            refine gx_Jla (pc := 1622) (htL_law_9 (1622, .laload, 1) (gx_m 92 rfl)) (fun v180 => ?_)
                                                            refine gx_iload (pc := 1623) (i := 6) 0 rfl (htL_law_9 (1623, .iload 6, 2) (gx_m 93 rfl)) ?_
                                                            refine gx_i2l (pc := 1625) (htL_law_9 (1625, .i2l, 1) (gx_m 94 rfl)) ?_
                                                            refine gx_lcmp (pc := 1626) (htL_law_9 (1626, .lcmp, 1) (gx_m 95 rfl)) ?_
                                                            refine gx_if_eq (pc := 1627) (y := 0) (tgt := 1632) (by decide) (htL_law_9 (1627, .ifCond .eq 5, 3) (gx_m 96 rfl)) (fun c83 => ?_) (fun c83 => ?_)
                                                            · refine gx_goto (pc := 1632) (tgt := 1728) (by decide) (htL_law_9 (1632, .goto 96, 3) (gx_m 99 rfl)) ?_
                                                              refine gx_iinc (pc := 1728) (i := 4) (j := 6) (v := (s1 + 6)) (lv' := [(4, gx_i (s1 + 6)), (6, gx_i v178), (5, gx_i v175), (0, gx_x x0), (1, gx_r 2 (some [1])), (2, gx_r 17 (some [2])), (3, gx_r 103 (some [3]))]) rfl (gx_iv (by decide)) (by decide) rfl (htL_law_10 (1728, .iinc 4 6, 3) (gx_m 62 rfl)) ?_
                                                              refine gx_goto (pc := 1731) (tgt := 23) (by decide) (htL_law_10 (1731, .goto (-1708), 3) (gx_m 63 rfl)) ?_
                                                              refine gx_Jw (lv := [(0, gx_x x0), (1, gx_r 2 (some [1])), (2, gx_r 17 (some [2])), (3, gx_r 103 (some [3])), (4, gx_i (s1 + 6))]) [3, 4, 5, 6, 0] rfl ?_
                                                              exact ha1 ((s1 + 6) : Int32)
                                                            · refine gx_iconst (pc := 1630) (v := 0) (by decide) (htL_law_9 (1630, .iconst 0, 1) (gx_m 97 rfl)) ?_
                                                              refine gx_Jret ((hb1 _).trans (he1 _)) ?_
                                                              exact gx_Jzret (pc := 1631) rfl gx_b0 (fun _ => gx_b0) (fun _ _ => rfl) (htL_law_9 (1631, .ireturn, 1) (gx_m 98 rfl))
                                                          · refine gx_goto (pc := 1632) (tgt := 1728) (by decide) (htL_law_9 (1632, .goto 96, 3) (gx_m 99 rfl)) ?_
                                                            refine gx_iinc (pc := 1728) (i := 4) (j := 6) (v := (s1 + 6)) (lv' := [(4, gx_i (s1 + 6)), (6, gx_i v178), (5, gx_i v175), (0, gx_x x0), (1, gx_r 2 (some [1])), (2, gx_r 17 (some [2])), (3, gx_r 103 (some [3]))]) rfl (gx_iv (by decide)) (by decide) rfl (htL_law_10 (1728, .iinc 4 6, 3) (gx_m 62 rfl)) ?_
                                                            refine gx_goto (pc := 1731) (tgt := 23) (by decide) (htL_law_10 (1731, .goto (-1708), 3) (gx_m 63 rfl)) ?_
                                                            refine gx_Jw (lv := [(0, gx_x x0), (1, gx_r 2 (some [1])), (2, gx_r 17 (some [2])), (3, gx_r 103 (some [3])), (4, gx_i (s1 + 6))]) [3, 4, 5, 6, 0] rfl ?_
                                                            exact ha1 ((s1 + 6) : Int32)
                                                        · refine gx_iconst (pc := 1613) (v := 0) (by decide) (htL_law_9 (1613, .iconst 0, 1) (gx_m 86 rfl)) ?_
                                                          refine gx_Jret ((hb1 _).trans (he1 _)) ?_
                                                          exact gx_Jzret (pc := 1614) rfl gx_b0 (fun _ => gx_b0) (fun _ _ => rfl) (htL_law_9 (1614, .ireturn, 1) (gx_m 87 rfl))
                                                      · refine gx_Jite (fun c84 => ?_) (fun c84 => ?_)
                                                        · refine gx_Jtab (pc := 40) (tgt := 1635) (htL_law_0 (40, .tableswitch 1688 0 26 #[124, 160, 264, 320, 380, 428, 464, 540, 596, 607, 643, 679, 735, 783, 819, 883, 919, 975, 1031, 1111, 1191, 1295, 1399, 1447, 1527, 1595, 1663], 124) (gx_m 24 rfl)) (by decide) (gx_tD c84 (by decide)) (gx_tI c84 (by decide)) ?_
                                                          refine gx_aload_n (pc := 1635) (n := 1) (i := 1) rfl 1 rfl (htL_law_10 (1635, .aload_n 1, 1) (gx_m 0 rfl)) ?_
                                                          refine gx_aload_nx (pc := 1636) (n := 0) (i := 0) rfl 0 rfl (htL_law_10 (1636, .aload_n 0, 1) (gx_m 1 rfl)) ?_
                                                          refine gx_iload (pc := 1637) (i := 4) 4 rfl (htL_law_10 (1637, .iload 4, 2) (gx_m 2 rfl)) ?_
                                                          refine gx_iconst (pc := 1639) (v := 1) (by decide) (htL_law_10 (1639, .iconst 1, 1) (gx_m 3 rfl)) ?_
                                                          refine gx_iadd (pc := 1640) (htL_law_10 (1640, .iadd, 1) (gx_m 4 rfl)) ?_
                                                          refine gx_Jsc (pc := 1641) hsc (htL_law_10 (1641, .iaload, 1) (gx_m 5 rfl)) (fun v181 => ?_)
                                                          refine gx_aload_nx (pc := 1642) (n := 0) (i := 0) rfl 0 rfl (htL_law_10 (1642, .aload_n 0, 1) (gx_m 6 rfl)) ?_
                                                          refine gx_iload (pc := 1643) (i := 4) 4 rfl (htL_law_10 (1643, .iload 4, 2) (gx_m 7 rfl)) ?_
                                                          refine gx_iconst (pc := 1645) (v := 2) (by decide) (htL_law_10 (1645, .iconst 2, 1) (gx_m 8 rfl)) ?_
                                                          refine gx_iadd (pc := 1646) (htL_law_10 (1646, .iadd, 1) (gx_m 9 rfl)) ?_
                                                          refine gx_Jsc (pc := 1647) hsc (htL_law_10 (1647, .iaload, 1) (gx_m 10 rfl)) (fun v182 => ?_)
                                                          refine gx_aload_n (pc := 1648) (n := 3) (i := 3) rfl 3 rfl (htL_law_10 (1648, .aload_n 3, 1) (gx_m 11 rfl)) ?_
                                                          refine gx_Jci (pc := 1649) (gx_hstS (as := [gx_r 2 (some [1]), gx_i v181, gx_i v182, gx_r 103 (some [3])])) (gx_runSW (as := [gx_r 2 (some [1]), gx_i v181, gx_i v182, gx_r 103 (some [3])]) (ct_X0_told Y hT [1] v181 v182 [3]) rfl rfl rfl q1634 q1635 q100 q1636 rfl dd_X0_told (by decide) (by decide) (Nat.le_of_ble_eq_true rfl) (htL_law_10 (1649, .invokestatic 196, 3) (gx_m 12 rfl))) (fun v183 => ?_)
                                                          refine gx_istore (pc := 1652) (i := 5) (lv' := [(5, gx_i v183), (0, gx_x x0), (1, gx_r 2 (some [1])), (2, gx_r 17 (some [2])), (3, gx_r 103 (some [3])), (4, gx_i s1)]) (by decide) rfl (htL_law_10 (1652, .istore 5, 2) (gx_m 13 rfl)) ?_
                                                          refine gx_aload_n (pc := 1654) (n := 2) (i := 2) rfl 3 rfl (htL_law_10 (1654, .aload_n 2, 1) (gx_m 14 rfl)) ?_
                                                          refine gx_aload_nx (pc := 1655) (n := 0) (i := 0) rfl 1 rfl (htL_law_10 (1655, .aload_n 0, 1) (gx_m 15 rfl)) ?_
                                                          refine gx_iload (pc := 1656) (i := 4) 5 rfl (htL_law_10 (1656, .iload 4, 2) (gx_m 16 rfl)) ?_
                                                          refine gx_iconst (pc := 1658) (v := 1) (by decide) (htL_law_10 (1658, .iconst 1, 1) (gx_m 17 rfl)) ?_
                                                          refine gx_iadd (pc := 1659) (htL_law_10 (1659, .iadd, 1) (gx_m 18 rfl)) ?_
                                                          refine gx_Jsc (pc := 1660) hsc (htL_law_10 (1660, .iaload, 1) (gx_m 19 rfl)) (fun v184 => ?_)
                                                          refine gx_aload_nx (pc := 1661) (n := 0) (i := 0) rfl 1 rfl (htL_law_10 (1661, .aload_n 0, 1) (gx_m 20 rfl)) ?_
                                                          refine gx_iload (pc := 1662) (i := 4) 5 rfl (htL_law_10 (1662, .iload 4, 2) (gx_m 21 rfl)) ?_
                                                          refine gx_iconst (pc := 1664) (v := 2) (by decide) (htL_law_10 (1664, .iconst 2, 1) (gx_m 22 rfl)) ?_
                                                          refine gx_iadd (pc := 1665) (htL_law_10 (1665, .iadd, 1) (gx_m 23 rfl)) ?_
                                                          refine gx_Jsc (pc := 1666) hsc (htL_law_10 (1666, .iaload, 1) (gx_m 24 rfl)) (fun v185 => ?_)
                                                          refine gx_Jci (pc := 1667) (gx_hst (as := [gx_i v184, gx_i v185]) (b := gx_r 17 (some [2]))) (gx_runV (as := [gx_i v184, gx_i v185]) (ci := 16) (ct_X16_told Y [2] v184 v185) (by decide) (Or.inl rfl) rfl rfl rfl rfl q2379 q2380 q2381 q117 q2382 rfl dd_X16_told (by decide) (by decide) (Nat.le_of_ble_eq_true rfl) (htL_law_10 (1667, .invokevirtual 198, 3) (gx_m 25 rfl))) (fun v186 => ?_)
                                                          refine gx_istore (pc := 1670) (i := 6) (lv' := [(6, gx_i v186), (5, gx_i v183), (0, gx_x x0), (1, gx_r 2 (some [1])), (2, gx_r 17 (some [2])), (3, gx_r 103 (some [3])), (4, gx_i s1)]) (by decide) rfl (htL_law_10 (1670, .istore 6, 2) (gx_m 26 rfl)) ?_
                                                          refine gx_aload_n (pc := 1672) (n := 2) (i := 2) rfl 4 rfl (htL_law_10 (1672, .aload_n 2, 1) (gx_m 27 rfl)) ?_
                                                          refine gx_Jci (pc := 1673) (gx_hst (as := []) (b := gx_r 17 (some [2]))) (gx_runV (as := []) (ci := 16) (ct_X16_thrown Y [2]) (by decide) (Or.inl rfl) rfl rfl rfl rfl q2042 q2043 q2044 q117 q2045 rfl dd_X16_thrown (by decide) (by decide) (Nat.le_of_ble_eq_true rfl) (htL_law_10 (1673, .invokevirtual 111, 3) (gx_m 28 rfl))) (fun v187 => ?_)
                                                          refine gx_iload (pc := 1676) (i := 5) 1 rfl (htL_law_10 (1676, .iload 5, 2) (gx_m 29 rfl)) ?_
                                                          refine gx_icmp_eq (pc := 1678) (tgt := 1683) (by decide) (htL_law_10 (1678, .if_icmp .eq 5, 3) (gx_m 30 rfl)) (fun c85 => ?_) (fun c85 => ?_)
                                                          · refine gx_iload (pc := 1683) (i := 5) 1 rfl (htL_law_10 (1683, .iload 5, 2) (gx_m 33 rfl)) ?_
                                                            refine gx_if_ne (pc := 1685) (y := 0) (tgt := 1700) (by decide) (htL_law_10 (1685, .ifCond .ne 15, 3) (gx_m 34 rfl)) (fun c86 => ?_) (fun c86 => ?_)
                                                            · refine gx_aload_n (pc := 1688) (n := 3) (i := 3) rfl 5 rfl (htL_law_10 (1688, .aload_n 3, 1) (gx_m 35 rfl)) ?_
                                                              refine gx_iconst (pc := 1689) (v := 0) (by decide) (htL_law_10 (1689, .iconst 0, 1) (gx_m 36 rfl)) ?_
                                                              refine gx_Jla (pc := 1690) (htL_law_10 (1690, .laload, 1) (gx_m 37 rfl)) (fun v188 => ?_)
                                                              refine gx_iload (pc := 1691) (i := 6) 0 rfl (htL_law_10 (1691, .iload 6, 2) (gx_m 38 rfl)) ?_
                                                              refine gx_i2l (pc := 1693) (htL_law_10 (1693, .i2l, 1) (gx_m 39 rfl)) ?_
                                                              refine gx_lcmp (pc := 1694) (htL_law_10 (1694, .lcmp, 1) (gx_m 40 rfl)) ?_
                                                              refine gx_if_eq (pc := 1695) (y := 0) (tgt := 1700) (by decide) (htL_law_10 (1695, .ifCond .eq 5, 3) (gx_m 41 rfl)) (fun c87 => ?_) (fun c87 => ?_)
                                                              · refine gx_goto (pc := 1700) (tgt := 1728) (by decide) (htL_law_10 (1700, .goto 28, 3) (gx_m 44 rfl)) ?_
                                                                refine gx_iinc (pc := 1728) (i := 4) (j := 6) (v := (s1 + 6)) (lv' := [(4, gx_i (s1 + 6)), (6, gx_i v186), (5, gx_i v183), (0, gx_x x0), (1, gx_r 2 (some [1])), (2, gx_r 17 (some [2])), (3, gx_r 103 (some [3]))]) rfl (gx_iv (by decide)) (by decide) rfl (htL_law_10 (1728, .iinc 4 6, 3) (gx_m 62 rfl)) ?_
                                                                refine gx_goto (pc := 1731) (tgt := 23) (by decide) (htL_law_10 (1731, .goto (-1708), 3) (gx_m 63 rfl)) ?_
                                                                refine gx_Jw (lv := [(0, gx_x x0), (1, gx_r 2 (some [1])), (2, gx_r 17 (some [2])), (3, gx_r 103 (some [3])), (4, gx_i (s1 + 6))]) [3, 4, 5, 6, 0] rfl ?_
                                                                exact ha1 ((s1 + 6) : Int32)
                                                              · refine gx_iconst (pc := 1698) (v := 0) (by decide) (htL_law_10 (1698, .iconst 0, 1) (gx_m 42 rfl)) ?_
                                                                refine gx_Jret ((hb1 _).trans (he1 _)) ?_
                                                                exact gx_Jzret (pc := 1699) rfl gx_b0 (fun _ => gx_b0) (fun _ _ => rfl) (htL_law_10 (1699, .ireturn, 1) (gx_m 43 rfl))
                                                            · refine gx_goto (pc := 1700) (tgt := 1728) (by decide) (htL_law_10 (1700, .goto 28, 3) (gx_m 44 rfl)) ?_
                                                              refine gx_iinc (pc := 1728) (i := 4) (j := 6) (v := (s1 + 6)) (lv' := [(4, gx_i (s1 + 6)), (6, gx_i v186), (5, gx_i v183), (0, gx_x x0), (1, gx_r 2 (some [1])), (2, gx_r 17 (some [2])), (3, gx_r 103 (some [3]))]) rfl (gx_iv (by decide)) (by decide) rfl (htL_law_10 (1728, .iinc 4 6, 3) (gx_m 62 rfl)) ?_
                                                              refine gx_goto (pc := 1731) (tgt := 23) (by decide) (htL_law_10 (1731, .goto (-1708), 3) (gx_m 63 rfl)) ?_
                                                              refine gx_Jw (lv := [(0, gx_x x0), (1, gx_r 2 (some [1])), (2, gx_r 17 (some [2])), (3, gx_r 103 (some [3])), (4, gx_i (s1 + 6))]) [3, 4, 5, 6, 0] rfl ?_
                                                              exact ha1 ((s1 + 6) : Int32)
                                                          · refine gx_iconst (pc := 1681) (v := 0) (by decide) (htL_law_10 (1681, .iconst 0, 1) (gx_m 31 rfl)) ?_
                                                            refine gx_Jret ((hb1 _).trans (he1 _)) ?_
                                                            exact gx_Jzret (pc := 1682) rfl gx_b0 (fun _ => gx_b0) (fun _ _ => rfl) (htL_law_10 (1682, .ireturn, 1) (gx_m 32 rfl))
                                                        · refine gx_Jite (fun c88 => ?_) (fun c88 => ?_)
                                                          · refine gx_Jtab (pc := 40) (tgt := 1703) (htL_law_0 (40, .tableswitch 1688 0 26 #[124, 160, 264, 320, 380, 428, 464, 540, 596, 607, 643, 679, 735, 783, 819, 883, 919, 975, 1031, 1111, 1191, 1295, 1399, 1447, 1527, 1595, 1663], 124) (gx_m 24 rfl)) (by decide) (gx_tD c88 (by decide)) (gx_tI c88 (by decide)) ?_
                                                            refine gx_aload_n (pc := 1703) (n := 1) (i := 1) rfl 1 rfl (htL_law_10 (1703, .aload_n 1, 1) (gx_m 45 rfl)) ?_
                                                            refine gx_aload_nx (pc := 1704) (n := 0) (i := 0) rfl 0 rfl (htL_law_10 (1704, .aload_n 0, 1) (gx_m 46 rfl)) ?_
                                                            refine gx_iload (pc := 1705) (i := 4) 4 rfl (htL_law_10 (1705, .iload 4, 2) (gx_m 47 rfl)) ?_
                                                            refine gx_iconst (pc := 1707) (v := 1) (by decide) (htL_law_10 (1707, .iconst 1, 1) (gx_m 48 rfl)) ?_
                                                            refine gx_iadd (pc := 1708) (htL_law_10 (1708, .iadd, 1) (gx_m 49 rfl)) ?_
                                                            refine gx_Jsc (pc := 1709) hsc (htL_law_10 (1709, .iaload, 1) (gx_m 50 rfl)) (fun v189 => ?_)
                                                            refine gx_Jci (pc := 1710) (gx_hst (as := [gx_i v189]) (b := gx_r 2 (some [1]))) (gx_runV (as := [gx_i v189]) (ci := 1) (ct_X1_count Y [1] v189) (by decide) (Or.inl rfl) rfl rfl rfl rfl q732 q733 q734 q101 q735 rfl dd_X1_count (by decide) (by decide) (Nat.le_of_ble_eq_true rfl) (htL_law_10 (1710, .invokevirtual 199, 3) (gx_m 51 rfl))) (fun v190 => ?_)
                                                            refine gx_aload_n (pc := 1713) (n := 2) (i := 2) rfl 2 rfl (htL_law_10 (1713, .aload_n 2, 1) (gx_m 52 rfl)) ?_
                                                            refine gx_aload_nx (pc := 1714) (n := 0) (i := 0) rfl 0 rfl (htL_law_10 (1714, .aload_n 0, 1) (gx_m 53 rfl)) ?_
                                                            refine gx_iload (pc := 1715) (i := 4) 4 rfl (htL_law_10 (1715, .iload 4, 2) (gx_m 54 rfl)) ?_
                                                            refine gx_iconst (pc := 1717) (v := 1) (by decide) (htL_law_10 (1717, .iconst 1, 1) (gx_m 55 rfl)) ?_
                                                            refine gx_iadd (pc := 1718) (htL_law_10 (1718, .iadd, 1) (gx_m 56 rfl)) ?_
                                                            refine gx_Jsc (pc := 1719) hsc (htL_law_10 (1719, .iaload, 1) (gx_m 57 rfl)) (fun v191 => ?_)
                                                            refine gx_Jci (pc := 1720) (gx_hst (as := [gx_i v191]) (b := gx_r 17 (some [2]))) (gx_runV (as := [gx_i v191]) (ci := 16) (ct_X16_count Y [2] v191) (by decide) (Or.inl rfl) rfl rfl rfl rfl q2387 q2388 q2389 q117 q2390 rfl dd_X16_count (by decide) (by decide) (Nat.le_of_ble_eq_true rfl) (htL_law_10 (1720, .invokevirtual 202, 3) (gx_m 58 rfl))) (fun v192 => ?_)
                                                            refine gx_icmp_eq (pc := 1723) (tgt := 1728) (by decide) (htL_law_10 (1723, .if_icmp .eq 5, 3) (gx_m 59 rfl)) (fun c89 => ?_) (fun c89 => ?_)
                                                            · refine gx_iinc (pc := 1728) (i := 4) (j := 4) (v := (s1 + 6)) (lv' := [(4, gx_i (s1 + 6)), (0, gx_x x0), (1, gx_r 2 (some [1])), (2, gx_r 17 (some [2])), (3, gx_r 103 (some [3]))]) rfl (gx_iv (by decide)) (by decide) rfl (htL_law_10 (1728, .iinc 4 6, 3) (gx_m 62 rfl)) ?_
                                                              refine gx_goto (pc := 1731) (tgt := 23) (by decide) (htL_law_10 (1731, .goto (-1708), 3) (gx_m 63 rfl)) ?_
                                                              refine gx_Jw (lv := [(0, gx_x x0), (1, gx_r 2 (some [1])), (2, gx_r 17 (some [2])), (3, gx_r 103 (some [3])), (4, gx_i (s1 + 6))]) [1, 2, 3, 4, 0] rfl ?_
                                                              exact ha1 ((s1 + 6) : Int32)
                                                            · refine gx_iconst (pc := 1726) (v := 0) (by decide) (htL_law_10 (1726, .iconst 0, 1) (gx_m 60 rfl)) ?_
                                                              refine gx_Jret ((hb1 _).trans (he1 _)) ?_
                                                              exact gx_Jzret (pc := 1727) rfl gx_b0 (fun _ => gx_b0) (fun _ _ => rfl) (htL_law_10 (1727, .ireturn, 1) (gx_m 61 rfl))
                                                          · refine gx_Jtab (pc := 40) (tgt := 1728) (htL_law_0 (40, .tableswitch 1688 0 26 #[124, 160, 264, 320, 380, 428, 464, 540, 596, 607, 643, 679, 735, 783, 819, 883, 919, 975, 1031, 1111, 1191, 1295, 1399, 1447, 1527, 1595, 1663], 124) (gx_m 24 rfl)) (by decide) (fun _ => by decide) (gx_tN (ks := [0, 1, 2, 3, 4, 5, 6, 7, 8, 9, 10, 11, 12, 13, 14, 15, 16, 17, 18, 19, 20, 21, 22, 23, 24, 25, 26]) (by simp only [List.mem_cons, List.not_mem_nil, or_false, not_or]; exact ⟨c3, c5, c9, c13, c15, c17, c19, c25, c29, c30, c32, c34, c38, c40, c42, c48, c50, c54, c58, c62, c66, c70, c74, c76, c80, c84, c88⟩) (by decide)) ?_
                                                            refine gx_iinc (pc := 1728) (i := 4) (j := 4) (v := (s1 + 6)) (lv' := [(4, gx_i (s1 + 6)), (0, gx_x x0), (1, gx_r 2 (some [1])), (2, gx_r 17 (some [2])), (3, gx_r 103 (some [3]))]) rfl (gx_iv (by decide)) (by decide) rfl (htL_law_10 (1728, .iinc 4 6, 3) (gx_m 62 rfl)) ?_
                                                            refine gx_goto (pc := 1731) (tgt := 23) (by decide) (htL_law_10 (1731, .goto (-1708), 3) (gx_m 63 rfl)) ?_
                                                            refine gx_Jw (lv := [(0, gx_x x0), (1, gx_r 2 (some [1])), (2, gx_r 17 (some [2])), (3, gx_r 103 (some [3])), (4, gx_i (s1 + 6))]) [1, 2, 3, 4, 0] rfl ?_
                                                            exact ha1 ((s1 + 6) : Int32)
