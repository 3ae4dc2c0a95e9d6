/-! ===== the wrappers do what f_X0_y says (printed by gen/wprint.py) ===== -/
set_option maxRecDepth 100000
set_option maxHeartbeats 4000000
theorem ct_X0_nodes (Y : gx_Y) (hT : gx_Tr Y) (x0 : gx_Nm) (x1 : Int32) : gx_Ct Y yX0_nodes (wsW_ yX0_nodes cX0_nodes 3 (some .int) [(0, 5, 8, 13)]) 10 345 [gx_r 2 (some x0), gx_i x1] gx_Oi (f_X0_nodes x0 x1) := by
  refine gx_startW (lv := [(0, gx_r 2 (some x0)), (1, gx_i x1)]) gx_Oi_r pn_X0 (Nat.le_of_ble_eq_true rfl) rfl ?_
  unfold f_X0_nodes
  refine gx_aload_n (pc := 0) (n := 0) (i := 0) rfl 0 rfl (htX0_nodes (0, .aload_n 0, 1) (gx_m 0 rfl)) ?_
  refine gx_iload_n (pc := 1) (n := 1) (i := 1) rfl 1 rfl (htX0_nodes (1, .iload_n 1, 1) (gx_m 1 rfl)) ?_
  refine gx_Jcx (pc := 2) rfl (gx_runVT (as := [gx_i x1]) (ci := 1) (ct_X1_nodes Y hT x0 x1) (by decide) (Or.inl rfl) rfl rfl rfl rfl q752 q753 q754 q101 q755 rfl dd_X1_nodes (by decide) (by decide) (Nat.le_of_ble_eq_true rfl) (htX0_nodes (2, .invokevirtual 7, 3) (gx_m 2 rfl))) (fun kx hk => ?_) ?_
  · match kx, hk with
    | 0, _ =>
      refine Or.inr ⟨8, by decide +kernel, fun x => ?_⟩
      refine gx_Jeq (f' := gx_rt 1) rfl ?_
      refine gx_astore_nx (pc := 8) (n := 2) (i := 2) (lv' := [(2, gx_x x), (0, gx_r 2 (some x0)), (1, gx_i x1)]) rfl (by decide) rfl (htX0_nodes (8, .astore_n 2, 1) (gx_m 4 rfl)) ?_
      refine gx_iconst (pc := 9) (v := 1) (by decide) (htX0_nodes (9, .iconst 1, 1) (gx_m 5 rfl)) ?_
      exact gx_Jiret (pc := 10) rfl (fun _ => trivial) (fun _ _ => rfl) (htX0_nodes (10, .ireturn, 1) (gx_m 6 rfl))
    | 1, _ => exact Or.inl rfl
    | 2, _ => exact Or.inl rfl
    | 3, _ => exact Or.inl rfl
  refine gx_Jcv (pc := 2) (gx_hst (as := [gx_i x1]) (b := gx_r 2 (some x0))) (gx_runV (as := [gx_i x1]) (ci := 1) (gx_CtX.un gx_Ov_r (ct_X1_nodes Y hT x0 x1)) (by decide) (Or.inl rfl) rfl rfl rfl rfl q752 q753 q754 q101 q755 rfl dd_X1_nodes (by decide) (by decide) (Nat.le_of_ble_eq_true rfl) (htX0_nodes (2, .invokevirtual 7, 3) (gx_m 2 rfl))) ?_
  refine gx_goto (pc := 5) (tgt := 11) (by decide) (htX0_nodes (5, .goto 6, 3) (gx_m 3 rfl)) ?_
  refine gx_iconst (pc := 11) (v := 0) (by decide) (htX0_nodes (11, .iconst 0, 1) (gx_m 7 rfl)) ?_
  exact gx_Jiret (pc := 12) rfl (fun _ => trivial) (fun _ _ => rfl) (htX0_nodes (12, .ireturn, 1) (gx_m 8 rfl))
theorem ct_X0_feed (Y : gx_Y) (hT : gx_Tr Y) (x0 : gx_Nm) (x1 : Int32) (x2 : Int32) (x3 : Int32) (x4 : Int32) (x5 : Int32) (x6 : gx_Nm) : gx_Ct Y yX0_feed (wsW_ yX0_feed cX0_feed 8 (some .int) [(0, 16, 19, 19)]) 10 345 [gx_r 2 (some x0), gx_i x1, gx_i x2, gx_i x3, gx_i x4, gx_i x5, gx_r 103 (some x6)] gx_Oi (f_X0_feed x0 x1 x2 x3 x4 x5 x6) := by
  refine gx_startW (lv := [(0, gx_r 2 (some x0)), (1, gx_i x1), (2, gx_i x2), (3, gx_i x3), (4, gx_i x4), (5, gx_i x5), (6, gx_r 103 (some x6))]) gx_Oi_r pn_X0 (Nat.le_of_ble_eq_true rfl) rfl ?_
  unfold f_X0_feed
  refine gx_aload (pc := 0) (i := 6) 6 rfl (htX0_feed (0, .aload 6, 2) (gx_m 0 rfl)) ?_
  refine gx_iconst (pc := 2) (v := 0) (by decide) (htX0_feed (2, .iconst 0, 1) (gx_m 1 rfl)) ?_
  refine gx_aload_n (pc := 3) (n := 0) (i := 0) rfl 0 rfl (htX0_feed (3, .aload_n 0, 1) (gx_m 2 rfl)) ?_
  refine gx_iload_n (pc := 4) (n := 1) (i := 1) rfl 1 rfl (htX0_feed (4, .iload_n 1, 1) (gx_m 3 rfl)) ?_
  refine gx_iload_n (pc := 5) (n := 2) (i := 2) rfl 2 rfl (htX0_feed (5, .iload_n 2, 1) (gx_m 4 rfl)) ?_
  refine gx_iload_n (pc := 6) (n := 3) (i := 3) rfl 3 rfl (htX0_feed (6, .iload_n 3, 1) (gx_m 5 rfl)) ?_
  refine gx_iload (pc := 7) (i := 4) 4 rfl (htX0_feed (7, .iload 4, 2) (gx_m 6 rfl)) ?_
  refine gx_iload (pc := 9) (i := 5) 5 rfl (htX0_feed (9, .iload 5, 2) (gx_m 7 rfl)) ?_
  refine gx_Jcx (pc := 11) rfl (gx_runVT (as := [gx_i x1, gx_i x2, gx_i x3, gx_i x4, gx_i x5]) (ci := 1) (ct_X1_feed Y hT x0 x1 x2 x3 x4 x5) (by decide) (Or.inl rfl) rfl rfl rfl rfl q905 q906 q907 q101 q908 rfl dd_X1_feed (by decide) (by decide) (Nat.le_of_ble_eq_true rfl) (htX0_feed (11, .invokevirtual 15, 3) (gx_m 8 rfl))) (fun kx hk => ?_) ?_
  · match kx, hk with
    | 0, _ => exact Or.inl rfl
    | 1, _ => exact Or.inl rfl
    | 2, _ => exact Or.inl rfl
    | 3, _ =>
      refine Or.inr ⟨19, by decide +kernel, fun x => ?_⟩
      refine gx_Jeq (f' := gx_rt 1) rfl ?_
      refine gx_astorex (pc := 19) (i := 7) (lv' := [(7, gx_x x), (0, gx_r 2 (some x0)), (1, gx_i x1), (2, gx_i x2), (3, gx_i x3), (4, gx_i x4), (5, gx_i x5), (6, gx_r 103 (some x6))]) (by decide) rfl (htX0_feed (19, .astore 7, 2) (gx_m 12 rfl)) ?_
      refine gx_iconst (pc := 21) (v := 1) (by decide) (htX0_feed (21, .iconst 1, 1) (gx_m 13 rfl)) ?_
      exact gx_Jiret (pc := 22) rfl (fun _ => trivial) (fun _ _ => rfl) (htX0_feed (22, .ireturn, 1) (gx_m 14 rfl))
  refine gx_Jci (pc := 11) (gx_hst (as := [gx_i x1, gx_i x2, gx_i x3, gx_i x4, gx_i x5]) (b := gx_r 2 (some x0))) (gx_runV (as := [gx_i x1, gx_i x2, gx_i x3, gx_i x4, gx_i x5]) (ci := 1) (gx_CtX.un gx_Oi_r (ct_X1_feed Y hT x0 x1 x2 x3 x4 x5)) (by decide) (Or.inl rfl) rfl rfl rfl rfl q905 q906 q907 q101 q908 rfl dd_X1_feed (by decide) (by decide) (Nat.le_of_ble_eq_true rfl) (htX0_feed (11, .invokevirtual 15, 3) (gx_m 8 rfl))) (fun v1 => ?_)
  refine gx_i2l (pc := 14) (htX0_feed (14, .i2l, 1) (gx_m 9 rfl)) ?_
  refine gx_Jls (pc := 15) (htX0_feed (15, .lastore, 1) (gx_m 10 rfl)) ?_
  refine gx_goto (pc := 16) (tgt := 23) (by decide) (htX0_feed (16, .goto 7, 3) (gx_m 11 rfl)) ?_
  refine gx_iconst (pc := 23) (v := 0) (by decide) (htX0_feed (23, .iconst 0, 1) (gx_m 15 rfl)) ?_
  exact gx_Jiret (pc := 24) rfl (fun _ => trivial) (fun _ _ => rfl) (htX0_feed (24, .ireturn, 1) (gx_m 16 rfl))
theorem ct_X0_end (Y : gx_Y) (hT : gx_Tr Y) (x0 : gx_Nm) (x1 : Int32) (x2 : gx_Nm) : gx_Ct Y yX0_end (wsW_ yX0_end cX0_end 4 (some .int) [(0, 9, 12, 13)]) 10 342 [gx_r 2 (some x0), gx_i x1, gx_r 103 (some x2)] gx_Oi (f_X0_end x0 x1 x2) := by
  refine gx_startW (lv := [(0, gx_r 2 (some x0)), (1, gx_i x1), (2, gx_r 103 (some x2))]) gx_Oi_r pn_X0 (Nat.le_of_ble_eq_true rfl) rfl ?_
  unfold f_X0_end
  refine gx_aload_n (pc := 0) (n := 2) (i := 2) rfl 2 rfl (htX0_end (0, .aload_n 2, 1) (gx_m 0 rfl)) ?_
  refine gx_iconst (pc := 1) (v := 0) (by decide) (htX0_end (1, .iconst 0, 1) (gx_m 1 rfl)) ?_
  refine gx_aload_n (pc := 2) (n := 0) (i := 0) rfl 0 rfl (htX0_end (2, .aload_n 0, 1) (gx_m 2 rfl)) ?_
  refine gx_iload_n (pc := 3) (n := 1) (i := 1) rfl 1 rfl (htX0_end (3, .iload_n 1, 1) (gx_m 3 rfl)) ?_
  refine gx_Jcx (pc := 4) rfl (gx_runVT (as := [gx_i x1]) (ci := 1) (ct_X1_end Y hT x0 x1) (by decide) (Or.inl rfl) rfl rfl rfl rfl q935 q936 q937 q101 q938 rfl dd_X1_end (by decide) (by decide) (Nat.le_of_ble_eq_true rfl) (htX0_end (4, .invokevirtual 21, 3) (gx_m 4 rfl))) (fun kx hk => ?_) ?_
  · match kx, hk with
    | 0, _ =>
      refine Or.inr ⟨12, by decide +kernel, fun x => ?_⟩
      refine gx_Jeq (f' := gx_rt 1) rfl ?_
      refine gx_astore_nx (pc := 12) (n := 3) (i := 3) (lv' := [(3, gx_x x), (0, gx_r 2 (some x0)), (1, gx_i x1), (2, gx_r 103 (some x2))]) rfl (by decide) rfl (htX0_end (12, .astore_n 3, 1) (gx_m 8 rfl)) ?_
      refine gx_iconst (pc := 13) (v := 1) (by decide) (htX0_end (13, .iconst 1, 1) (gx_m 9 rfl)) ?_
      exact gx_Jiret (pc := 14) rfl (fun _ => trivial) (fun _ _ => rfl) (htX0_end (14, .ireturn, 1) (gx_m 10 rfl))
    | 1, _ => exact Or.inl rfl
    | 2, _ => exact Or.inl rfl
    | 3, _ => exact Or.inl rfl
  refine gx_Jci (pc := 4) (gx_hst (as := [gx_i x1]) (b := gx_r 2 (some x0))) (gx_runV (as := [gx_i x1]) (ci := 1) (gx_CtX.un gx_Oi_r (ct_X1_end Y hT x0 x1)) (by decide) (Or.inl rfl) rfl rfl rfl rfl q935 q936 q937 q101 q938 rfl dd_X1_end (by decide) (by decide) (Nat.le_of_ble_eq_true rfl) (htX0_end (4, .invokevirtual 21, 3) (gx_m 4 rfl))) (fun v1 => ?_)
  refine gx_i2l (pc := 7) (htX0_end (7, .i2l, 1) (gx_m 5 rfl)) ?_
  refine gx_Jls (pc := 8) (htX0_end (8, .lastore, 1) (gx_m 6 rfl)) ?_
  refine gx_goto (pc := 9) (tgt := 15) (by decide) (htX0_end (9, .goto 6, 3) (gx_m 7 rfl)) ?_
  refine gx_iconst (pc := 15) (v := 0) (by decide) (htX0_end (15, .iconst 0, 1) (gx_m 11 rfl)) ?_
  exact gx_Jiret (pc := 16) rfl (fun _ => trivial) (fun _ _ => rfl) (htX0_end (16, .ireturn, 1) (gx_m 12 rfl))
theorem ct_X0_when (Y : gx_Y) (hT : gx_Tr Y) (x0 : gx_Nm) (x1 : Int32) (x2 : Int32) (x3 : Int32) : gx_Ct Y yX0_when (wsW_ yX0_when cX0_when 5 (some .int) [(0, 7, 10, 13), (0, 7, 14, 19)]) 11 365 [gx_r 2 (some x0), gx_i x1, gx_i x2, gx_i x3] gx_Oi (f_X0_when x0 x1 x2 x3) := by
  refine gx_startW (lv := [(0, gx_r 2 (some x0)), (1, gx_i x1), (2, gx_i x2), (3, gx_i x3)]) gx_Oi_r pn_X0 (Nat.le_of_ble_eq_true rfl) rfl ?_
  unfold f_X0_when
  refine gx_aload_n (pc := 0) (n := 0) (i := 0) rfl 0 rfl (htX0_when (0, .aload_n 0, 1) (gx_m 0 rfl)) ?_
  refine gx_iload_n (pc := 1) (n := 1) (i := 1) rfl 1 rfl (htX0_when (1, .iload_n 1, 1) (gx_m 1 rfl)) ?_
  refine gx_iload_n (pc := 2) (n := 2) (i := 2) rfl 2 rfl (htX0_when (2, .iload_n 2, 1) (gx_m 2 rfl)) ?_
  refine gx_iload_n (pc := 3) (n := 3) (i := 3) rfl 3 rfl (htX0_when (3, .iload_n 3, 1) (gx_m 3 rfl)) ?_
  refine gx_Jcx (pc := 4) rfl (gx_runVT (as := [gx_i x1, gx_i x2, gx_i x3]) (ci := 1) (ct_X1_when Y hT x0 x1 x2 x3) (by decide) (Or.inl rfl) rfl rfl rfl rfl q947 q948 q949 q101 q950 rfl dd_X1_when (by decide) (by decide) (Nat.le_of_ble_eq_true rfl) (htX0_when (4, .invokevirtual 25, 3) (gx_m 4 rfl))) (fun kx hk => ?_) ?_
  · match kx, hk with
    | 0, _ =>
      refine Or.inr ⟨10, by decide +kernel, fun x => ?_⟩
      refine gx_Jeq (f' := gx_rt 1) rfl ?_
      refine gx_astorex (pc := 10) (i := 4) (lv' := [(4, gx_x x), (0, gx_r 2 (some x0)), (1, gx_i x1), (2, gx_i x2), (3, gx_i x3)]) (by decide) rfl (htX0_when (10, .astore 4, 2) (gx_m 6 rfl)) ?_
      refine gx_iconst (pc := 12) (v := 1) (by decide) (htX0_when (12, .iconst 1, 1) (gx_m 7 rfl)) ?_
      exact gx_Jiret (pc := 13) rfl (fun _ => trivial) (fun _ _ => rfl) (htX0_when (13, .ireturn, 1) (gx_m 8 rfl))
    | 1, _ => exact Or.inl rfl
    | 2, _ => exact Or.inl rfl
    | 3, _ =>
      refine Or.inr ⟨14, by decide +kernel, fun x => ?_⟩
      refine gx_Jeq (f' := gx_rt 2) rfl ?_
      refine gx_astorex (pc := 14) (i := 4) (lv' := [(4, gx_x x), (0, gx_r 2 (some x0)), (1, gx_i x1), (2, gx_i x2), (3, gx_i x3)]) (by decide) rfl (htX0_when (14, .astore 4, 2) (gx_m 9 rfl)) ?_
      refine gx_iconst (pc := 16) (v := 2) (by decide) (htX0_when (16, .iconst 2, 1) (gx_m 10 rfl)) ?_
      exact gx_Jiret (pc := 17) rfl (fun _ => trivial) (fun _ _ => rfl) (htX0_when (17, .ireturn, 1) (gx_m 11 rfl))
  refine gx_Jcv (pc := 4) (gx_hst (as := [gx_i x1, gx_i x2, gx_i x3]) (b := gx_r 2 (some x0))) (gx_runV (as := [gx_i x1, gx_i x2, gx_i x3]) (ci := 1) (gx_CtX.un gx_Ov_r (ct_X1_when Y hT x0 x1 x2 x3)) (by decide) (Or.inl rfl) rfl rfl rfl rfl q947 q948 q949 q101 q950 rfl dd_X1_when (by decide) (by decide) (Nat.le_of_ble_eq_true rfl) (htX0_when (4, .invokevirtual 25, 3) (gx_m 4 rfl))) ?_
  refine gx_goto (pc := 7) (tgt := 18) (by decide) (htX0_when (7, .goto 11, 3) (gx_m 5 rfl)) ?_
  refine gx_iconst (pc := 18) (v := 0) (by decide) (htX0_when (18, .iconst 0, 1) (gx_m 12 rfl)) ?_
  exact gx_Jiret (pc := 19) rfl (fun _ => trivial) (fun _ _ => rfl) (htX0_when (19, .ireturn, 1) (gx_m 13 rfl))
theorem ct_X0_put (Y : gx_Y) (hT : gx_Tr Y) (x0 : gx_Nm) (x1 : Int32) (x2 : Int32) : gx_Ct Y yX0_put (wsW_ yX0_put cX0_put 4 (some .int) [(0, 6, 9, 13), (0, 6, 12, 19)]) 11 365 [gx_r 2 (some x0), gx_i x1, gx_i x2] gx_Oi (f_X0_put x0 x1 x2) := by
  refine gx_startW (lv := [(0, gx_r 2 (some x0)), (1, gx_i x1), (2, gx_i x2)]) gx_Oi_r pn_X0 (Nat.le_of_ble_eq_true rfl) rfl ?_
  unfold f_X0_put
  refine gx_aload_n (pc := 0) (n := 0) (i := 0) rfl 0 rfl (htX0_put (0, .aload_n 0, 1) (gx_m 0 rfl)) ?_
  refine gx_iload_n (pc := 1) (n := 1) (i := 1) rfl 1 rfl (htX0_put (1, .iload_n 1, 1) (gx_m 1 rfl)) ?_
  refine gx_iload_n (pc := 2) (n := 2) (i := 2) rfl 2 rfl (htX0_put (2, .iload_n 2, 1) (gx_m 2 rfl)) ?_
  refine gx_Jcx (pc := 3) rfl (gx_runVT (as := [gx_i x1, gx_i x2]) (ci := 1) (ct_X1_put Y hT x0 x1 x2) (by decide) (Or.inl rfl) rfl rfl rfl rfl q965 q966 q967 q101 q968 rfl dd_X1_put (by decide) (by decide) (Nat.le_of_ble_eq_true rfl) (htX0_put (3, .invokevirtual 29, 3) (gx_m 3 rfl))) (fun kx hk => ?_) ?_
  · match kx, hk with
    | 0, _ =>
      refine Or.inr ⟨9, by decide +kernel, fun x => ?_⟩
      refine gx_Jeq (f' := gx_rt 1) rfl ?_
      refine gx_astore_nx (pc := 9) (n := 3) (i := 3) (lv' := [(3, gx_x x), (0, gx_r 2 (some x0)), (1, gx_i x1), (2, gx_i x2)]) rfl (by decide) rfl (htX0_put (9, .astore_n 3, 1) (gx_m 5 rfl)) ?_
      refine gx_iconst (pc := 10) (v := 1) (by decide) (htX0_put (10, .iconst 1, 1) (gx_m 6 rfl)) ?_
      exact gx_Jiret (pc := 11) rfl (fun _ => trivial) (fun _ _ => rfl) (htX0_put (11, .ireturn, 1) (gx_m 7 rfl))
    | 1, _ => exact Or.inl rfl
    | 2, _ => exact Or.inl rfl
    | 3, _ =>
      refine Or.inr ⟨12, by decide +kernel, fun x => ?_⟩
      refine gx_Jeq (f' := gx_rt 2) rfl ?_
      refine gx_astore_nx (pc := 12) (n := 3) (i := 3) (lv' := [(3, gx_x x), (0, gx_r 2 (some x0)), (1, gx_i x1), (2, gx_i x2)]) rfl (by decide) rfl (htX0_put (12, .astore_n 3, 1) (gx_m 8 rfl)) ?_
      refine gx_iconst (pc := 13) (v := 2) (by decide) (htX0_put (13, .iconst 2, 1) (gx_m 9 rfl)) ?_
      exact gx_Jiret (pc := 14) rfl (fun _ => trivial) (fun _ _ => rfl) (htX0_put (14, .ireturn, 1) (gx_m 10 rfl))
  refine gx_Jcv (pc := 3) (gx_hst (as := [gx_i x1, gx_i x2]) (b := gx_r 2 (some x0))) (gx_runV (as := [gx_i x1, gx_i x2]) (ci := 1) (gx_CtX.un gx_Ov_r (ct_X1_put Y hT x0 x1 x2)) (by decide) (Or.inl rfl) rfl rfl rfl rfl q965 q966 q967 q101 q968 rfl dd_X1_put (by decide) (by decide) (Nat.le_of_ble_eq_true rfl) (htX0_put (3, .invokevirtual 29, 3) (gx_m 3 rfl))) ?_
  refine gx_goto (pc := 6) (tgt := 15) (by decide) (htX0_put (6, .goto 9, 3) (gx_m 4 rfl)) ?_
  refine gx_iconst (pc := 15) (v := 0) (by decide) (htX0_put (15, .iconst 0, 1) (gx_m 11 rfl)) ?_
  exact gx_Jiret (pc := 16) rfl (fun _ => trivial) (fun _ _ => rfl) (htX0_put (16, .ireturn, 1) (gx_m 12 rfl))
theorem ct_X0_erase (Y : gx_Y) (hT : gx_Tr Y) (x0 : gx_Nm) (x1 : Int32) : gx_Ct Y yX0_erase (wsW_ yX0_erase cX0_erase 3 (some .int) [(0, 5, 8, 13), (0, 5, 11, 19)]) 11 364 [gx_r 2 (some x0), gx_i x1] gx_Oi (f_X0_erase x0 x1) := by
  refine gx_startW (lv := [(0, gx_r 2 (some x0)), (1, gx_i x1)]) gx_Oi_r pn_X0 (Nat.le_of_ble_eq_true rfl) rfl ?_
  unfold f_X0_erase
  refine gx_aload_n (pc := 0) (n := 0) (i := 0) rfl 0 rfl (htX0_erase (0, .aload_n 0, 1) (gx_m 0 rfl)) ?_
  refine gx_iload_n (pc := 1) (n := 1) (i := 1) rfl 1 rfl (htX0_erase (1, .iload_n 1, 1) (gx_m 1 rfl)) ?_
  refine gx_Jcx (pc := 2) rfl (gx_runVT (as := [gx_i x1]) (ci := 1) (ct_X1_erase Y hT x0 x1) (by decide) (Or.inl rfl) rfl rfl rfl rfl q983 q984 q985 q101 q986 rfl dd_X1_erase (by decide) (by decide) (Nat.le_of_ble_eq_true rfl) (htX0_erase (2, .invokevirtual 33, 3) (gx_m 2 rfl))) (fun kx hk => ?_) ?_
  · match kx, hk with
    | 0, _ =>
      refine Or.inr ⟨8, by decide +kernel, fun x => ?_⟩
      refine gx_Jeq (f' := gx_rt 1) rfl ?_
      refine gx_astore_nx (pc := 8) (n := 2) (i := 2) (lv' := [(2, gx_x x), (0, gx_r 2 (some x0)), (1, gx_i x1)]) rfl (by decide) rfl (htX0_erase (8, .astore_n 2, 1) (gx_m 4 rfl)) ?_
      refine gx_iconst (pc := 9) (v := 1) (by decide) (htX0_erase (9, .iconst 1, 1) (gx_m 5 rfl)) ?_
      exact gx_Jiret (pc := 10) rfl (fun _ => trivial) (fun _ _ => rfl) (htX0_erase (10, .ireturn, 1) (gx_m 6 rfl))
    | 1, _ => exact Or.inl rfl
    | 2, _ => exact Or.inl rfl
    | 3, _ =>
      refine Or.inr ⟨11, by decide +kernel, fun x => ?_⟩
      refine gx_Jeq (f' := gx_rt 2) rfl ?_
      refine gx_astore_nx (pc := 11) (n := 2) (i := 2) (lv' := [(2, gx_x x), (0, gx_r 2 (some x0)), (1, gx_i x1)]) rfl (by decide) rfl (htX0_erase (11, .astore_n 2, 1) (gx_m 7 rfl)) ?_
      refine gx_iconst (pc := 12) (v := 2) (by decide) (htX0_erase (12, .iconst 2, 1) (gx_m 8 rfl)) ?_
      exact gx_Jiret (pc := 13) rfl (fun _ => trivial) (fun _ _ => rfl) (htX0_erase (13, .ireturn, 1) (gx_m 9 rfl))
  refine gx_Jcv (pc := 2) (gx_hst (as := [gx_i x1]) (b := gx_r 2 (some x0))) (gx_runV (as := [gx_i x1]) (ci := 1) (gx_CtX.un gx_Ov_r (ct_X1_erase Y hT x0 x1)) (by decide) (Or.inl rfl) rfl rfl rfl rfl q983 q984 q985 q101 q986 rfl dd_X1_erase (by decide) (by decide) (Nat.le_of_ble_eq_true rfl) (htX0_erase (2, .invokevirtual 33, 3) (gx_m 2 rfl))) ?_
  refine gx_goto (pc := 5) (tgt := 14) (by decide) (htX0_erase (5, .goto 9, 3) (gx_m 3 rfl)) ?_
  refine gx_iconst (pc := 14) (v := 0) (by decide) (htX0_erase (14, .iconst 0, 1) (gx_m 10 rfl)) ?_
  exact gx_Jiret (pc := 15) rfl (fun _ => trivial) (fun _ _ => rfl) (htX0_erase (15, .ireturn, 1) (gx_m 11 rfl))
theorem ct_X0_lease (Y : gx_Y) (hT : gx_Tr Y) (x0 : gx_Nm) (x1 : Int32) (x2 : Int32) (x3 : Int32) : gx_Ct Y yX0_lease (wsW_ yX0_lease cX0_lease 5 (some .int) [(0, 7, 10, 13), (0, 7, 14, 19)]) 11 367 [gx_r 2 (some x0), gx_i x1, gx_i x2, gx_i x3] gx_Oi (f_X0_lease x0 x1 x2 x3) := by
  refine gx_startW (lv := [(0, gx_r 2 (some x0)), (1, gx_i x1), (2, gx_i x2), (3, gx_i x3)]) gx_Oi_r pn_X0 (Nat.le_of_ble_eq_true rfl) rfl ?_
  unfold f_X0_lease
  refine gx_aload_n (pc := 0) (n := 0) (i := 0) rfl 0 rfl (htX0_lease (0, .aload_n 0, 1) (gx_m 0 rfl)) ?_
  refine gx_iload_n (pc := 1) (n := 1) (i := 1) rfl 1 rfl (htX0_lease (1, .iload_n 1, 1) (gx_m 1 rfl)) ?_
  refine gx_iload_n (pc := 2) (n := 2) (i := 2) rfl 2 rfl (htX0_lease (2, .iload_n 2, 1) (gx_m 2 rfl)) ?_
  refine gx_iload_n (pc := 3) (n := 3) (i := 3) rfl 3 rfl (htX0_lease (3, .iload_n 3, 1) (gx_m 3 rfl)) ?_
  refine gx_Jcx (pc := 4) rfl (gx_runVT (as := [gx_i x1, gx_i x2, gx_i x3]) (ci := 1) (ct_X1_lease Y hT x0 x1 x2 x3) (by decide) (Or.inl rfl) rfl rfl rfl rfl q990 q991 q992 q101 q993 rfl dd_X1_lease (by decide) (by decide) (Nat.le_of_ble_eq_true rfl) (htX0_lease (4, .invokevirtual 36, 3) (gx_m 4 rfl))) (fun kx hk => ?_) ?_
  · match kx, hk with
    | 0, _ =>
      refine Or.inr ⟨10, by decide +kernel, fun x => ?_⟩
      refine gx_Jeq (f' := gx_rt 1) rfl ?_
      refine gx_astorex (pc := 10) (i := 4) (lv' := [(4, gx_x x), (0, gx_r 2 (some x0)), (1, gx_i x1), (2, gx_i x2), (3, gx_i x3)]) (by decide) rfl (htX0_lease (10, .astore 4, 2) (gx_m 6 rfl)) ?_
      refine gx_iconst (pc := 12) (v := 1) (by decide) (htX0_lease (12, .iconst 1, 1) (gx_m 7 rfl)) ?_
      exact gx_Jiret (pc := 13) rfl (fun _ => trivial) (fun _ _ => rfl) (htX0_lease (13, .ireturn, 1) (gx_m 8 rfl))
    | 1, _ => exact Or.inl rfl
    | 2, _ => exact Or.inl rfl
    | 3, _ =>
      refine Or.inr ⟨14, by decide +kernel, fun x => ?_⟩
      refine gx_Jeq (f' := gx_rt 2) rfl ?_
      refine gx_astorex (pc := 14) (i := 4) (lv' := [(4, gx_x x), (0, gx_r 2 (some x0)), (1, gx_i x1), (2, gx_i x2), (3, gx_i x3)]) (by decide) rfl (htX0_lease (14, .astore 4, 2) (gx_m 9 rfl)) ?_
      refine gx_iconst (pc := 16) (v := 2) (by decide) (htX0_lease (16, .iconst 2, 1) (gx_m 10 rfl)) ?_
      exact gx_Jiret (pc := 17) rfl (fun _ => trivial) (fun _ _ => rfl) (htX0_lease (17, .ireturn, 1) (gx_m 11 rfl))
  refine gx_Jcv (pc := 4) (gx_hst (as := [gx_i x1, gx_i x2, gx_i x3]) (b := gx_r 2 (some x0))) (gx_runV (as := [gx_i x1, gx_i x2, gx_i x3]) (ci := 1) (gx_CtX.un gx_Ov_r (ct_X1_lease Y hT x0 x1 x2 x3)) (by decide) (Or.inl rfl) rfl rfl rfl rfl q990 q991 q992 q101 q993 rfl dd_X1_lease (by decide) (by decide) (Nat.le_of_ble_eq_true rfl) (htX0_lease (4, .invokevirtual 36, 3) (gx_m 4 rfl))) ?_
  refine gx_goto (pc := 7) (tgt := 18) (by decide) (htX0_lease (7, .goto 11, 3) (gx_m 5 rfl)) ?_
  refine gx_iconst (pc := 18) (v := 0) (by decide) (htX0_lease (18, .iconst 0, 1) (gx_m 12 rfl)) ?_
  exact gx_Jiret (pc := 19) rfl (fun _ => trivial) (fun _ _ => rfl) (htX0_lease (19, .ireturn, 1) (gx_m 13 rfl))
theorem ct_X0_propose (Y : gx_Y) (hT : gx_Tr Y) (x0 : gx_Nm) (x1 : Int32) (x2 : gx_Nm) : gx_Ct Y yX0_propose (wsW_ yX0_propose cX0_propose 4 (some .int) [(0, 9, 12, 43), (0, 9, 15, 45), (0, 9, 18, 19)]) 12 386 [gx_r 2 (some x0), gx_i x1, gx_r 103 (some x2)] gx_Oi (f_X0_propose x0 x1 x2) := by
  refine gx_startW (lv := [(0, gx_r 2 (some x0)), (1, gx_i x1), (2, gx_r 103 (some x2))]) gx_Oi_r pn_X0 (Nat.le_of_ble_eq_true rfl) rfl ?_
  unfold f_X0_propose
  refine gx_aload_n (pc := 0) (n := 2) (i := 2) rfl 2 rfl (htX0_propose (0, .aload_n 2, 1) (gx_m 0 rfl)) ?_
  refine gx_iconst (pc := 1) (v := 0) (by decide) (htX0_propose (1, .iconst 0, 1) (gx_m 1 rfl)) ?_
  refine gx_aload_n (pc := 2) (n := 0) (i := 0) rfl 0 rfl (htX0_propose (2, .aload_n 0, 1) (gx_m 2 rfl)) ?_
  refine gx_iload_n (pc := 3) (n := 1) (i := 1) rfl 1 rfl (htX0_propose (3, .iload_n 1, 1) (gx_m 3 rfl)) ?_
  refine gx_Jcx (pc := 4) rfl (gx_runVT (as := [gx_i x1]) (ci := 1) (ct_X1_propose Y hT x0 x1) (by decide) (Or.inl rfl) rfl rfl rfl rfl q999 q1000 q1001 q101 q1002 rfl dd_X1_propose (by decide) (by decide) (Nat.le_of_ble_eq_true rfl) (htX0_propose (4, .invokevirtual 40, 3) (gx_m 4 rfl))) (fun kx hk => ?_) ?_
  · match kx, hk with
    | 0, _ => exact Or.inl rfl
    | 1, _ =>
      refine Or.inr ⟨15, by decide +kernel, fun x => ?_⟩
      refine gx_Jeq (f' := gx_rt 2) rfl ?_
      refine gx_astore_nx (pc := 15) (n := 3) (i := 3) (lv' := [(3, gx_x x), (0, gx_r 2 (some x0)), (1, gx_i x1), (2, gx_r 103 (some x2))]) rfl (by decide) rfl (htX0_propose (15, .astore_n 3, 1) (gx_m 11 rfl)) ?_
      refine gx_iconst (pc := 16) (v := 2) (by decide) (htX0_propose (16, .iconst 2, 1) (gx_m 12 rfl)) ?_
      exact gx_Jiret (pc := 17) rfl (fun _ => trivial) (fun _ _ => rfl) (htX0_propose (17, .ireturn, 1) (gx_m 13 rfl))
    | 2, _ =>
      refine Or.inr ⟨12, by decide +kernel, fun x => ?_⟩
      refine gx_Jeq (f' := gx_rt 1) rfl ?_
      refine gx_astore_nx (pc := 12) (n := 3) (i := 3) (lv' := [(3, gx_x x), (0, gx_r 2 (some x0)), (1, gx_i x1), (2, gx_r 103 (some x2))]) rfl (by decide) rfl (htX0_propose (12, .astore_n 3, 1) (gx_m 8 rfl)) ?_
      refine gx_iconst (pc := 13) (v := 1) (by decide) (htX0_propose (13, .iconst 1, 1) (gx_m 9 rfl)) ?_
      exact gx_Jiret (pc := 14) rfl (fun _ => trivial) (fun _ _ => rfl) (htX0_propose (14, .ireturn, 1) (gx_m 10 rfl))
    | 3, _ =>
      refine Or.inr ⟨18, by decide +kernel, fun x => ?_⟩
      refine gx_Jeq (f' := gx_rt 3) rfl ?_
      refine gx_astore_nx (pc := 18) (n := 3) (i := 3) (lv' := [(3, gx_x x), (0, gx_r 2 (some x0)), (1, gx_i x1), (2, gx_r 103 (some x2))]) rfl (by decide) rfl (htX0_propose (18, .astore_n 3, 1) (gx_m 14 rfl)) ?_
      refine gx_iconst (pc := 19) (v := 3) (by decide) (htX0_propose (19, .iconst 3, 1) (gx_m 15 rfl)) ?_
      exact gx_Jiret (pc := 20) rfl (fun _ => trivial) (fun _ _ => rfl) (htX0_propose (20, .ireturn, 1) (gx_m 16 rfl))
  refine gx_Jci (pc := 4) (gx_hst (as := [gx_i x1]) (b := gx_r 2 (some x0))) (gx_runV (as := [gx_i x1]) (ci := 1) (gx_CtX.un gx_Oi_r (ct_X1_propose Y hT x0 x1)) (by decide) (Or.inl rfl) rfl rfl rfl rfl q999 q1000 q1001 q101 q1002 rfl dd_X1_propose (by decide) (by decide) (Nat.le_of_ble_eq_true rfl) (htX0_propose (4, .invokevirtual 40, 3) (gx_m 4 rfl))) (fun v1 => ?_)
  refine gx_i2l (pc := 7) (htX0_propose (7, .i2l, 1) (gx_m 5 rfl)) ?_
  refine gx_Jls (pc := 8) (htX0_propose (8, .lastore, 1) (gx_m 6 rfl)) ?_
  refine gx_goto (pc := 9) (tgt := 21) (by decide) (htX0_propose (9, .goto 12, 3) (gx_m 7 rfl)) ?_
  refine gx_iconst (pc := 21) (v := 0) (by decide) (htX0_propose (21, .iconst 0, 1) (gx_m 17 rfl)) ?_
  exact gx_Jiret (pc := 22) rfl (fun _ => trivial) (fun _ _ => rfl) (htX0_propose (22, .ireturn, 1) (gx_m 18 rfl))
theorem ct_X0_rise (Y : gx_Y) (hT : gx_Tr Y) (x0 : gx_Nm) (x1 : Int32) : gx_Ct Y yX0_rise (wsW_ yX0_rise cX0_rise 3 (some .int) [(0, 5, 8, 43), (0, 5, 11, 45), (0, 5, 14, 19)]) 12 385 [gx_r 2 (some x0), gx_i x1] gx_Oi (f_X0_rise x0 x1) := by
  refine gx_startW (lv := [(0, gx_r 2 (some x0)), (1, gx_i x1)]) gx_Oi_r pn_X0 (Nat.le_of_ble_eq_true rfl) rfl ?_
  unfold f_X0_rise
  refine gx_aload_n (pc := 0) (n := 0) (i := 0) rfl 0 rfl (htX0_rise (0, .aload_n 0, 1) (gx_m 0 rfl)) ?_
  refine gx_iload_n (pc := 1) (n := 1) (i := 1) rfl 1 rfl (htX0_rise (1, .iload_n 1, 1) (gx_m 1 rfl)) ?_
  refine gx_Jcx (pc := 2) rfl (gx_runVT (as := [gx_i x1]) (ci := 1) (ct_X1_rise Y hT x0 x1) (by decide) (Or.inl rfl) rfl rfl rfl rfl q1185 q1186 q1187 q101 q1188 rfl dd_X1_rise (by decide) (by decide) (Nat.le_of_ble_eq_true rfl) (htX0_rise (2, .invokevirtual 47, 3) (gx_m 2 rfl))) (fun kx hk => ?_) ?_
  · match kx, hk with
    | 0, _ => exact Or.inl rfl
    | 1, _ =>
      refine Or.inr ⟨11, by decide +kernel, fun x => ?_⟩
      refine gx_Jeq (f' := gx_rt 2) rfl ?_
      refine gx_astore_nx (pc := 11) (n := 2) (i := 2) (lv' := [(2, gx_x x), (0, gx_r 2 (some x0)), (1, gx_i x1)]) rfl (by decide) rfl (htX0_rise (11, .astore_n 2, 1) (gx_m 7 rfl)) ?_
      refine gx_iconst (pc := 12) (v := 2) (by decide) (htX0_rise (12, .iconst 2, 1) (gx_m 8 rfl)) ?_
      exact gx_Jiret (pc := 13) rfl (fun _ => trivial) (fun _ _ => rfl) (htX0_rise (13, .ireturn, 1) (gx_m 9 rfl))
    | 2, _ =>
      refine Or.inr ⟨8, by decide +kernel, fun x => ?_⟩
      refine gx_Jeq (f' := gx_rt 1) rfl ?_
      refine gx_astore_nx (pc := 8) (n := 2) (i := 2) (lv' := [(2, gx_x x), (0, gx_r 2 (some x0)), (1, gx_i x1)]) rfl (by decide) rfl (htX0_rise (8, .astore_n 2, 1) (gx_m 4 rfl)) ?_
      refine gx_iconst (pc := 9) (v := 1) (by decide) (htX0_rise (9, .iconst 1, 1) (gx_m 5 rfl)) ?_
      exact gx_Jiret (pc := 10) rfl (fun _ => trivial) (fun _ _ => rfl) (htX0_rise (10, .ireturn, 1) (gx_m 6 rfl))
    | 3, _ =>
      refine Or.inr ⟨14, by decide +kernel, fun x => ?_⟩
      refine gx_Jeq (f' := gx_rt 3) rfl ?_
      refine gx_astore_nx (pc := 14) (n := 2) (i := 2) (lv' := [(2, gx_x x), (0, gx_r 2 (some x0)), (1, gx_i x1)]) rfl (by decide) rfl (htX0_rise (14, .astore_n 2, 1) (gx_m 10 rfl)) ?_
      refine gx_iconst (pc := 15) (v := 3) (by decide) (htX0_rise (15, .iconst 3, 1) (gx_m 11 rfl)) ?_
      exact gx_Jiret (pc := 16) rfl (fun _ => trivial) (fun _ _ => rfl) (htX0_rise (16, .ireturn, 1) (gx_m 12 rfl))
  refine gx_Jcv (pc := 2) (gx_hst (as := [gx_i x1]) (b := gx_r 2 (some x0))) (gx_runV (as := [gx_i x1]) (ci := 1) (gx_CtX.un gx_Ov_r (ct_X1_rise Y hT x0 x1)) (by decide) (Or.inl rfl) rfl rfl rfl rfl q1185 q1186 q1187 q101 q1188 rfl dd_X1_rise (by decide) (by decide) (Nat.le_of_ble_eq_true rfl) (htX0_rise (2, .invokevirtual 47, 3) (gx_m 2 rfl))) ?_
  refine gx_goto (pc := 5) (tgt := 17) (by decide) (htX0_rise (5, .goto 12, 3) (gx_m 3 rfl)) ?_
  refine gx_iconst (pc := 17) (v := 0) (by decide) (htX0_rise (17, .iconst 0, 1) (gx_m 13 rfl)) ?_
  exact gx_Jiret (pc := 18) rfl (fun _ => trivial) (fun _ _ => rfl) (htX0_rise (18, .ireturn, 1) (gx_m 14 rfl))
theorem ct_X0_beat (Y : gx_Y) (hT : gx_Tr Y) (x0 : gx_Nm) (x1 : Int32) : gx_Ct Y yX0_beat (wsW_ yX0_beat cX0_beat 3 (some .int) [(0, 5, 8, 43), (0, 5, 11, 45)]) 12 385 [gx_r 2 (some x0), gx_i x1] gx_Oi (f_X0_beat x0 x1) := by
  refine gx_startW (lv := [(0, gx_r 2 (some x0)), (1, gx_i x1)]) gx_Oi_r pn_X0 (Nat.le_of_ble_eq_true rfl) rfl ?_
  unfold f_X0_beat
  refine gx_aload_n (pc := 0) (n := 0) (i := 0) rfl 0 rfl (htX0_beat (0, .aload_n 0, 1) (gx_m 0 rfl)) ?_
  refine gx_iload_n (pc := 1) (n := 1) (i := 1) rfl 1 rfl (htX0_beat (1, .iload_n 1, 1) (gx_m 1 rfl)) ?_
  refine gx_Jcx (pc := 2) rfl (gx_runVT (as := [gx_i x1]) (ci := 1) (ct_X1_beat Y hT x0 x1) (by decide) (Or.inl rfl) rfl rfl rfl rfl q1233 q1234 q1235 q101 q1236 rfl dd_X1_beat (by decide) (by decide) (Nat.le_of_ble_eq_true rfl) (htX0_beat (2, .invokevirtual 50, 3) (gx_m 2 rfl))) (fun kx hk => ?_) ?_
  · match kx, hk with
    | 0, _ => exact Or.inl rfl
    | 1, _ =>
      refine Or.inr ⟨11, by decide +kernel, fun x => ?_⟩
      refine gx_Jeq (f' := gx_rt 2) rfl ?_
      refine gx_astore_nx (pc := 11) (n := 2) (i := 2) (lv' := [(2, gx_x x), (0, gx_r 2 (some x0)), (1, gx_i x1)]) rfl (by decide) rfl (htX0_beat (11, .astore_n 2, 1) (gx_m 7 rfl)) ?_
      refine gx_iconst (pc := 12) (v := 2) (by decide) (htX0_beat (12, .iconst 2, 1) (gx_m 8 rfl)) ?_
      exact gx_Jiret (pc := 13) rfl (fun _ => trivial) (fun _ _ => rfl) (htX0_beat (13, .ireturn, 1) (gx_m 9 rfl))
    | 2, _ =>
      refine Or.inr ⟨8, by decide +kernel, fun x => ?_⟩
      refine gx_Jeq (f' := gx_rt 1) rfl ?_
      refine gx_astore_nx (pc := 8) (n := 2) (i := 2) (lv' := [(2, gx_x x), (0, gx_r 2 (some x0)), (1, gx_i x1)]) rfl (by decide) rfl (htX0_beat (8, .astore_n 2, 1) (gx_m 4 rfl)) ?_
      refine gx_iconst (pc := 9) (v := 1) (by decide) (htX0_beat (9, .iconst 1, 1) (gx_m 5 rfl)) ?_
      exact gx_Jiret (pc := 10) rfl (fun _ => trivial) (fun _ _ => rfl) (htX0_beat (10, .ireturn, 1) (gx_m 6 rfl))
    | 3, _ => exact Or.inl rfl
  refine gx_Jcv (pc := 2) (gx_hst (as := [gx_i x1]) (b := gx_r 2 (some x0))) (gx_runV (as := [gx_i x1]) (ci := 1) (gx_CtX.un gx_Ov_r (ct_X1_beat Y hT x0 x1)) (by decide) (Or.inl rfl) rfl rfl rfl rfl q1233 q1234 q1235 q101 q1236 rfl dd_X1_beat (by decide) (by decide) (Nat.le_of_ble_eq_true rfl) (htX0_beat (2, .invokevirtual 50, 3) (gx_m 2 rfl))) ?_
  refine gx_goto (pc := 5) (tgt := 14) (by decide) (htX0_beat (5, .goto 9, 3) (gx_m 3 rfl)) ?_
  refine gx_iconst (pc := 14) (v := 0) (by decide) (htX0_beat (14, .iconst 0, 1) (gx_m 10 rfl)) ?_
  exact gx_Jiret (pc := 15) rfl (fun _ => trivial) (fun _ _ => rfl) (htX0_beat (15, .ireturn, 1) (gx_m 11 rfl))
theorem ct_X0_sync (Y : gx_Y) (hT : gx_Tr Y) (x0 : gx_Nm) (x1 : Int32) (x2 : gx_Nm) : gx_Ct Y yX0_sync (wsW_ yX0_sync cX0_sync 4 (some .int) [(0, 9, 12, 45)]) 12 384 [gx_r 2 (some x0), gx_i x1, gx_r 103 (some x2)] gx_Oi (f_X0_sync x0 x1 x2) := by
  refine gx_startW (lv := [(0, gx_r 2 (some x0)), (1, gx_i x1), (2, gx_r 103 (some x2))]) gx_Oi_r pn_X0 (Nat.le_of_ble_eq_true rfl) rfl ?_
  unfold f_X0_sync
  refine gx_aload_n (pc := 0) (n := 2) (i := 2) rfl 2 rfl (htX0_sync (0, .aload_n 2, 1) (gx_m 0 rfl)) ?_
  refine gx_iconst (pc := 1) (v := 0) (by decide) (htX0_sync (1, .iconst 0, 1) (gx_m 1 rfl)) ?_
  refine gx_aload_n (pc := 2) (n := 0) (i := 0) rfl 0 rfl (htX0_sync (2, .aload_n 0, 1) (gx_m 2 rfl)) ?_
  refine gx_iload_n (pc := 3) (n := 1) (i := 1) rfl 1 rfl (htX0_sync (3, .iload_n 1, 1) (gx_m 3 rfl)) ?_
  refine gx_Jcx (pc := 4) rfl (gx_runVT (as := [gx_i x1]) (ci := 1) (ct_X1_sync Y hT x0 x1) (by decide) (Or.inl rfl) rfl rfl rfl rfl q1241 q1242 q1243 q101 q1244 rfl dd_X1_sync (by decide) (by decide) (Nat.le_of_ble_eq_true rfl) (htX0_sync (4, .invokevirtual 53, 3) (gx_m 4 rfl))) (fun kx hk => ?_) ?_
  · match kx, hk with
    | 0, _ => exact Or.inl rfl
    | 1, _ =>
      refine Or.inr ⟨12, by decide +kernel, fun x => ?_⟩
      refine gx_Jeq (f' := gx_rt 1) rfl ?_
      refine gx_astore_nx (pc := 12) (n := 3) (i := 3) (lv' := [(3, gx_x x), (0, gx_r 2 (some x0)), (1, gx_i x1), (2, gx_r 103 (some x2))]) rfl (by decide) rfl (htX0_sync (12, .astore_n 3, 1) (gx_m 8 rfl)) ?_
      refine gx_iconst (pc := 13) (v := 1) (by decide) (htX0_sync (13, .iconst 1, 1) (gx_m 9 rfl)) ?_
      exact gx_Jiret (pc := 14) rfl (fun _ => trivial) (fun _ _ => rfl) (htX0_sync (14, .ireturn, 1) (gx_m 10 rfl))
    | 2, _ => exact Or.inl rfl
    | 3, _ => exact Or.inl rfl
  refine gx_Jci (pc := 4) (gx_hst (as := [gx_i x1]) (b := gx_r 2 (some x0))) (gx_runV (as := [gx_i x1]) (ci := 1) (gx_CtX.un gx_Oi_r (ct_X1_sync Y hT x0 x1)) (by decide) (Or.inl rfl) rfl rfl rfl rfl q1241 q1242 q1243 q101 q1244 rfl dd_X1_sync (by decide) (by decide) (Nat.le_of_ble_eq_true rfl) (htX0_sync (4, .invokevirtual 53, 3) (gx_m 4 rfl))) (fun v1 => ?_)
  refine gx_i2l (pc := 7) (htX0_sync (7, .i2l, 1) (gx_m 5 rfl)) ?_
  refine gx_Jls (pc := 8) (htX0_sync (8, .lastore, 1) (gx_m 6 rfl)) ?_
  refine gx_goto (pc := 9) (tgt := 15) (by decide) (htX0_sync (9, .goto 6, 3) (gx_m 7 rfl)) ?_
  refine gx_iconst (pc := 15) (v := 0) (by decide) (htX0_sync (15, .iconst 0, 1) (gx_m 11 rfl)) ?_
  exact gx_Jiret (pc := 16) rfl (fun _ => trivial) (fun _ _ => rfl) (htX0_sync (16, .ireturn, 1) (gx_m 12 rfl))
theorem ct_X0_crash (Y : gx_Y) (hT : gx_Tr Y) (x0 : gx_Nm) (x1 : Int32) (x2 : Int32) : gx_Ct Y yX0_crash (wsW_ yX0_crash cX0_crash 4 (some .int) [(0, 6, 9, 13), (0, 6, 12, 45)]) 12 386 [gx_r 2 (some x0), gx_i x1, gx_i x2] gx_Oi (f_X0_crash x0 x1 x2) := by
  refine gx_startW (lv := [(0, gx_r 2 (some x0)), (1, gx_i x1), (2, gx_i x2)]) gx_Oi_r pn_X0 (Nat.le_of_ble_eq_true rfl) rfl ?_
  unfold f_X0_crash
  refine gx_aload_n (pc := 0) (n := 0) (i := 0) rfl 0 rfl (htX0_crash (0, .aload_n 0, 1) (gx_m 0 rfl)) ?_
  refine gx_iload_n (pc := 1) (n := 1) (i := 1) rfl 1 rfl (htX0_crash (1, .iload_n 1, 1) (gx_m 1 rfl)) ?_
  refine gx_iload_n (pc := 2) (n := 2) (i := 2) rfl 2 rfl (htX0_crash (2, .iload_n 2, 1) (gx_m 2 rfl)) ?_
  refine gx_Jcx (pc := 3) rfl (gx_runVT (as := [gx_i x1, gx_i x2]) (ci := 1) (ct_X1_crash Y hT x0 x1 x2) (by decide) (Or.inl rfl) rfl rfl rfl rfl q1373 q1374 q1375 q101 q1376 rfl dd_X1_crash (by decide) (by decide) (Nat.le_of_ble_eq_true rfl) (htX0_crash (3, .invokevirtual 56, 3) (gx_m 3 rfl))) (fun kx hk => ?_) ?_
  · match kx, hk with
    | 0, _ =>
      refine Or.inr ⟨9, by decide +kernel, fun x => ?_⟩
      refine gx_Jeq (f' := gx_rt 1) rfl ?_
      refine gx_astore_nx (pc := 9) (n := 3) (i := 3) (lv' := [(3, gx_x x), (0, gx_r 2 (some x0)), (1, gx_i x1), (2, gx_i x2)]) rfl (by decide) rfl (htX0_crash (9, .astore_n 3, 1) (gx_m 5 rfl)) ?_
      refine gx_iconst (pc := 10) (v := 1) (by decide) (htX0_crash (10, .iconst 1, 1) (gx_m 6 rfl)) ?_
      exact gx_Jiret (pc := 11) rfl (fun _ => trivial) (fun _ _ => rfl) (htX0_crash (11, .ireturn, 1) (gx_m 7 rfl))
    | 1, _ =>
      refine Or.inr ⟨12, by decide +kernel, fun x => ?_⟩
      refine gx_Jeq (f' := gx_rt 2) rfl ?_
      refine gx_astore_nx (pc := 12) (n := 3) (i := 3) (lv' := [(3, gx_x x), (0, gx_r 2 (some x0)), (1, gx_i x1), (2, gx_i x2)]) rfl (by decide) rfl (htX0_crash (12, .astore_n 3, 1) (gx_m 8 rfl)) ?_
      refine gx_iconst (pc := 13) (v := 2) (by decide) (htX0_crash (13, .iconst 2, 1) (gx_m 9 rfl)) ?_
      exact gx_Jiret (pc := 14) rfl (fun _ => trivial) (fun _ _ => rfl) (htX0_crash (14, .ireturn, 1) (gx_m 10 rfl))
    | 2, _ => exact Or.inl rfl
    | 3, _ => exact Or.inl rfl
  refine gx_Jcv (pc := 3) (gx_hst (as := [gx_i x1, gx_i x2]) (b := gx_r 2 (some x0))) (gx_runV (as := [gx_i x1, gx_i x2]) (ci := 1) (gx_CtX.un gx_Ov_r (ct_X1_crash Y hT x0 x1 x2)) (by decide) (Or.inl rfl) rfl rfl rfl rfl q1373 q1374 q1375 q101 q1376 rfl dd_X1_crash (by decide) (by decide) (Nat.le_of_ble_eq_true rfl) (htX0_crash (3, .invokevirtual 56, 3) (gx_m 3 rfl))) ?_
  refine gx_goto (pc := 6) (tgt := 15) (by decide) (htX0_crash (6, .goto 9, 3) (gx_m 4 rfl)) ?_
  refine gx_iconst (pc := 15) (v := 0) (by decide) (htX0_crash (15, .iconst 0, 1) (gx_m 11 rfl)) ?_
  exact gx_Jiret (pc := 16) rfl (fun _ => trivial) (fun _ _ => rfl) (htX0_crash (16, .ireturn, 1) (gx_m 12 rfl))
theorem ct_X0_start (Y : gx_Y) (hT : gx_Tr Y) (x0 : gx_Nm) (x1 : Int32) : gx_Ct Y yX0_start (wsW_ yX0_start cX0_start 3 (some .int) [(0, 5, 8, 45)]) 11 363 [gx_r 2 (some x0), gx_i x1] gx_Oi (f_X0_start x0 x1) := by
  refine gx_startW (lv := [(0, gx_r 2 (some x0)), (1, gx_i x1)]) gx_Oi_r pn_X0 (Nat.le_of_ble_eq_true rfl) rfl ?_
  unfold f_X0_start
  refine gx_aload_n (pc := 0) (n := 0) (i := 0) rfl 0 rfl (htX0_start (0, .aload_n 0, 1) (gx_m 0 rfl)) ?_
  refine gx_iload_n (pc := 1) (n := 1) (i := 1) rfl 1 rfl (htX0_start (1, .iload_n 1, 1) (gx_m 1 rfl)) ?_
  refine gx_Jcx (pc := 2) rfl (gx_runVT (as := [gx_i x1]) (ci := 1) (ct_X1_start Y hT x0 x1) (by decide) (Or.inl rfl) rfl rfl rfl rfl q1385 q1386 q1387 q101 q1388 rfl dd_X1_start (by decide) (by decide) (Nat.le_of_ble_eq_true rfl) (htX0_start (2, .invokevirtual 59, 3) (gx_m 2 rfl))) (fun kx hk => ?_) ?_
  · match kx, hk with
    | 0, _ => exact Or.inl rfl
    | 1, _ =>
      refine Or.inr ⟨8, by decide +kernel, fun x => ?_⟩
      refine gx_Jeq (f' := gx_rt 1) rfl ?_
      refine gx_astore_nx (pc := 8) (n := 2) (i := 2) (lv' := [(2, gx_x x), (0, gx_r 2 (some x0)), (1, gx_i x1)]) rfl (by decide) rfl (htX0_start (8, .astore_n 2, 1) (gx_m 4 rfl)) ?_
      refine gx_iconst (pc := 9) (v := 1) (by decide) (htX0_start (9, .iconst 1, 1) (gx_m 5 rfl)) ?_
      exact gx_Jiret (pc := 10) rfl (fun _ => trivial) (fun _ _ => rfl) (htX0_start (10, .ireturn, 1) (gx_m 6 rfl))
    | 2, _ => exact Or.inl rfl
    | 3, _ => exact Or.inl rfl
  refine gx_Jcv (pc := 2) (gx_hst (as := [gx_i x1]) (b := gx_r 2 (some x0))) (gx_runV (as := [gx_i x1]) (ci := 1) (gx_CtX.un gx_Ov_r (ct_X1_start Y hT x0 x1)) (by decide) (Or.inl rfl) rfl rfl rfl rfl q1385 q1386 q1387 q101 q1388 rfl dd_X1_start (by decide) (by decide) (Nat.le_of_ble_eq_true rfl) (htX0_start (2, .invokevirtual 59, 3) (gx_m 2 rfl))) ?_
  refine gx_goto (pc := 5) (tgt := 11) (by decide) (htX0_start (5, .goto 6, 3) (gx_m 3 rfl)) ?_
  refine gx_iconst (pc := 11) (v := 0) (by decide) (htX0_start (11, .iconst 0, 1) (gx_m 7 rfl)) ?_
  exact gx_Jiret (pc := 12) rfl (fun _ => trivial) (fun _ _ => rfl) (htX0_start (12, .ireturn, 1) (gx_m 8 rfl))
theorem ct_X0_deliver (Y : gx_Y) (hT : gx_Tr Y) (x0 : gx_Nm) (x1 : Int32) (x2 : Int32) : gx_Ct Y yX0_deliver (wsW_ yX0_deliver cX0_deliver 4 (some .int) [(0, 6, 9, 45), (0, 6, 12, 19)]) 13 396 [gx_r 2 (some x0), gx_i x1, gx_i x2] gx_Oi (f_X0_deliver x0 x1 x2) := by
  refine gx_startW (lv := [(0, gx_r 2 (some x0)), (1, gx_i x1), (2, gx_i x2)]) gx_Oi_r pn_X0 (Nat.le_of_ble_eq_true rfl) rfl ?_
  unfold f_X0_deliver
  refine gx_aload_n (pc := 0) (n := 0) (i := 0) rfl 0 rfl (htX0_deliver (0, .aload_n 0, 1) (gx_m 0 rfl)) ?_
  refine gx_iload_n (pc := 1) (n := 1) (i := 1) rfl 1 rfl (htX0_deliver (1, .iload_n 1, 1) (gx_m 1 rfl)) ?_
  refine gx_iload_n (pc := 2) (n := 2) (i := 2) rfl 2 rfl (htX0_deliver (2, .iload_n 2, 1) (gx_m 2 rfl)) ?_
  refine gx_Jcx (pc := 3) rfl (gx_runVT (as := [gx_i x1, gx_i x2]) (ci := 1) (ct_X1_deliver Y hT x0 x1 x2) (by decide) (Or.inl rfl) rfl rfl rfl rfl q1393 q1394 q1395 q101 q1396 rfl dd_X1_deliver (by decide) (by decide) (Nat.le_of_ble_eq_true rfl) (htX0_deliver (3, .invokevirtual 62, 3) (gx_m 3 rfl))) (fun kx hk => ?_) ?_
  · match kx, hk with
    | 0, _ => exact Or.inl rfl
    | 1, _ =>
      refine Or.inr ⟨9, by decide +kernel, fun x => ?_⟩
      refine gx_Jeq (f' := gx_rt 1) rfl ?_
      refine gx_astore_nx (pc := 9) (n := 3) (i := 3) (lv' := [(3, gx_x x), (0, gx_r 2 (some x0)), (1, gx_i x1), (2, gx_i x2)]) rfl (by decide) rfl (htX0_deliver (9, .astore_n 3, 1) (gx_m 5 rfl)) ?_
      refine gx_iconst (pc := 10) (v := 1) (by decide) (htX0_deliver (10, .iconst 1, 1) (gx_m 6 rfl)) ?_
      exact gx_Jiret (pc := 11) rfl (fun _ => trivial) (fun _ _ => rfl) (htX0_deliver (11, .ireturn, 1) (gx_m 7 rfl))
    | 2, _ => exact Or.inl rfl
    | 3, _ =>
      refine Or.inr ⟨12, by decide +kernel, fun x => ?_⟩
      refine gx_Jeq (f' := gx_rt 2) rfl ?_
      refine gx_astore_nx (pc := 12) (n := 3) (i := 3) (lv' := [(3, gx_x x), (0, gx_r 2 (some x0)), (1, gx_i x1), (2, gx_i x2)]) rfl (by decide) rfl (htX0_deliver (12, .astore_n 3, 1) (gx_m 8 rfl)) ?_
      refine gx_iconst (pc := 13) (v := 2) (by decide) (htX0_deliver (13, .iconst 2, 1) (gx_m 9 rfl)) ?_
      exact gx_Jiret (pc := 14) rfl (fun _ => trivial) (fun _ _ => rfl) (htX0_deliver (14, .ireturn, 1) (gx_m 10 rfl))
  refine gx_Jcv (pc := 3) (gx_hst (as := [gx_i x1, gx_i x2]) (b := gx_r 2 (some x0))) (gx_runV (as := [gx_i x1, gx_i x2]) (ci := 1) (gx_CtX.un gx_Ov_r (ct_X1_deliver Y hT x0 x1 x2)) (by decide) (Or.inl rfl) rfl rfl rfl rfl q1393 q1394 q1395 q101 q1396 rfl dd_X1_deliver (by decide) (by decide) (Nat.le_of_ble_eq_true rfl) (htX0_deliver (3, .invokevirtual 62, 3) (gx_m 3 rfl))) ?_
  refine gx_goto (pc := 6) (tgt := 15) (by decide) (htX0_deliver (6, .goto 9, 3) (gx_m 4 rfl)) ?_
  refine gx_iconst (pc := 15) (v := 0) (by decide) (htX0_deliver (15, .iconst 0, 1) (gx_m 11 rfl)) ?_
  exact gx_Jiret (pc := 16) rfl (fun _ => trivial) (fun _ _ => rfl) (htX0_deliver (16, .ireturn, 1) (gx_m 12 rfl))
theorem ct_X0_lose (Y : gx_Y) (hT : gx_Tr Y) (x0 : gx_Nm) (x1 : Int32) : gx_Ct Y yX0_lose (wsW_ yX0_lose cX0_lose 3 (some .int) [(0, 5, 8, 45)]) 10 341 [gx_r 2 (some x0), gx_i x1] gx_Oi (f_X0_lose x0 x1) := by
  refine gx_startW (lv := [(0, gx_r 2 (some x0)), (1, gx_i x1)]) gx_Oi_r pn_X0 (Nat.le_of_ble_eq_true rfl) rfl ?_
  unfold f_X0_lose
  refine gx_aload_n (pc := 0) (n := 0) (i := 0) rfl 0 rfl (htX0_lose (0, .aload_n 0, 1) (gx_m 0 rfl)) ?_
  refine gx_iload_n (pc := 1) (n := 1) (i := 1) rfl 1 rfl (htX0_lose (1, .iload_n 1, 1) (gx_m 1 rfl)) ?_
  refine gx_Jcx (pc := 2) rfl (gx_runVT (as := [gx_i x1]) (ci := 1) (ct_X1_lose Y hT x0 x1) (by decide) (Or.inl rfl) rfl rfl rfl rfl q1464 q1465 q1466 q101 q1467 rfl dd_X1_lose (by decide) (by decide) (Nat.le_of_ble_eq_true rfl) (htX0_lose (2, .invokevirtual 66, 3) (gx_m 2 rfl))) (fun kx hk => ?_) ?_
  · match kx, hk with
    | 0, _ => exact Or.inl rfl
    | 1, _ =>
      refine Or.inr ⟨8, by decide +kernel, fun x => ?_⟩
      refine gx_Jeq (f' := gx_rt 1) rfl ?_
      refine gx_astore_nx (pc := 8) (n := 2) (i := 2) (lv' := [(2, gx_x x), (0, gx_r 2 (some x0)), (1, gx_i x1)]) rfl (by decide) rfl (htX0_lose (8, .astore_n 2, 1) (gx_m 4 rfl)) ?_
      refine gx_iconst (pc := 9) (v := 1) (by decide) (htX0_lose (9, .iconst 1, 1) (gx_m 5 rfl)) ?_
      exact gx_Jiret (pc := 10) rfl (fun _ => trivial) (fun _ _ => rfl) (htX0_lose (10, .ireturn, 1) (gx_m 6 rfl))
    | 2, _ => exact Or.inl rfl
    | 3, _ => exact Or.inl rfl
  refine gx_Jcv (pc := 2) (gx_hst (as := [gx_i x1]) (b := gx_r 2 (some x0))) (gx_runV (as := [gx_i x1]) (ci := 1) (gx_CtX.un gx_Ov_r (ct_X1_lose Y hT x0 x1)) (by decide) (Or.inl rfl) rfl rfl rfl rfl q1464 q1465 q1466 q101 q1467 rfl dd_X1_lose (by decide) (by decide) (Nat.le_of_ble_eq_true rfl) (htX0_lose (2, .invokevirtual 66, 3) (gx_m 2 rfl))) ?_
  refine gx_goto (pc := 5) (tgt := 11) (by decide) (htX0_lose (5, .goto 6, 3) (gx_m 3 rfl)) ?_
  refine gx_iconst (pc := 11) (v := 0) (by decide) (htX0_lose (11, .iconst 0, 1) (gx_m 7 rfl)) ?_
  exact gx_Jiret (pc := 12) rfl (fun _ => trivial) (fun _ _ => rfl) (htX0_lose (12, .ireturn, 1) (gx_m 8 rfl))
theorem ct_X0_snapshot (Y : gx_Y) (hT : gx_Tr Y) (x0 : gx_Nm) (x1 : Int32) (x2 : gx_Nm) : gx_Ct Y yX0_snapshot (wsW_ yX0_snapshot cX0_snapshot 4 (some .int) [(0, 9, 12, 43), (0, 9, 15, 45)]) 12 385 [gx_r 2 (some x0), gx_i x1, gx_r 103 (some x2)] gx_Oi (f_X0_snapshot x0 x1 x2) := by
  refine gx_startW (lv := [(0, gx_r 2 (some x0)), (1, gx_i x1), (2, gx_r 103 (some x2))]) gx_Oi_r pn_X0 (Nat.le_of_ble_eq_true rfl) rfl ?_
  unfold f_X0_snapshot
  refine gx_aload_n (pc := 0) (n := 2) (i := 2) rfl 2 rfl (htX0_snapshot (0, .aload_n 2, 1) (gx_m 0 rfl)) ?_
  refine gx_iconst (pc := 1) (v := 0) (by decide) (htX0_snapshot (1, .iconst 0, 1) (gx_m 1 rfl)) ?_
  refine gx_aload_n (pc := 2) (n := 0) (i := 0) rfl 0 rfl (htX0_snapshot (2, .aload_n 0, 1) (gx_m 2 rfl)) ?_
  refine gx_iload_n (pc := 3) (n := 1) (i := 1) rfl 1 rfl (htX0_snapshot (3, .iload_n 1, 1) (gx_m 3 rfl)) ?_
  refine gx_Jcx (pc := 4) rfl (gx_runVT (as := [gx_i x1]) (ci := 1) (ct_X1_snapshot Y hT x0 x1) (by decide) (Or.inl rfl) rfl rfl rfl rfl q1471 q1472 q1473 q101 q1474 rfl dd_X1_snapshot (by decide) (by decide) (Nat.le_of_ble_eq_true rfl) (htX0_snapshot (4, .invokevirtual 69, 3) (gx_m 4 rfl))) (fun kx hk => ?_) ?_
  · match kx, hk with
    | 0, _ => exact Or.inl rfl
    | 1, _ =>
      refine Or.inr ⟨15, by decide +kernel, fun x => ?_⟩
      refine gx_Jeq (f' := gx_rt 2) rfl ?_
      refine gx_astore_nx (pc := 15) (n := 3) (i := 3) (lv' := [(3, gx_x x), (0, gx_r 2 (some x0)), (1, gx_i x1), (2, gx_r 103 (some x2))]) rfl (by decide) rfl (htX0_snapshot (15, .astore_n 3, 1) (gx_m 11 rfl)) ?_
      refine gx_iconst (pc := 16) (v := 2) (by decide) (htX0_snapshot (16, .iconst 2, 1) (gx_m 12 rfl)) ?_
      exact gx_Jiret (pc := 17) rfl (fun _ => trivial) (fun _ _ => rfl) (htX0_snapshot (17, .ireturn, 1) (gx_m 13 rfl))
    | 2, _ =>
      refine Or.inr ⟨12, by decide +kernel, fun x => ?_⟩
      refine gx_Jeq (f' := gx_rt 1) rfl ?_
      refine gx_astore_nx (pc := 12) (n := 3) (i := 3) (lv' := [(3, gx_x x), (0, gx_r 2 (some x0)), (1, gx_i x1), (2, gx_r 103 (some x2))]) rfl (by decide) rfl (htX0_snapshot (12, .astore_n 3, 1) (gx_m 8 rfl)) ?_
      refine gx_iconst (pc := 13) (v := 1) (by decide) (htX0_snapshot (13, .iconst 1, 1) (gx_m 9 rfl)) ?_
      exact gx_Jiret (pc := 14) rfl (fun _ => trivial) (fun _ _ => rfl) (htX0_snapshot (14, .ireturn, 1) (gx_m 10 rfl))
    | 3, _ => exact Or.inl rfl
  refine gx_Jci (pc := 4) (gx_hst (as := [gx_i x1]) (b := gx_r 2 (some x0))) (gx_runV (as := [gx_i x1]) (ci := 1) (gx_CtX.un gx_Oi_r (ct_X1_snapshot Y hT x0 x1)) (by decide) (Or.inl rfl) rfl rfl rfl rfl q1471 q1472 q1473 q101 q1474 rfl dd_X1_snapshot (by decide) (by decide) (Nat.le_of_ble_eq_true rfl) (htX0_snapshot (4, .invokevirtual 69, 3) (gx_m 4 rfl))) (fun v1 => ?_)
  refine gx_i2l (pc := 7) (htX0_snapshot (7, .i2l, 1) (gx_m 5 rfl)) ?_
  refine gx_Jls (pc := 8) (htX0_snapshot (8, .lastore, 1) (gx_m 6 rfl)) ?_
  refine gx_goto (pc := 9) (tgt := 18) (by decide) (htX0_snapshot (9, .goto 9, 3) (gx_m 7 rfl)) ?_
  refine gx_iconst (pc := 18) (v := 0) (by decide) (htX0_snapshot (18, .iconst 0, 1) (gx_m 14 rfl)) ?_
  exact gx_Jiret (pc := 19) rfl (fun _ => trivial) (fun _ _ => rfl) (htX0_snapshot (19, .ireturn, 1) (gx_m 15 rfl))
theorem ct_X0_read (Y : gx_Y) (hT : gx_Tr Y) (x0 : gx_Nm) (x1 : Int32) (x2 : gx_Nm) : gx_Ct Y yX0_read (wsW_ yX0_read cX0_read 4 (some .int) [(0, 9, 12, 13), (0, 9, 15, 43), (0, 9, 18, 45), (0, 9, 21, 19)]) 12 387 [gx_r 2 (some x0), gx_i x1, gx_r 103 (some x2)] gx_Oi (f_X0_read x0 x1 x2) := by
  refine gx_startW (lv := [(0, gx_r 2 (some x0)), (1, gx_i x1), (2, gx_r 103 (some x2))]) gx_Oi_r pn_X0 (Nat.le_of_ble_eq_true rfl) rfl ?_
  unfold f_X0_read
  refine gx_aload_n (pc := 0) (n := 2) (i := 2) rfl 2 rfl (htX0_read (0, .aload_n 2, 1) (gx_m 0 rfl)) ?_
  refine gx_iconst (pc := 1) (v := 0) (by decide) (htX0_read (1, .iconst 0, 1) (gx_m 1 rfl)) ?_
  refine gx_aload_n (pc := 2) (n := 0) (i := 0) rfl 0 rfl (htX0_read (2, .aload_n 0, 1) (gx_m 2 rfl)) ?_
  refine gx_iload_n (pc := 3) (n := 1) (i := 1) rfl 1 rfl (htX0_read (3, .iload_n 1, 1) (gx_m 3 rfl)) ?_
  refine gx_Jcx (pc := 4) rfl (gx_runVT (as := [gx_i x1]) (ci := 1) (ct_X1_read Y hT x0 x1) (by decide) (Or.inl rfl) rfl rfl rfl rfl q1482 q1483 q1484 q101 q1485 rfl dd_X1_read (by decide) (by decide) (Nat.le_of_ble_eq_true rfl) (htX0_read (4, .invokevirtual 72, 3) (gx_m 4 rfl))) (fun kx hk => ?_) ?_
  · match kx, hk with
    | 0, _ =>
      refine Or.inr ⟨12, by decide +kernel, fun x => ?_⟩
      refine gx_Jeq (f' := gx_rt 1) rfl ?_
      refine gx_astore_nx (pc := 12) (n := 3) (i := 3) (lv' := [(3, gx_x x), (0, gx_r 2 (some x0)), (1, gx_i x1), (2, gx_r 103 (some x2))]) rfl (by decide) rfl (htX0_read (12, .astore_n 3, 1) (gx_m 8 rfl)) ?_
      refine gx_iconst (pc := 13) (v := 1) (by decide) (htX0_read (13, .iconst 1, 1) (gx_m 9 rfl)) ?_
      exact gx_Jiret (pc := 14) rfl (fun _ => trivial) (fun _ _ => rfl) (htX0_read (14, .ireturn, 1) (gx_m 10 rfl))
    | 1, _ =>
      refine Or.inr ⟨18, by decide +kernel, fun x => ?_⟩
      refine gx_Jeq (f' := gx_rt 3) rfl ?_
      refine gx_astore_nx (pc := 18) (n := 3) (i := 3) (lv' := [(3, gx_x x), (0, gx_r 2 (some x0)), (1, gx_i x1), (2, gx_r 103 (some x2))]) rfl (by decide) rfl (htX0_read (18, .astore_n 3, 1) (gx_m 14 rfl)) ?_
      refine gx_iconst (pc := 19) (v := 3) (by decide) (htX0_read (19, .iconst 3, 1) (gx_m 15 rfl)) ?_
      exact gx_Jiret (pc := 20) rfl (fun _ => trivial) (fun _ _ => rfl) (htX0_read (20, .ireturn, 1) (gx_m 16 rfl))
    | 2, _ =>
      refine Or.inr ⟨15, by decide +kernel, fun x => ?_⟩
      refine gx_Jeq (f' := gx_rt 2) rfl ?_
      refine gx_astore_nx (pc := 15) (n := 3) (i := 3) (lv' := [(3, gx_x x), (0, gx_r 2 (some x0)), (1, gx_i x1), (2, gx_r 103 (some x2))]) rfl (by decide) rfl (htX0_read (15, .astore_n 3, 1) (gx_m 11 rfl)) ?_
      refine gx_iconst (pc := 16) (v := 2) (by decide) (htX0_read (16, .iconst 2, 1) (gx_m 12 rfl)) ?_
      exact gx_Jiret (pc := 17) rfl (fun _ => trivial) (fun _ _ => rfl) (htX0_read (17, .ireturn, 1) (gx_m 13 rfl))
    | 3, _ =>
      refine Or.inr ⟨21, by decide +kernel, fun x => ?_⟩
      refine gx_Jeq (f' := gx_rt 4) rfl ?_
      refine gx_astore_nx (pc := 21) (n := 3) (i := 3) (lv' := [(3, gx_x x), (0, gx_r 2 (some x0)), (1, gx_i x1), (2, gx_r 103 (some x2))]) rfl (by decide) rfl (htX0_read (21, .astore_n 3, 1) (gx_m 17 rfl)) ?_
      refine gx_iconst (pc := 22) (v := 4) (by decide) (htX0_read (22, .iconst 4, 1) (gx_m 18 rfl)) ?_
      exact gx_Jiret (pc := 23) rfl (fun _ => trivial) (fun _ _ => rfl) (htX0_read (23, .ireturn, 1) (gx_m 19 rfl))
  refine gx_Jci (pc := 4) (gx_hst (as := [gx_i x1]) (b := gx_r 2 (some x0))) (gx_runV (as := [gx_i x1]) (ci := 1) (gx_CtX.un gx_Oi_r (ct_X1_read Y hT x0 x1)) (by decide) (Or.inl rfl) rfl rfl rfl rfl q1482 q1483 q1484 q101 q1485 rfl dd_X1_read (by decide) (by decide) (Nat.le_of_ble_eq_true rfl) (htX0_read (4, .invokevirtual 72, 3) (gx_m 4 rfl))) (fun v1 => ?_)
  refine gx_i2l (pc := 7) (htX0_read (7, .i2l, 1) (gx_m 5 rfl)) ?_
  refine gx_Jls (pc := 8) (htX0_read (8, .lastore, 1) (gx_m 6 rfl)) ?_
  refine gx_goto (pc := 9) (tgt := 24) (by decide) (htX0_read (9, .goto 15, 3) (gx_m 7 rfl)) ?_
  refine gx_iconst (pc := 24) (v := 0) (by decide) (htX0_read (24, .iconst 0, 1) (gx_m 20 rfl)) ?_
  exact gx_Jiret (pc := 25) rfl (fun _ => trivial) (fun _ _ => rfl) (htX0_read (25, .ireturn, 1) (gx_m 21 rfl))
theorem ct_X0_answer (Y : gx_Y) (hT : gx_Tr Y) (x0 : gx_Nm) (x1 : Int32) (x2 : Int32) (x3 : Int32) (x4 : gx_Nm) : gx_Ct Y yX0_answer (wsW_ yX0_answer cX0_answer 6 (some .int) [(0, 12, 15, 13), (0, 12, 19, 45)]) 12 387 [gx_r 2 (some x0), gx_i x1, gx_i x2, gx_i x3, gx_r 103 (some x4)] gx_Oi (f_X0_answer x0 x1 x2 x3 x4) := by
  refine gx_startW (lv := [(0, gx_r 2 (some x0)), (1, gx_i x1), (2, gx_i x2), (3, gx_i x3), (4, gx_r 103 (some x4))]) gx_Oi_r pn_X0 (Nat.le_of_ble_eq_true rfl) rfl ?_
  unfold f_X0_answer
  refine gx_aload (pc := 0) (i := 4) 4 rfl (htX0_answer (0, .aload 4, 2) (gx_m 0 rfl)) ?_
  refine gx_iconst (pc := 2) (v := 0) (by decide) (htX0_answer (2, .iconst 0, 1) (gx_m 1 rfl)) ?_
  refine gx_aload_n (pc := 3) (n := 0) (i := 0) rfl 0 rfl (htX0_answer (3, .aload_n 0, 1) (gx_m 2 rfl)) ?_
  refine gx_iload_n (pc := 4) (n := 1) (i := 1) rfl 1 rfl (htX0_answer (4, .iload_n 1, 1) (gx_m 3 rfl)) ?_
  refine gx_iload_n (pc := 5) (n := 2) (i := 2) rfl 2 rfl (htX0_answer (5, .iload_n 2, 1) (gx_m 4 rfl)) ?_
  refine gx_iload_n (pc := 6) (n := 3) (i := 3) rfl 3 rfl (htX0_answer (6, .iload_n 3, 1) (gx_m 5 rfl)) ?_
  refine gx_Jcx (pc := 7) rfl (gx_runVT (as := [gx_i x1, gx_i x2, gx_i x3]) (ci := 1) (ct_X1_answer Y hT x0 x1 x2 x3) (by decide) (Or.inl rfl) rfl rfl rfl rfl q1530 q1531 q1532 q101 q1533 rfl dd_X1_answer (by decide) (by decide) (Nat.le_of_ble_eq_true rfl) (htX0_answer (7, .invokevirtual 75, 3) (gx_m 6 rfl))) (fun kx hk => ?_) ?_
  · match kx, hk with
    | 0, _ =>
      refine Or.inr ⟨15, by decide +kernel, fun x => ?_⟩
      refine gx_Jeq (f' := gx_rt 1) rfl ?_
      refine gx_astorex (pc := 15) (i := 5) (lv' := [(5, gx_x x), (0, gx_r 2 (some x0)), (1, gx_i x1), (2, gx_i x2), (3, gx_i x3), (4, gx_r 103 (some x4))]) (by decide) rfl (htX0_answer (15, .astore 5, 2) (gx_m 10 rfl)) ?_
      refine gx_iconst (pc := 17) (v := 1) (by decide) (htX0_answer (17, .iconst 1, 1) (gx_m 11 rfl)) ?_
      exact gx_Jiret (pc := 18) rfl (fun _ => trivial) (fun _ _ => rfl) (htX0_answer (18, .ireturn, 1) (gx_m 12 rfl))
    | 1, _ =>
      refine Or.inr ⟨19, by decide +kernel, fun x => ?_⟩
      refine gx_Jeq (f' := gx_rt 2) rfl ?_
      refine gx_astorex (pc := 19) (i := 5) (lv' := [(5, gx_x x), (0, gx_r 2 (some x0)), (1, gx_i x1), (2, gx_i x2), (3, gx_i x3), (4, gx_r 103 (some x4))]) (by decide) rfl (htX0_answer (19, .astore 5, 2) (gx_m 13 rfl)) ?_
      refine gx_iconst (pc := 21) (v := 2) (by decide) (htX0_answer (21, .iconst 2, 1) (gx_m 14 rfl)) ?_
      exact gx_Jiret (pc := 22) rfl (fun _ => trivial) (fun _ _ => rfl) (htX0_answer (22, .ireturn, 1) (gx_m 15 rfl))
    | 2, _ => exact Or.inl rfl
    | 3, _ => exact Or.inl rfl
  refine gx_Jci (pc := 7) (gx_hst (as := [gx_i x1, gx_i x2, gx_i x3]) (b := gx_r 2 (some x0))) (gx_runV (as := [gx_i x1, gx_i x2, gx_i x3]) (ci := 1) (gx_CtX.un gx_Oi_r (ct_X1_answer Y hT x0 x1 x2 x3)) (by decide) (Or.inl rfl) rfl rfl rfl rfl q1530 q1531 q1532 q101 q1533 rfl dd_X1_answer (by decide) (by decide) (Nat.le_of_ble_eq_true rfl) (htX0_answer (7, .invokevirtual 75, 3) (gx_m 6 rfl))) (fun v1 => ?_)
  refine gx_i2l (pc := 10) (htX0_answer (10, .i2l, 1) (gx_m 7 rfl)) ?_
  refine gx_Jls (pc := 11) (htX0_answer (11, .lastore, 1) (gx_m 8 rfl)) ?_
  refine gx_goto (pc := 12) (tgt := 23) (by decide) (htX0_answer (12, .goto 11, 3) (gx_m 9 rfl)) ?_
  refine gx_iconst (pc := 23) (v := 0) (by decide) (htX0_answer (23, .iconst 0, 1) (gx_m 16 rfl)) ?_
  exact gx_Jiret (pc := 24) rfl (fun _ => trivial) (fun _ _ => rfl) (htX0_answer (24, .ireturn, 1) (gx_m 17 rfl))
theorem ct_X0_pair (Y : gx_Y) (hT : gx_Tr Y) (x0 : gx_Nm) (x1 : Int32) (x2 : Int32) (x3 : Int32) (x4 : gx_Nm) : gx_Ct Y yX0_pair (wsW_ yX0_pair cX0_pair 6 (some .int) [(0, 12, 15, 13), (0, 12, 19, 43), (0, 12, 23, 45)]) 12 390 [gx_r 2 (some x0), gx_i x1, gx_i x2, gx_i x3, gx_r 103 (some x4)] gx_Oi (f_X0_pair x0 x1 x2 x3 x4) := by
  refine gx_startW (lv := [(0, gx_r 2 (some x0)), (1, gx_i x1), (2, gx_i x2), (3, gx_i x3), (4, gx_r 103 (some x4))]) gx_Oi_r pn_X0 (Nat.le_of_ble_eq_true rfl) rfl ?_
  unfold f_X0_pair
  refine gx_aload (pc := 0) (i := 4) 4 rfl (htX0_pair (0, .aload 4, 2) (gx_m 0 rfl)) ?_
  refine gx_iconst (pc := 2) (v := 0) (by decide) (htX0_pair (2, .iconst 0, 1) (gx_m 1 rfl)) ?_
  refine gx_aload_n (pc := 3) (n := 0) (i := 0) rfl 0 rfl (htX0_pair (3, .aload_n 0, 1) (gx_m 2 rfl)) ?_
  refine gx_iload_n (pc := 4) (n := 1) (i := 1) rfl 1 rfl (htX0_pair (4, .iload_n 1, 1) (gx_m 3 rfl)) ?_
  refine gx_iload_n (pc := 5) (n := 2) (i := 2) rfl 2 rfl (htX0_pair (5, .iload_n 2, 1) (gx_m 4 rfl)) ?_
  refine gx_iload_n (pc := 6) (n := 3) (i := 3) rfl 3 rfl (htX0_pair (6, .iload_n 3, 1) (gx_m 5 rfl)) ?_
  refine gx_Jcx (pc := 7) rfl (gx_runVT (as := [gx_i x1, gx_i x2, gx_i x3]) (ci := 1) (ct_X1_pair Y hT x0 x1 x2 x3) (by decide) (Or.inl rfl) rfl rfl rfl rfl q1545 q1546 q1547 q101 q1548 rfl dd_X1_pair (by decide) (by decide) (Nat.le_of_ble_eq_true rfl) (htX0_pair (7, .invokevirtual 79, 3) (gx_m 6 rfl))) (fun kx hk => ?_) ?_
  · match kx, hk with
    | 0, _ =>
      refine Or.inr ⟨15, by decide +kernel, fun x => ?_⟩
      refine gx_Jeq (f' := gx_rt 1) rfl ?_
      refine gx_astorex (pc := 15) (i := 5) (lv' := [(5, gx_x x), (0, gx_r 2 (some x0)), (1, gx_i x1), (2, gx_i x2), (3, gx_i x3), (4, gx_r 103 (some x4))]) (by decide) rfl (htX0_pair (15, .astore 5, 2) (gx_m 10 rfl)) ?_
      refine gx_iconst (pc := 17) (v := 1) (by decide) (htX0_pair (17, .iconst 1, 1) (gx_m 11 rfl)) ?_
      exact gx_Jiret (pc := 18) rfl (fun _ => trivial) (fun _ _ => rfl) (htX0_pair (18, .ireturn, 1) (gx_m 12 rfl))
    | 1, _ =>
      refine Or.inr ⟨23, by decide +kernel, fun x => ?_⟩
      refine gx_Jeq (f' := gx_rt 3) rfl ?_
      refine gx_astorex (pc := 23) (i := 5) (lv' := [(5, gx_x x), (0, gx_r 2 (some x0)), (1, gx_i x1), (2, gx_i x2), (3, gx_i x3), (4, gx_r 103 (some x4))]) (by decide) rfl (htX0_pair (23, .astore 5, 2) (gx_m 16 rfl)) ?_
      refine gx_iconst (pc := 25) (v := 3) (by decide) (htX0_pair (25, .iconst 3, 1) (gx_m 17 rfl)) ?_
      exact gx_Jiret (pc := 26) rfl (fun _ => trivial) (fun _ _ => rfl) (htX0_pair (26, .ireturn, 1) (gx_m 18 rfl))
    | 2, _ =>
      refine Or.inr ⟨19, by decide +kernel, fun x => ?_⟩
      refine gx_Jeq (f' := gx_rt 2) rfl ?_
      refine gx_astorex (pc := 19) (i := 5) (lv' := [(5, gx_x x), (0, gx_r 2 (some x0)), (1, gx_i x1), (2, gx_i x2), (3, gx_i x3), (4, gx_r 103 (some x4))]) (by decide) rfl (htX0_pair (19, .astore 5, 2) (gx_m 13 rfl)) ?_
      refine gx_iconst (pc := 21) (v := 2) (by decide) (htX0_pair (21, .iconst 2, 1) (gx_m 14 rfl)) ?_
      exact gx_Jiret (pc := 22) rfl (fun _ => trivial) (fun _ _ => rfl) (htX0_pair (22, .ireturn, 1) (gx_m 15 rfl))
    | 3, _ => exact Or.inl rfl
  refine gx_Jci (pc := 7) (gx_hst (as := [gx_i x1, gx_i x2, gx_i x3]) (b := gx_r 2 (some x0))) (gx_runV (as := [gx_i x1, gx_i x2, gx_i x3]) (ci := 1) (gx_CtX.un gx_Oi_r (ct_X1_pair Y hT x0 x1 x2 x3)) (by decide) (Or.inl rfl) rfl rfl rfl rfl q1545 q1546 q1547 q101 q1548 rfl dd_X1_pair (by decide) (by decide) (Nat.le_of_ble_eq_true rfl) (htX0_pair (7, .invokevirtual 79, 3) (gx_m 6 rfl))) (fun v1 => ?_)
  refine gx_i2l (pc := 10) (htX0_pair (10, .i2l, 1) (gx_m 7 rfl)) ?_
  refine gx_Jls (pc := 11) (htX0_pair (11, .lastore, 1) (gx_m 8 rfl)) ?_
  refine gx_goto (pc := 12) (tgt := 27) (by decide) (htX0_pair (12, .goto 15, 3) (gx_m 9 rfl)) ?_
  refine gx_iconst (pc := 27) (v := 0) (by decide) (htX0_pair (27, .iconst 0, 1) (gx_m 19 rfl)) ?_
  exact gx_Jiret (pc := 28) rfl (fun _ => trivial) (fun _ _ => rfl) (htX0_pair (28, .ireturn, 1) (gx_m 20 rfl))
theorem ct_X0_range (Y : gx_Y) (hT : gx_Tr Y) (x0 : gx_Nm) (x1 : Int32) (x2 : Int32) (x3 : Int32) (x4 : Int32) (x5 : Int32) (x6 : gx_Nm) : gx_Ct Y yX0_range (wsW_ yX0_range cX0_range 8 (some .int) [(0, 16, 19, 13), (0, 16, 23, 43), (0, 16, 27, 45)]) 12 393 [gx_r 2 (some x0), gx_i x1, gx_i x2, gx_i x3, gx_i x4, gx_i x5, gx_r 103 (some x6)] gx_Oi (f_X0_range x0 x1 x2 x3 x4 x5 x6) := by
  refine gx_startW (lv := [(0, gx_r 2 (some x0)), (1, gx_i x1), (2, gx_i x2), (3, gx_i x3), (4, gx_i x4), (5, gx_i x5), (6, gx_r 103 (some x6))]) gx_Oi_r pn_X0 (Nat.le_of_ble_eq_true rfl) rfl ?_
  unfold f_X0_range
  refine gx_aload (pc := 0) (i := 6) 6 rfl (htX0_range (0, .aload 6, 2) (gx_m 0 rfl)) ?_
  refine gx_iconst (pc := 2) (v := 0) (by decide) (htX0_range (2, .iconst 0, 1) (gx_m 1 rfl)) ?_
  refine gx_aload_n (pc := 3) (n := 0) (i := 0) rfl 0 rfl (htX0_range (3, .aload_n 0, 1) (gx_m 2 rfl)) ?_
  refine gx_iload_n (pc := 4) (n := 1) (i := 1) rfl 1 rfl (htX0_range (4, .iload_n 1, 1) (gx_m 3 rfl)) ?_
  refine gx_iload_n (pc := 5) (n := 2) (i := 2) rfl 2 rfl (htX0_range (5, .iload_n 2, 1) (gx_m 4 rfl)) ?_
  refine gx_iload_n (pc := 6) (n := 3) (i := 3) rfl 3 rfl (htX0_range (6, .iload_n 3, 1) (gx_m 5 rfl)) ?_
  refine gx_iload (pc := 7) (i := 4) 4 rfl (htX0_range (7, .iload 4, 2) (gx_m 6 rfl)) ?_
  refine gx_iload (pc := 9) (i := 5) 5 rfl (htX0_range (9, .iload 5, 2) (gx_m 7 rfl)) ?_
  refine gx_Jcx (pc := 11) rfl (gx_runVT (as := [gx_i x1, gx_i x2, gx_i x3, gx_i x4, gx_i x5]) (ci := 1) (ct_X1_range Y hT x0 x1 x2 x3 x4 x5) (by decide) (Or.inl rfl) rfl rfl rfl rfl q1566 q1567 q1568 q101 q1569 rfl dd_X1_range (by decide) (by decide) (Nat.le_of_ble_eq_true rfl) (htX0_range (11, .invokevirtual 82, 3) (gx_m 8 rfl))) (fun kx hk => ?_) ?_
  · match kx, hk with
    | 0, _ =>
      refine Or.inr ⟨19, by decide +kernel, fun x => ?_⟩
      refine gx_Jeq (f' := gx_rt 1) rfl ?_
      refine gx_astorex (pc := 19) (i := 7) (lv' := [(7, gx_x x), (0, gx_r 2 (some x0)), (1, gx_i x1), (2, gx_i x2), (3, gx_i x3), (4, gx_i x4), (5, gx_i x5), (6, gx_r 103 (some x6))]) (by decide) rfl (htX0_range (19, .astore 7, 2) (gx_m 12 rfl)) ?_
      refine gx_iconst (pc := 21) (v := 1) (by decide) (htX0_range (21, .iconst 1, 1) (gx_m 13 rfl)) ?_
      exact gx_Jiret (pc := 22) rfl (fun _ => trivial) (fun _ _ => rfl) (htX0_range (22, .ireturn, 1) (gx_m 14 rfl))
    | 1, _ =>
      refine Or.inr ⟨27, by decide +kernel, fun x => ?_⟩
      refine gx_Jeq (f' := gx_rt 3) rfl ?_
      refine gx_astorex (pc := 27) (i := 7) (lv' := [(7, gx_x x), (0, gx_r 2 (some x0)), (1, gx_i x1), (2, gx_i x2), (3, gx_i x3), (4, gx_i x4), (5, gx_i x5), (6, gx_r 103 (some x6))]) (by decide) rfl (htX0_range (27, .astore 7, 2) (gx_m 18 rfl)) ?_
      refine gx_iconst (pc := 29) (v := 3) (by decide) (htX0_range (29, .iconst 3, 1) (gx_m 19 rfl)) ?_
      exact gx_Jiret (pc := 30) rfl (fun _ => trivial) (fun _ _ => rfl) (htX0_range (30, .ireturn, 1) (gx_m 20 rfl))
    | 2, _ =>
      refine Or.inr ⟨23, by decide +kernel, fun x => ?_⟩
      refine gx_Jeq (f' := gx_rt 2) rfl ?_
      refine gx_astorex (pc := 23) (i := 7) (lv' := [(7, gx_x x), (0, gx_r 2 (some x0)), (1, gx_i x1), (2, gx_i x2), (3, gx_i x3), (4, gx_i x4), (5, gx_i x5), (6, gx_r 103 (some x6))]) (by decide) rfl (htX0_range (23, .astore 7, 2) (gx_m 15 rfl)) ?_
      refine gx_iconst (pc := 25) (v := 2) (by decide) (htX0_range (25, .iconst 2, 1) (gx_m 16 rfl)) ?_
      exact gx_Jiret (pc := 26) rfl (fun _ => trivial) (fun _ _ => rfl) (htX0_range (26, .ireturn, 1) (gx_m 17 rfl))
    | 3, _ => exact Or.inl rfl
  refine gx_Jci (pc := 11) (gx_hst (as := [gx_i x1, gx_i x2, gx_i x3, gx_i x4, gx_i x5]) (b := gx_r 2 (some x0))) (gx_runV (as := [gx_i x1, gx_i x2, gx_i x3, gx_i x4, gx_i x5]) (ci := 1) (gx_CtX.un gx_Oi_r (ct_X1_range Y hT x0 x1 x2 x3 x4 x5)) (by decide) (Or.inl rfl) rfl rfl rfl rfl q1566 q1567 q1568 q101 q1569 rfl dd_X1_range (by decide) (by decide) (Nat.le_of_ble_eq_true rfl) (htX0_range (11, .invokevirtual 82, 3) (gx_m 8 rfl))) (fun v1 => ?_)
  refine gx_i2l (pc := 14) (htX0_range (14, .i2l, 1) (gx_m 9 rfl)) ?_
  refine gx_Jls (pc := 15) (htX0_range (15, .lastore, 1) (gx_m 10 rfl)) ?_
  refine gx_goto (pc := 16) (tgt := 31) (by decide) (htX0_range (16, .goto 15, 3) (gx_m 11 rfl)) ?_
  refine gx_iconst (pc := 31) (v := 0) (by decide) (htX0_range (31, .iconst 0, 1) (gx_m 21 rfl)) ?_
  exact gx_Jiret (pc := 32) rfl (fun _ => trivial) (fun _ _ => rfl) (htX0_range (32, .ireturn, 1) (gx_m 22 rfl))
theorem ct_X0_event (Y : gx_Y) (hT : gx_Tr Y) (x0 : gx_Nm) (x1 : Int32) (x2 : Int32) (x3 : Int32) (x4 : Int32) (x5 : Int32) (x6 : gx_Nm) : gx_Ct Y yX0_event (wsW_ yX0_event cX0_event 8 (some .int) [(0, 16, 19, 13), (0, 16, 23, 43), (0, 16, 27, 45)]) 12 391 [gx_r 2 (some x0), gx_i x1, gx_i x2, gx_i x3, gx_i x4, gx_i x5, gx_r 103 (some x6)] gx_Oi (f_X0_event x0 x1 x2 x3 x4 x5 x6) := by
  refine gx_startW (lv := [(0, gx_r 2 (some x0)), (1, gx_i x1), (2, gx_i x2), (3, gx_i x3), (4, gx_i x4), (5, gx_i x5), (6, gx_r 103 (some x6))]) gx_Oi_r pn_X0 (Nat.le_of_ble_eq_true rfl) rfl ?_
  unfold f_X0_event
  refine gx_aload (pc := 0) (i := 6) 6 rfl (htX0_event (0, .aload 6, 2) (gx_m 0 rfl)) ?_
  refine gx_iconst (pc := 2) (v := 0) (by decide) (htX0_event (2, .iconst 0, 1) (gx_m 1 rfl)) ?_
  refine gx_aload_n (pc := 3) (n := 0) (i := 0) rfl 0 rfl (htX0_event (3, .aload_n 0, 1) (gx_m 2 rfl)) ?_
  refine gx_iload_n (pc := 4) (n := 1) (i := 1) rfl 1 rfl (htX0_event (4, .iload_n 1, 1) (gx_m 3 rfl)) ?_
  refine gx_iload_n (pc := 5) (n := 2) (i := 2) rfl 2 rfl (htX0_event (5, .iload_n 2, 1) (gx_m 4 rfl)) ?_
  refine gx_iload_n (pc := 6) (n := 3) (i := 3) rfl 3 rfl (htX0_event (6, .iload_n 3, 1) (gx_m 5 rfl)) ?_
  refine gx_iload (pc := 7) (i := 4) 4 rfl (htX0_event (7, .iload 4, 2) (gx_m 6 rfl)) ?_
  refine gx_iload (pc := 9) (i := 5) 5 rfl (htX0_event (9, .iload 5, 2) (gx_m 7 rfl)) ?_
  refine gx_Jcx (pc := 11) rfl (gx_runVT (as := [gx_i x1, gx_i x2, gx_i x3, gx_i x4, gx_i x5]) (ci := 1) (ct_X1_event Y hT x0 x1 x2 x3 x4 x5) (by decide) (Or.inl rfl) rfl rfl rfl rfl q1580 q1581 q1582 q101 q1583 rfl dd_X1_event (by decide) (by decide) (Nat.le_of_ble_eq_true rfl) (htX0_event (11, .invokevirtual 85, 3) (gx_m 8 rfl))) (fun kx hk => ?_) ?_
  · match kx, hk with
    | 0, _ =>
      refine Or.inr ⟨19, by decide +kernel, fun x => ?_⟩
      refine gx_Jeq (f' := gx_rt 1) rfl ?_
      refine gx_astorex (pc := 19) (i := 7) (lv' := [(7, gx_x x), (0, gx_r 2 (some x0)), (1, gx_i x1), (2, gx_i x2), (3, gx_i x3), (4, gx_i x4), (5, gx_i x5), (6, gx_r 103 (some x6))]) (by decide) rfl (htX0_event (19, .astore 7, 2) (gx_m 12 rfl)) ?_
      refine gx_iconst (pc := 21) (v := 1) (by decide) (htX0_event (21, .iconst 1, 1) (gx_m 13 rfl)) ?_
      exact gx_Jiret (pc := 22) rfl (fun _ => trivial) (fun _ _ => rfl) (htX0_event (22, .ireturn, 1) (gx_m 14 rfl))
    | 1, _ =>
      refine Or.inr ⟨27, by decide +kernel, fun x => ?_⟩
      refine gx_Jeq (f' := gx_rt 3) rfl ?_
      refine gx_astorex (pc := 27) (i := 7) (lv' := [(7, gx_x x), (0, gx_r 2 (some x0)), (1, gx_i x1), (2, gx_i x2), (3, gx_i x3), (4, gx_i x4), (5, gx_i x5), (6, gx_r 103 (some x6))]) (by decide) rfl (htX0_event (27, .astore 7, 2) (gx_m 18 rfl)) ?_
      refine gx_iconst (pc := 29) (v := 3) (by decide) (htX0_event (29, .iconst 3, 1) (gx_m 19 rfl)) ?_
      exact gx_Jiret (pc := 30) rfl (fun _ => trivial) (fun _ _ => rfl) (htX0_event (30, .ireturn, 1) (gx_m 20 rfl))
    | 2, _ =>
      refine Or.inr ⟨23, by decide +kernel, fun x => ?_⟩
      refine gx_Jeq (f' := gx_rt 2) rfl ?_
      refine gx_astorex (pc := 23) (i := 7) (lv' := [(7, gx_x x), (0, gx_r 2 (some x0)), (1, gx_i x1), (2, gx_i x2), (3, gx_i x3), (4, gx_i x4), (5, gx_i x5), (6, gx_r 103 (some x6))]) (by decide) rfl (htX0_event (23, .astore 7, 2) (gx_m 15 rfl)) ?_
      refine gx_iconst (pc := 25) (v := 2) (by decide) (htX0_event (25, .iconst 2, 1) (gx_m 16 rfl)) ?_
      exact gx_Jiret (pc := 26) rfl (fun _ => trivial) (fun _ _ => rfl) (htX0_event (26, .ireturn, 1) (gx_m 17 rfl))
    | 3, _ => exact Or.inl rfl
  refine gx_Jci (pc := 11) (gx_hst (as := [gx_i x1, gx_i x2, gx_i x3, gx_i x4, gx_i x5]) (b := gx_r 2 (some x0))) (gx_runV (as := [gx_i x1, gx_i x2, gx_i x3, gx_i x4, gx_i x5]) (ci := 1) (gx_CtX.un gx_Oi_r (ct_X1_event Y hT x0 x1 x2 x3 x4 x5)) (by decide) (Or.inl rfl) rfl rfl rfl rfl q1580 q1581 q1582 q101 q1583 rfl dd_X1_event (by decide) (by decide) (Nat.le_of_ble_eq_true rfl) (htX0_event (11, .invokevirtual 85, 3) (gx_m 8 rfl))) (fun v1 => ?_)
  refine gx_i2l (pc := 14) (htX0_event (14, .i2l, 1) (gx_m 9 rfl)) ?_
  refine gx_Jls (pc := 15) (htX0_event (15, .lastore, 1) (gx_m 10 rfl)) ?_
  refine gx_goto (pc := 16) (tgt := 31) (by decide) (htX0_event (16, .goto 15, 3) (gx_m 11 rfl)) ?_
  refine gx_iconst (pc := 31) (v := 0) (by decide) (htX0_event (31, .iconst 0, 1) (gx_m 21 rfl)) ?_
  exact gx_Jiret (pc := 32) rfl (fun _ => trivial) (fun _ _ => rfl) (htX0_event (32, .ireturn, 1) (gx_m 22 rfl))
theorem ct_X0_compact (Y : gx_Y) (hT : gx_Tr Y) (x0 : gx_Nm) (x1 : Int32) (x2 : Int32) : gx_Ct Y yX0_compact (wsW_ yX0_compact cX0_compact 4 (some .int) [(0, 6, 9, 43), (0, 6, 12, 45)]) 12 386 [gx_r 2 (some x0), gx_i x1, gx_i x2] gx_Oi (f_X0_compact x0 x1 x2) := by
  refine gx_startW (lv := [(0, gx_r 2 (some x0)), (1, gx_i x1), (2, gx_i x2)]) gx_Oi_r pn_X0 (Nat.le_of_ble_eq_true rfl) rfl ?_
  unfold f_X0_compact
  refine gx_aload_n (pc := 0) (n := 0) (i := 0) rfl 0 rfl (htX0_compact (0, .aload_n 0, 1) (gx_m 0 rfl)) ?_
  refine gx_iload_n (pc := 1) (n := 1) (i := 1) rfl 1 rfl (htX0_compact (1, .iload_n 1, 1) (gx_m 1 rfl)) ?_
  refine gx_iload_n (pc := 2) (n := 2) (i := 2) rfl 2 rfl (htX0_compact (2, .iload_n 2, 1) (gx_m 2 rfl)) ?_
  refine gx_Jcx (pc := 3) rfl (gx_runVT (as := [gx_i x1, gx_i x2]) (ci := 1) (ct_X1_compact Y hT x0 x1 x2) (by decide) (Or.inl rfl) rfl rfl rfl rfl q1600 q1601 q1602 q101 q1603 rfl dd_X1_compact (by decide) (by decide) (Nat.le_of_ble_eq_true rfl) (htX0_compact (3, .invokevirtual 88, 3) (gx_m 3 rfl))) (fun kx hk => ?_) ?_
  · match kx, hk with
    | 0, _ => exact Or.inl rfl
    | 1, _ =>
      refine Or.inr ⟨12, by decide +kernel, fun x => ?_⟩
      refine gx_Jeq (f' := gx_rt 2) rfl ?_
      refine gx_astore_nx (pc := 12) (n := 3) (i := 3) (lv' := [(3, gx_x x), (0, gx_r 2 (some x0)), (1, gx_i x1), (2, gx_i x2)]) rfl (by decide) rfl (htX0_compact (12, .astore_n 3, 1) (gx_m 8 rfl)) ?_
      refine gx_iconst (pc := 13) (v := 2) (by decide) (htX0_compact (13, .iconst 2, 1) (gx_m 9 rfl)) ?_
      exact gx_Jiret (pc := 14) rfl (fun _ => trivial) (fun _ _ => rfl) (htX0_compact (14, .ireturn, 1) (gx_m 10 rfl))
    | 2, _ =>
      refine Or.inr ⟨9, by decide +kernel, fun x => ?_⟩
      refine gx_Jeq (f' := gx_rt 1) rfl ?_
      refine gx_astore_nx (pc := 9) (n := 3) (i := 3) (lv' := [(3, gx_x x), (0, gx_r 2 (some x0)), (1, gx_i x1), (2, gx_i x2)]) rfl (by decide) rfl (htX0_compact (9, .astore_n 3, 1) (gx_m 5 rfl)) ?_
      refine gx_iconst (pc := 10) (v := 1) (by decide) (htX0_compact (10, .iconst 1, 1) (gx_m 6 rfl)) ?_
      exact gx_Jiret (pc := 11) rfl (fun _ => trivial) (fun _ _ => rfl) (htX0_compact (11, .ireturn, 1) (gx_m 7 rfl))
    | 3, _ => exact Or.inl rfl
  refine gx_Jcv (pc := 3) (gx_hst (as := [gx_i x1, gx_i x2]) (b := gx_r 2 (some x0))) (gx_runV (as := [gx_i x1, gx_i x2]) (ci := 1) (gx_CtX.un gx_Ov_r (ct_X1_compact Y hT x0 x1 x2)) (by decide) (Or.inl rfl) rfl rfl rfl rfl q1600 q1601 q1602 q101 q1603 rfl dd_X1_compact (by decide) (by decide) (Nat.le_of_ble_eq_true rfl) (htX0_compact (3, .invokevirtual 88, 3) (gx_m 3 rfl))) ?_
  refine gx_goto (pc := 6) (tgt := 15) (by decide) (htX0_compact (6, .goto 9, 3) (gx_m 4 rfl)) ?_
  refine gx_iconst (pc := 15) (v := 0) (by decide) (htX0_compact (15, .iconst 0, 1) (gx_m 11 rfl)) ?_
  exact gx_Jiret (pc := 16) rfl (fun _ => trivial) (fun _ _ => rfl) (htX0_compact (16, .ireturn, 1) (gx_m 12 rfl))
theorem ct_X0_outcome (Y : gx_Y) (hT : gx_Tr Y) (x0 : gx_Nm) (x1 : Int32) (x2 : Int32) (x3 : Int32) (x4 : gx_Nm) : gx_Ct Y yX0_outcome (wsW_ yX0_outcome cX0_outcome 6 (some .int) [(0, 12, 15, 13), (0, 12, 19, 45)]) 12 387 [gx_r 2 (some x0), gx_i x1, gx_i x2, gx_i x3, gx_r 103 (some x4)] gx_Oi (f_X0_outcome x0 x1 x2 x3 x4) := by
  refine gx_startW (lv := [(0, gx_r 2 (some x0)), (1, gx_i x1), (2, gx_i x2), (3, gx_i x3), (4, gx_r 103 (some x4))]) gx_Oi_r pn_X0 (Nat.le_of_ble_eq_true rfl) rfl ?_
  unfold f_X0_outcome
  refine gx_aload (pc := 0) (i := 4) 4 rfl (htX0_outcome (0, .aload 4, 2) (gx_m 0 rfl)) ?_
  refine gx_iconst (pc := 2) (v := 0) (by decide) (htX0_outcome (2, .iconst 0, 1) (gx_m 1 rfl)) ?_
  refine gx_aload_n (pc := 3) (n := 0) (i := 0) rfl 0 rfl (htX0_outcome (3, .aload_n 0, 1) (gx_m 2 rfl)) ?_
  refine gx_iload_n (pc := 4) (n := 1) (i := 1) rfl 1 rfl (htX0_outcome (4, .iload_n 1, 1) (gx_m 3 rfl)) ?_
  refine gx_iload_n (pc := 5) (n := 2) (i := 2) rfl 2 rfl (htX0_outcome (5, .iload_n 2, 1) (gx_m 4 rfl)) ?_
  refine gx_iload_n (pc := 6) (n := 3) (i := 3) rfl 3 rfl (htX0_outcome (6, .iload_n 3, 1) (gx_m 5 rfl)) ?_
  refine gx_Jcx (pc := 7) rfl (gx_runVT (as := [gx_i x1, gx_i x2, gx_i x3]) (ci := 1) (ct_X1_outcome Y hT x0 x1 x2 x3) (by decide) (Or.inl rfl) rfl rfl rfl rfl q1611 q1612 q1613 q101 q1614 rfl dd_X1_outcome (by decide) (by decide) (Nat.le_of_ble_eq_true rfl) (htX0_outcome (7, .invokevirtual 91, 3) (gx_m 6 rfl))) (fun kx hk => ?_) ?_
  · match kx, hk with
    | 0, _ =>
      refine Or.inr ⟨15, by decide +kernel, fun x => ?_⟩
      refine gx_Jeq (f' := gx_rt 1) rfl ?_
      refine gx_astorex (pc := 15) (i := 5) (lv' := [(5, gx_x x), (0, gx_r 2 (some x0)), (1, gx_i x1), (2, gx_i x2), (3, gx_i x3), (4, gx_r 103 (some x4))]) (by decide) rfl (htX0_outcome (15, .astore 5, 2) (gx_m 10 rfl)) ?_
      refine gx_iconst (pc := 17) (v := 1) (by decide) (htX0_outcome (17, .iconst 1, 1) (gx_m 11 rfl)) ?_
      exact gx_Jiret (pc := 18) rfl (fun _ => trivial) (fun _ _ => rfl) (htX0_outcome (18, .ireturn, 1) (gx_m 12 rfl))
    | 1, _ =>
      refine Or.inr ⟨19, by decide +kernel, fun x => ?_⟩
      refine gx_Jeq (f' := gx_rt 2) rfl ?_
      refine gx_astorex (pc := 19) (i := 5) (lv' := [(5, gx_x x), (0, gx_r 2 (some x0)), (1, gx_i x1), (2, gx_i x2), (3, gx_i x3), (4, gx_r 103 (some x4))]) (by decide) rfl (htX0_outcome (19, .astore 5, 2) (gx_m 13 rfl)) ?_
      refine gx_iconst (pc := 21) (v := 2) (by decide) (htX0_outcome (21, .iconst 2, 1) (gx_m 14 rfl)) ?_
      exact gx_Jiret (pc := 22) rfl (fun _ => trivial) (fun _ _ => rfl) (htX0_outcome (22, .ireturn, 1) (gx_m 15 rfl))
    | 2, _ => exact Or.inl rfl
    | 3, _ => exact Or.inl rfl
  refine gx_Jci (pc := 7) (gx_hst (as := [gx_i x1, gx_i x2, gx_i x3]) (b := gx_r 2 (some x0))) (gx_runV (as := [gx_i x1, gx_i x2, gx_i x3]) (ci := 1) (gx_CtX.un gx_Oi_r (ct_X1_outcome Y hT x0 x1 x2 x3)) (by decide) (Or.inl rfl) rfl rfl rfl rfl q1611 q1612 q1613 q101 q1614 rfl dd_X1_outcome (by decide) (by decide) (Nat.le_of_ble_eq_true rfl) (htX0_outcome (7, .invokevirtual 91, 3) (gx_m 6 rfl))) (fun v1 => ?_)
  refine gx_i2l (pc := 10) (htX0_outcome (10, .i2l, 1) (gx_m 7 rfl)) ?_
  refine gx_Jls (pc := 11) (htX0_outcome (11, .lastore, 1) (gx_m 8 rfl)) ?_
  refine gx_goto (pc := 12) (tgt := 23) (by decide) (htX0_outcome (12, .goto 11, 3) (gx_m 9 rfl)) ?_
  refine gx_iconst (pc := 23) (v := 0) (by decide) (htX0_outcome (23, .iconst 0, 1) (gx_m 16 rfl)) ?_
  exact gx_Jiret (pc := 24) rfl (fun _ => trivial) (fun _ _ => rfl) (htX0_outcome (24, .ireturn, 1) (gx_m 17 rfl))
theorem ct_X0_message (Y : gx_Y) (hT : gx_Tr Y) (x0 : gx_Nm) (x1 : Int32) (x2 : Int32) (x3 : gx_Nm) : gx_Ct Y yX0_message (wsW_ yX0_message cX0_message 5 (some .int) [(0, 10, 13, 13), (0, 10, 17, 45)]) 10 343 [gx_r 2 (some x0), gx_i x1, gx_i x2, gx_r 103 (some x3)] gx_Oi (f_X0_message x0 x1 x2 x3) := by
  refine gx_startW (lv := [(0, gx_r 2 (some x0)), (1, gx_i x1), (2, gx_i x2), (3, gx_r 103 (some x3))]) gx_Oi_r pn_X0 (Nat.le_of_ble_eq_true rfl) rfl ?_
  unfold f_X0_message
  refine gx_aload_n (pc := 0) (n := 3) (i := 3) rfl 3 rfl (htX0_message (0, .aload_n 3, 1) (gx_m 0 rfl)) ?_
  refine gx_iconst (pc := 1) (v := 0) (by decide) (htX0_message (1, .iconst 0, 1) (gx_m 1 rfl)) ?_
  refine gx_aload_n (pc := 2) (n := 0) (i := 0) rfl 0 rfl (htX0_message (2, .aload_n 0, 1) (gx_m 2 rfl)) ?_
  refine gx_iload_n (pc := 3) (n := 1) (i := 1) rfl 1 rfl (htX0_message (3, .iload_n 1, 1) (gx_m 3 rfl)) ?_
  refine gx_iload_n (pc := 4) (n := 2) (i := 2) rfl 2 rfl (htX0_message (4, .iload_n 2, 1) (gx_m 4 rfl)) ?_
  refine gx_Jcx (pc := 5) rfl (gx_runVT (as := [gx_i x1, gx_i x2]) (ci := 1) (ct_X1_message Y hT x0 x1 x2) (by decide) (Or.inl rfl) rfl rfl rfl rfl q1630 q1631 q1632 q101 q1633 rfl dd_X1_message (by decide) (by decide) (Nat.le_of_ble_eq_true rfl) (htX0_message (5, .invokevirtual 94, 3) (gx_m 5 rfl))) (fun kx hk => ?_) ?_
  · match kx, hk with
    | 0, _ =>
      refine Or.inr ⟨13, by decide +kernel, fun x => ?_⟩
      refine gx_Jeq (f' := gx_rt 1) rfl ?_
      refine gx_astorex (pc := 13) (i := 4) (lv' := [(4, gx_x x), (0, gx_r 2 (some x0)), (1, gx_i x1), (2, gx_i x2), (3, gx_r 103 (some x3))]) (by decide) rfl (htX0_message (13, .astore 4, 2) (gx_m 9 rfl)) ?_
      refine gx_iconst (pc := 15) (v := 1) (by decide) (htX0_message (15, .iconst 1, 1) (gx_m 10 rfl)) ?_
      exact gx_Jiret (pc := 16) rfl (fun _ => trivial) (fun _ _ => rfl) (htX0_message (16, .ireturn, 1) (gx_m 11 rfl))
    | 1, _ =>
      refine Or.inr ⟨17, by decide +kernel, fun x => ?_⟩
      refine gx_Jeq (f' := gx_rt 2) rfl ?_
      refine gx_astorex (pc := 17) (i := 4) (lv' := [(4, gx_x x), (0, gx_r 2 (some x0)), (1, gx_i x1), (2, gx_i x2), (3, gx_r 103 (some x3))]) (by decide) rfl (htX0_message (17, .astore 4, 2) (gx_m 12 rfl)) ?_
      refine gx_iconst (pc := 19) (v := 2) (by decide) (htX0_message (19, .iconst 2, 1) (gx_m 13 rfl)) ?_
      exact gx_Jiret (pc := 20) rfl (fun _ => trivial) (fun _ _ => rfl) (htX0_message (20, .ireturn, 1) (gx_m 14 rfl))
    | 2, _ => exact Or.inl rfl
    | 3, _ => exact Or.inl rfl
  refine gx_Jci (pc := 5) (gx_hst (as := [gx_i x1, gx_i x2]) (b := gx_r 2 (some x0))) (gx_runV (as := [gx_i x1, gx_i x2]) (ci := 1) (gx_CtX.un gx_Oi_r (ct_X1_message Y hT x0 x1 x2)) (by decide) (Or.inl rfl) rfl rfl rfl rfl q1630 q1631 q1632 q101 q1633 rfl dd_X1_message (by decide) (by decide) (Nat.le_of_ble_eq_true rfl) (htX0_message (5, .invokevirtual 94, 3) (gx_m 5 rfl))) (fun v1 => ?_)
  refine gx_i2l (pc := 8) (htX0_message (8, .i2l, 1) (gx_m 6 rfl)) ?_
  refine gx_Jls (pc := 9) (htX0_message (9, .lastore, 1) (gx_m 7 rfl)) ?_
  refine gx_goto (pc := 10) (tgt := 21) (by decide) (htX0_message (10, .goto 11, 3) (gx_m 8 rfl)) ?_
  refine gx_iconst (pc := 21) (v := 0) (by decide) (htX0_message (21, .iconst 0, 1) (gx_m 15 rfl)) ?_
  exact gx_Jiret (pc := 22) rfl (fun _ => trivial) (fun _ _ => rfl) (htX0_message (22, .ireturn, 1) (gx_m 16 rfl))
theorem ct_X0_told (Y : gx_Y) (hT : gx_Tr Y) (x0 : gx_Nm) (x1 : Int32) (x2 : Int32) (x3 : gx_Nm) : gx_Ct Y yX0_told (wsW_ yX0_told cX0_told 5 (some .int) [(0, 10, 13, 13), (0, 10, 17, 45)]) 11 365 [gx_r 2 (some x0), gx_i x1, gx_i x2, gx_r 103 (some x3)] gx_Oi (f_X0_told x0 x1 x2 x3) := by
  refine gx_startW (lv := [(0, gx_r 2 (some x0)), (1, gx_i x1), (2, gx_i x2), (3, gx_r 103 (some x3))]) gx_Oi_r pn_X0 (Nat.le_of_ble_eq_true rfl) rfl ?_
  unfold f_X0_told
  refine gx_aload_n (pc := 0) (n := 3) (i := 3) rfl 3 rfl (htX0_told (0, .aload_n 3, 1) (gx_m 0 rfl)) ?_
  refine gx_iconst (pc := 1) (v := 0) (by decide) (htX0_told (1, .iconst 0, 1) (gx_m 1 rfl)) ?_
  refine gx_aload_n (pc := 2) (n := 0) (i := 0) rfl 0 rfl (htX0_told (2, .aload_n 0, 1) (gx_m 2 rfl)) ?_
  refine gx_iload_n (pc := 3) (n := 1) (i := 1) rfl 1 rfl (htX0_told (3, .iload_n 1, 1) (gx_m 3 rfl)) ?_
  refine gx_iload_n (pc := 4) (n := 2) (i := 2) rfl 2 rfl (htX0_told (4, .iload_n 2, 1) (gx_m 4 rfl)) ?_
  refine gx_Jcx (pc := 5) rfl (gx_runVT (as := [gx_i x1, gx_i x2]) (ci := 1) (ct_X1_told Y hT x0 x1 x2) (by decide) (Or.inl rfl) rfl rfl rfl rfl q1637 q1638 q1639 q101 q1640 rfl dd_X1_told (by decide) (by decide) (Nat.le_of_ble_eq_true rfl) (htX0_told (5, .invokevirtual 98, 3) (gx_m 5 rfl))) (fun kx hk => ?_) ?_
  · match kx, hk with
    | 0, _ =>
      refine Or.inr ⟨13, by decide +kernel, fun x => ?_⟩
      refine gx_Jeq (f' := gx_rt 1) rfl ?_
      refine gx_astorex (pc := 13) (i := 4) (lv' := [(4, gx_x x), (0, gx_r 2 (some x0)), (1, gx_i x1), (2, gx_i x2), (3, gx_r 103 (some x3))]) (by decide) rfl (htX0_told (13, .astore 4, 2) (gx_m 9 rfl)) ?_
      refine gx_iconst (pc := 15) (v := 1) (by decide) (htX0_told (15, .iconst 1, 1) (gx_m 10 rfl)) ?_
      exact gx_Jiret (pc := 16) rfl (fun _ => trivial) (fun _ _ => rfl) (htX0_told (16, .ireturn, 1) (gx_m 11 rfl))
    | 1, _ =>
      refine Or.inr ⟨17, by decide +kernel, fun x => ?_⟩
      refine gx_Jeq (f' := gx_rt 2) rfl ?_
      refine gx_astorex (pc := 17) (i := 4) (lv' := [(4, gx_x x), (0, gx_r 2 (some x0)), (1, gx_i x1), (2, gx_i x2), (3, gx_r 103 (some x3))]) (by decide) rfl (htX0_told (17, .astore 4, 2) (gx_m 12 rfl)) ?_
      refine gx_iconst (pc := 19) (v := 2) (by decide) (htX0_told (19, .iconst 2, 1) (gx_m 13 rfl)) ?_
      exact gx_Jiret (pc := 20) rfl (fun _ => trivial) (fun _ _ => rfl) (htX0_told (20, .ireturn, 1) (gx_m 14 rfl))
    | 2, _ => exact Or.inl rfl
    | 3, _ => exact Or.inl rfl
  refine gx_Jci (pc := 5) (gx_hst (as := [gx_i x1, gx_i x2]) (b := gx_r 2 (some x0))) (gx_runV (as := [gx_i x1, gx_i x2]) (ci := 1) (gx_CtX.un gx_Oi_r (ct_X1_told Y hT x0 x1 x2)) (by decide) (Or.inl rfl) rfl rfl rfl rfl q1637 q1638 q1639 q101 q1640 rfl dd_X1_told (by decide) (by decide) (Nat.le_of_ble_eq_true rfl) (htX0_told (5, .invokevirtual 98, 3) (gx_m 5 rfl))) (fun v1 => ?_)
  refine gx_i2l (pc := 8) (htX0_told (8, .i2l, 1) (gx_m 6 rfl)) ?_
  refine gx_Jls (pc := 9) (htX0_told (9, .lastore, 1) (gx_m 7 rfl)) ?_
  refine gx_goto (pc := 10) (tgt := 21) (by decide) (htX0_told (10, .goto 11, 3) (gx_m 8 rfl)) ?_
  refine gx_iconst (pc := 21) (v := 0) (by decide) (htX0_told (21, .iconst 0, 1) (gx_m 15 rfl)) ?_
  exact gx_Jiret (pc := 22) rfl (fun _ => trivial) (fun _ _ => rfl) (htX0_told (22, .ireturn, 1) (gx_m 16 rfl))
